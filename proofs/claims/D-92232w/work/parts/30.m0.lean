theorem sw_out {x : Int32} (lo hi : Int) (hlh : -2147483648 ≤ lo ∧ hi ≤ 2147483647) (h : ∀ v : Int, lo ≤ v ∧ v ≤ hi → ¬ x.toInt = v) : x.toInt < lo ∨ hi < x.toInt := by
  rcases Int.lt_or_le x.toInt lo with a | a
  · exact Or.inl a
  · rcases Int.lt_or_le hi x.toInt with b | b
    · exact Or.inr b
    · exact absurd rfl (h x.toInt ⟨a, b⟩)
theorem sw_ne {x k : Int32} {v : Int} (h : ¬ x = k) (hk : k.toInt = v) : ¬ x.toInt = v := fun q => h (Int32.toInt_inj.mp (by rw [hk]; exact q))

theorem sw_no9 {x : Int32} (c0 : ¬ x = 0) (c1 : ¬ x = 1) (c2 : ¬ x = 2) (c3 : ¬ x = 3) (c4 : ¬ x = 4) (c5 : ¬ x = 5) (c6 : ¬ x = 6) (c7 : ¬ x = 7) (c8 : ¬ x = 8) : ∀ v : Int, 0 ≤ v ∧ v ≤ 8 → ¬ x.toInt = v := by
  intro v hv
  have hh : v = 0 ∨ v = 1 ∨ v = 2 ∨ v = 3 ∨ v = 4 ∨ v = 5 ∨ v = 6 ∨ v = 7 ∨ v = 8 := by omega
  rcases hh with rfl | rfl | rfl | rfl | rfl | rfl | rfl | rfl | rfl
  · exact sw_ne c0 (by decide)
  · exact sw_ne c1 (by decide)
  · exact sw_ne c2 (by decide)
  · exact sw_ne c3 (by decide)
  · exact sw_ne c4 (by decide)
  · exact sw_ne c5 (by decide)
  · exact sw_ne c6 (by decide)
  · exact sw_ne c7 (by decide)
  · exact sw_ne c8 (by decide)

/-! in -/
def wm_in (Q : Int32 → MS → Prop) (J : MS) (x0 : Int64) (x2 : Int64) (x4 : Int64) : Prop :=
  (if (lg_cmp x0 x2) < 0 then Q (0 : Int32) J else (if 0 < (lg_cmp x0 x4) then Q (0 : Int32) J else Q (1 : Int32) J))
theorem hd_in : yX3_in.cls = RX3 ∧ yX3_in.cls ≠ "java/lang/invoke/MethodHandle" ∧ yX3_in.cls ≠ "java/lang/invoke/VarHandle" ∧ (parseMethodDescriptor yX3_in.desc).map (fun d => d.parameters.length) = some 3 := by decide +kernel
set_option maxHeartbeats 4000000 in
set_option maxRecDepth 100000 in
theorem bm_in (E : ME) (C : Cx) (Q : Int32 → MS → Prop) (J : MS) (x0 : Int64) (x2 : Int64) (x4 : Int64) (hC : COk C cX3_in RX3 (some .boolean) 1 16 6) (hM : MOk E C) (hQ : cx_Q C = MQ (cx_b C) (va_Qi Q (BM E) (mA E)) (cx_a C) (cx_s C) (cx_MC C) (cx_MS C) (mA E)) (h : wm_in Q J x0 x2 x4) : GM E C J 0 [some (.long x0), none, some (.long x2), none, some (.long x4), none] [] := by
  refine g_lload_n hC dX3_in_0 rfl ?_
  refine g_lload_n hC dX3_in_1 rfl ?_
  refine g_lcmp hC dX3_in_2 ?_
  refine g_if_lt (tgt := 17) hC dX3_in_3 (by decide) (fun c => ?_) (fun c => ?_)
  · have h := it_p c h
    refine g_iconst (v := 0) hC dX3_in_17 (by decide) ?_
    refine gM_zret hC hM hQ rfl rfl dX3_in_18 h
  · have h := it_n c h
    refine g_lload_n hC dX3_in_6 rfl ?_
    refine g_lload hC dX3_in_7 rfl ?_
    refine g_lcmp hC dX3_in_9 ?_
    refine g_if_gt (tgt := 17) hC dX3_in_10 (by decide) (fun c => ?_) (fun c => ?_)
    · have h := it_p c h
      refine g_iconst (v := 0) hC dX3_in_17 (by decide) ?_
      refine gM_zret hC hM hQ rfl rfl dX3_in_18 h
    · have h := it_n c h
      refine g_iconst (v := 1) hC dX3_in_13 (by decide) ?_
      refine g_goto (tgt := 18) hC dX3_in_14 (by decide) ?_
      refine gM_zret hC hM hQ rfl rfl dX3_in_18 h
theorem mm_in (l : Launch) (E : ME) (hI : mInj E) (Q : Int32 → MS → Prop) (J : MS) (x0 : Int64) (x2 : Int64) (x4 : Int64) (h : wm_in Q J x0 x2 x4) : MMet E l yX3_in cX3_in 6 (some .boolean) ({ frames := 1, cells := 0, slots := 0, locals := 16 }) [.long x0, .long x2, .long x4] J (va_Qi Q (BM E) (mA E)) :=
  MMet_of hI (by decide) rfl (Nat.le_of_ble_eq_true rfl) (L0 := [some (.long x0), none, some (.long x2), none, some (.long x4), none]) rfl (fun C hC hM hl hQ => bm_in E C Q J x0 x2 x4 hC hM hQ h)
/-! isSheet -/
def wm_isSheet (Q : Int32 → MS → Prop) (J : MS) (x0 : Int32) : Prop :=
  wm_in (fun r2 J1 => narrow .boolean (.int r2) = .int r2 ∧ Q r2 J1) J (Int32.toInt64 x0) (0 : Int64) (7 : Int64)
theorem hd_isSheet : yX3_isSheet.cls = RX3 ∧ yX3_isSheet.cls ≠ "java/lang/invoke/MethodHandle" ∧ yX3_isSheet.cls ≠ "java/lang/invoke/VarHandle" ∧ (parseMethodDescriptor yX3_isSheet.desc).map (fun d => d.parameters.length) = some 1 := by decide +kernel
set_option maxHeartbeats 4000000 in
set_option maxRecDepth 100000 in
theorem bm_isSheet (E : ME) (C : Cx) (Q : Int32 → MS → Prop) (J : MS) (x0 : Int32) (hC : COk C cX3_isSheet RX3 (some .boolean) 2 41 1) (hM : MOk E C) (hQ : cx_Q C = MQ (cx_b C) (va_Qi Q (BM E) (mA E)) (cx_a C) (cx_s C) (cx_MC C) (cx_MS C) (mA E)) (h : wm_isSheet Q J x0) : GM E C J 0 [some (.int x0)] [] := by
  refine g_iload_n hC dX3_isSheet_0 rfl ?_
  refine g_i2l hC dX3_isSheet_1 ?_
  refine g_lconst (v := 0) hC dX3_isSheet_2 (by decide) ?_
  refine g_ldc2 (v := 7) hC dX3_isSheet_3 q1674 ?_
  refine gM_Si (As := [.long (Int32.toInt64 x0), .long (0 : Int64), .long (7 : Int64)]) (rest := []) hC hM (mm_in (cx_l C) E hM.2.1 _ _ _ _ _ h) (lw_S q1675 q1676 q76 q1677) hd_in rfl rfl (Nat.le_of_ble_eq_true rfl) ⟨Nat.le_of_ble_eq_true rfl, Nat.le_of_ble_eq_true rfl⟩ dX3_isSheet_6 ?_
  intro r2 J1 h
  refine gM_zret hC hM hQ rfl h.1 dX3_isSheet_9 h.2
theorem mm_isSheet (l : Launch) (E : ME) (hI : mInj E) (Q : Int32 → MS → Prop) (J : MS) (x0 : Int32) (h : wm_isSheet Q J x0) : MMet E l yX3_isSheet cX3_isSheet 1 (some .boolean) ({ frames := 2, cells := 0, slots := 0, locals := 41 }) [.int x0] J (va_Qi Q (BM E) (mA E)) :=
  MMet_of hI (by decide) rfl (Nat.le_of_ble_eq_true rfl) (L0 := [some (.int x0)]) rfl (fun C hC hM hl hQ => bm_isSheet E C Q J x0 hC hM hQ h)
/-! finding -/
def wm_finding (Q : Int32 → MS → Prop) (J : MS) (x1 : Int32) : Prop :=
  Q ((-1000010 : Int32) - x1) (mset J 1 0 x1)
theorem hd_finding : yX3_finding.cls = RX3 ∧ yX3_finding.cls ≠ "java/lang/invoke/MethodHandle" ∧ yX3_finding.cls ≠ "java/lang/invoke/VarHandle" ∧ (parseMethodDescriptor yX3_finding.desc).map (fun d => d.parameters.length) = some 1 := by decide +kernel
set_option maxHeartbeats 4000000 in
set_option maxRecDepth 100000 in
theorem bm_finding (E : ME) (C : Cx) (Q : Int32 → MS → Prop) (J : MS) (x1 : Int32) (hC : COk C cX3_finding RX3 (some .int) 1 16 2) (hM : MOk E C) (hQ : cx_Q C = MQ (cx_b C) (va_Qi Q (BM E) (mA E)) (cx_a C) (cx_s C) (cx_MC C) (cx_MS C) (mA E)) (h : wm_finding Q J x1) : GM E C J 0 [some (.ref (me_a E 54)), some (.int x1)] [] := by
  refine g_aload_n hC dX3_finding_0 rfl ?_
  refine g_iload_n hC dX3_finding_1 rfl ?_
  refine gM_put hC hM 1 (ty := .int) dX3_finding_2 q1504 (by decide) (by decide) rfl rfl rfl rfl rfl ?_
  refine g_ldc (v := -1000010) hC dX3_finding_5 q1684 ?_
  refine g_iload_n hC dX3_finding_7 rfl ?_
  refine g_isub hC dX3_finding_8 ?_
  refine gM_iret hC hM hQ rfl dX3_finding_9 h
theorem mm_finding (l : Launch) (E : ME) (hI : mInj E) (Q : Int32 → MS → Prop) (J : MS) (x1 : Int32) (h : wm_finding Q J x1) : MMet E l yX3_finding cX3_finding 2 (some .int) ({ frames := 1, cells := 0, slots := 0, locals := 16 }) [.ref (me_a E 54), .int x1] J (va_Qi Q (BM E) (mA E)) :=
  MMet_of hI (by decide) rfl (Nat.le_of_ble_eq_true rfl) (L0 := [some (.ref (me_a E 54)), some (.int x1)]) rfl (fun C hC hM hl hQ => bm_finding E C Q J x1 hC hM hQ h)
/-! sheet -/
def wm_sheet_65 (Q : Int32 → MS → Prop) : Nat → MS → Int32 → Int32 → Int32 → Prop
  | 0, _, _, _, _ => False
  | n + 1, J, a1, a3, a4 => (if (60 : Int32) ≤ a4 then Q a3 J else vp_in (((60 : Int32) * a1) + a4) 480 ∧ wm_sheet_65 Q n (mset J 11 (Int32.toNatClampNeg (((60 : Int32) * a1) + a4)) (0 : Int32)) a1 a3 (a4 + (1 : Int32)))
def wm_sheet (Q : Int32 → MS → Prop) (J : MS) (x1 : Int32) (x2 : Int32) (x3 : Int32) : Prop :=
  wm_isSheet (fun r2 J1 => (if r2 = 0 then Q (-1000001 : Int32) J1 else wm_in (fun r4 J3 => (if r4 = 0 then Q (-1000001 : Int32) J3 else (if x3 ≤ (60 : Int32) then (if 0 ≤ x3 then vp_in x1 8 ∧ vp_in x1 8 ∧ ∃ n5, wm_sheet_65 Q n5 (mset (mset (mset J3 1 0 (0 : Int32)) 9 (Int32.toNatClampNeg x1) x2) 10 (Int32.toNatClampNeg x1) x3) x1 x3 (0 : Int32) else wm_finding (fun r7 J6 => Q r7 J6) (mset J3 1 0 (0 : Int32)) (4 : Int32)) else Q (-1000001 : Int32) J3))) J1 (Int32.toInt64 x2) (0 : Int64) (2 : Int64))) (mset J 0 0 (0 : Int32)) x1
theorem hd_sheet : yX3_sheet.cls = RX3 ∧ yX3_sheet.cls ≠ "java/lang/invoke/MethodHandle" ∧ yX3_sheet.cls ≠ "java/lang/invoke/VarHandle" ∧ (parseMethodDescriptor yX3_sheet.desc).map (fun d => d.parameters.length) = some 3 := by decide +kernel
set_option maxHeartbeats 4000000 in
set_option maxRecDepth 100000 in
theorem bm_sheet (E : ME) (C : Cx) (Q : Int32 → MS → Prop) (J : MS) (x1 : Int32) (x2 : Int32) (x3 : Int32) (hC : COk C cX3_sheet RX3 (some .int) 3 61 5) (hM : MOk E C) (hQ : cx_Q C = MQ (cx_b C) (va_Qi Q (BM E) (mA E)) (cx_a C) (cx_s C) (cx_MC C) (cx_MS C) (mA E)) (h : wm_sheet Q J x1 x2 x3) : GM E C J 0 [some (.ref (me_a E 54)), some (.int x1), some (.int x2), some (.int x3), none] [] := by
  have s_65 : ∀ (n : Nat) (J : MS) (a1 : Int32) (a3 : Int32) (a4 : Int32), wm_sheet_65 Q  n J a1 a3 a4 → GM E C J 65 [some (.ref (me_a E 54)), some (.int a1), none, some (.int a3), some (.int a4)] [] := by
    intro  n
    induction n with
    | zero =>
      intro J a1 a3 a4 h
      exact False.elim h
    | succ n ih =>
      intro J a1 a3 a4 h
      refine g_iload hC dX3_sheet_65 rfl ?_
      refine g_bipush (v := 60) hC dX3_sheet_67 (by decide) ?_
      refine g_icmp_ge (tgt := 91) hC dX3_sheet_69 (by decide) (fun c => ?_) (fun c => ?_)
      · have h := it_p c h
        refine g_iload_n hC dX3_sheet_91 rfl ?_
        refine gM_iret hC hM hQ rfl dX3_sheet_92 h
      · have h := it_n c h
        refine g_aload_n hC dX3_sheet_72 rfl ?_
        refine gM_getA hC hM 11 dX3_sheet_73 q1514 (by decide) (by decide) rfl ?_
        refine g_bipush (v := 60) hC dX3_sheet_76 (by decide) ?_
        refine g_iload_n hC dX3_sheet_78 rfl ?_
        refine g_imul hC dX3_sheet_79 ?_
        refine g_iload hC dX3_sheet_80 rfl ?_
        refine g_iadd hC dX3_sheet_82 ?_
        refine g_iconst (v := 0) hC dX3_sheet_83 (by decide) ?_
        refine gM_iast hC hM 11 9 dX3_sheet_84 rfl (by decide) h.1 ?_
        refine g_iinc (v := (a4 + (1 : Int32))) hC dX3_sheet_85 rfl rfl (by decide) rfl rfl ?_
        refine g_goto (tgt := 65) hC dX3_sheet_88 (by decide) ?_
        exact ih (mset J 11 (Int32.toNatClampNeg (((60 : Int32) * a1) + a4)) (0 : Int32)) a1 a3 (a4 + (1 : Int32)) h.2
  refine g_aload_n hC dX3_sheet_0 rfl ?_
  refine g_iconst (v := 0) hC dX3_sheet_1 (by decide) ?_
  refine gM_put hC hM 0 (ty := .int) dX3_sheet_2 q1503 (by decide) (by decide) rfl rfl rfl rfl rfl ?_
  refine g_iload_n hC dX3_sheet_5 rfl ?_
  refine gM_Si (As := [.int x1]) (rest := []) hC hM (mm_isSheet (cx_l C) E hM.2.1 _ _ _ h) (lw_S q1671 q1672 q76 q1673) hd_isSheet rfl rfl (Nat.le_of_ble_eq_true rfl) ⟨Nat.le_of_ble_eq_true rfl, Nat.le_of_ble_eq_true rfl⟩ dX3_sheet_6 ?_
  intro r2 J1 h
  refine g_if_eq (tgt := 30) hC dX3_sheet_9 (by decide) (fun c => ?_) (fun c => ?_)
  · have h := it_p c h
    refine g_ldc (v := -1000001) hC dX3_sheet_30 q1679 ?_
    refine gM_iret hC hM hQ rfl dX3_sheet_32 h
  · have h := it_n c h
    refine g_iload_n hC dX3_sheet_12 rfl ?_
    refine g_i2l hC dX3_sheet_13 ?_
    refine g_lconst (v := 0) hC dX3_sheet_14 (by decide) ?_
    refine g_ldc2 (v := 2) hC dX3_sheet_15 q1678 ?_
    refine gM_Si (As := [.long (Int32.toInt64 x2), .long (0 : Int64), .long (2 : Int64)]) (rest := []) hC hM (mm_in (cx_l C) E hM.2.1 _ _ _ _ _ h) (lw_S q1675 q1676 q76 q1677) hd_in rfl rfl (Nat.le_of_ble_eq_true rfl) ⟨Nat.le_of_ble_eq_true rfl, Nat.le_of_ble_eq_true rfl⟩ dX3_sheet_18 ?_
    intro r4 J3 h
    refine g_if_eq (tgt := 30) hC dX3_sheet_21 (by decide) (fun c => ?_) (fun c => ?_)
    · have h := it_p c h
      refine g_ldc (v := -1000001) hC dX3_sheet_30 q1679 ?_
      refine gM_iret hC hM hQ rfl dX3_sheet_32 h
    · have h := it_n c h
      refine g_iload_n hC dX3_sheet_24 rfl ?_
      refine g_bipush (v := 60) hC dX3_sheet_25 (by decide) ?_
      refine g_icmp_le (tgt := 33) hC dX3_sheet_27 (by decide) (fun c => ?_) (fun c => ?_)
      · have h := it_p c h
        refine g_aload_n hC dX3_sheet_33 rfl ?_
        refine g_iconst (v := 0) hC dX3_sheet_34 (by decide) ?_
        refine gM_put hC hM 1 (ty := .int) dX3_sheet_35 q1504 (by decide) (by decide) rfl rfl rfl rfl rfl ?_
        refine g_iload_n hC dX3_sheet_38 rfl ?_
        refine g_if_ge (tgt := 48) hC dX3_sheet_39 (by decide) (fun c => ?_) (fun c => ?_)
        · have h := it_p c h
          refine g_aload_n hC dX3_sheet_48 rfl ?_
          refine gM_getA hC hM 9 dX3_sheet_49 q1512 (by decide) (by decide) rfl ?_
          refine g_iload_n hC dX3_sheet_52 rfl ?_
          refine g_iload_n hC dX3_sheet_53 rfl ?_
          refine gM_iast hC hM 9 7 dX3_sheet_54 rfl (by decide) h.1 ?_
          refine g_aload_n hC dX3_sheet_55 rfl ?_
          refine gM_getA hC hM 10 dX3_sheet_56 q1513 (by decide) (by decide) rfl ?_
          refine g_iload_n hC dX3_sheet_59 rfl ?_
          refine g_iload_n hC dX3_sheet_60 rfl ?_
          refine gM_iast hC hM 10 8 dX3_sheet_61 rfl (by decide) h.2.1 ?_
          refine g_iconst (v := 0) hC dX3_sheet_62 (by decide) ?_
          refine g_istore hC dX3_sheet_63 (by decide) rfl rfl ?_
          refine g_sub [true, true, false, true, true] rfl ?_
          obtain ⟨n0, h0⟩ := h.2.2
          exact s_65 n0 (mset (mset (mset J3 1 0 (0 : Int32)) 9 (Int32.toNatClampNeg x1) x2) 10 (Int32.toNatClampNeg x1) x3) x1 x3 (0 : Int32) h0
        · have h := it_n c h
          refine g_aload_n hC dX3_sheet_42 rfl ?_
          refine g_iconst (v := 4) hC dX3_sheet_43 (by decide) ?_
          refine gM_Vi (As := [.int (4 : Int32)]) (rest := []) hC hM (mm_finding (cx_l C) E hM.2.1 _ _ _ h) (lw_V q1680 q1682 qs37 q76 q1683) hd_finding rfl rfl (Nat.le_of_ble_eq_true rfl) ⟨Nat.le_of_ble_eq_true rfl, Nat.le_of_ble_eq_true rfl⟩ dX3_sheet_44 ?_
          intro r7 J6 h
          refine gM_iret hC hM hQ rfl dX3_sheet_47 h
      · have h := it_n c h
        refine g_ldc (v := -1000001) hC dX3_sheet_30 q1679 ?_
        refine gM_iret hC hM hQ rfl dX3_sheet_32 h
theorem mm_sheet (l : Launch) (E : ME) (hI : mInj E) (Q : Int32 → MS → Prop) (J : MS) (x1 : Int32) (x2 : Int32) (x3 : Int32) (h : wm_sheet Q J x1 x2 x3) : MMet E l yX3_sheet cX3_sheet 5 (some .int) ({ frames := 3, cells := 0, slots := 0, locals := 61 }) [.ref (me_a E 54), .int x1, .int x2, .int x3] J (va_Qi Q (BM E) (mA E)) :=
  MMet_of hI (by decide) rfl (Nat.le_of_ble_eq_true rfl) (L0 := [some (.ref (me_a E 54)), some (.int x1), some (.int x2), some (.int x3), none]) rfl (fun C hC hM hl hQ => bm_sheet E C Q J x1 x2 x3 hC hM hQ h)
/-! set -/
def wm_set_99 (Q : Int32 → MS → Prop) (J : MS) (a1 : Int32) (a2 : Int32) (s1 : Int32) (s2 : Int32) : Prop :=
  vp_in s1 480 ∧ vp_in (((60 : Int32) * a1) + a2) 480 ∧ Q ((mset J 11 (Int32.toNatClampNeg s1) s2) 11 (Int32.toNatClampNeg (((60 : Int32) * a1) + a2))) (mset J 11 (Int32.toNatClampNeg s1) s2)
def wm_set (Q : Int32 → MS → Prop) (J : MS) (x1 : Int32) (x2 : Int32) (x3 : Int32) : Prop :=
  wm_isSheet (fun r2 J1 => (if r2 = 0 then Q (-1000001 : Int32) J1 else vp_in x1 8 ∧ (if 0 ≤ ((mset J1 1 0 (0 : Int32)) 9 (Int32.toNatClampNeg x1)) then vp_in x1 8 ∧ wm_in (fun r4 J3 => (if r4 = 0 then wm_finding (fun r6 J5 => Q r6 J5) J3 (2 : Int32) else vp_in x1 8 ∧ (if (J3 9 (Int32.toNatClampNeg x1)) = 0 then wm_set_99 Q J3 x1 x2 (((60 : Int32) * x1) + x2) (Int8.toInt32 (Int32.toInt8 x3)) else vp_in x1 8 ∧ (if (J3 9 (Int32.toNatClampNeg x1)) = (1 : Int32) then wm_set_99 Q J3 x1 x2 (((60 : Int32) * x1) + x2) (Int16.toInt32 (Int32.toInt16 x3)) else wm_set_99 Q J3 x1 x2 (((60 : Int32) * x1) + x2) x3)))) (mset J1 1 0 (0 : Int32)) (Int32.toInt64 x2) (0 : Int64) (Int32.toInt64 (((mset J1 1 0 (0 : Int32)) 10 (Int32.toNatClampNeg x1)) - (1 : Int32))) else wm_finding (fun r8 J7 => Q r8 J7) (mset J1 1 0 (0 : Int32)) (1 : Int32)))) (mset J 0 0 (0 : Int32)) x1
theorem hd_set : yX3_set.cls = RX3 ∧ yX3_set.cls ≠ "java/lang/invoke/MethodHandle" ∧ yX3_set.cls ≠ "java/lang/invoke/VarHandle" ∧ (parseMethodDescriptor yX3_set.desc).map (fun d => d.parameters.length) = some 3 := by decide +kernel
set_option maxHeartbeats 4000000 in
set_option maxRecDepth 100000 in
theorem bm_set (E : ME) (C : Cx) (Q : Int32 → MS → Prop) (J : MS) (x1 : Int32) (x2 : Int32) (x3 : Int32) (hC : COk C cX3_set RX3 (some .int) 3 61 4) (hM : MOk E C) (hQ : cx_Q C = MQ (cx_b C) (va_Qi Q (BM E) (mA E)) (cx_a C) (cx_s C) (cx_MC C) (cx_MS C) (mA E)) (h : wm_set Q J x1 x2 x3) : GM E C J 0 [some (.ref (me_a E 54)), some (.int x1), some (.int x2), some (.int x3)] [] := by
  have s_99 : ∀ (J : MS) (a1 : Int32) (a2 : Int32) (s1 : Int32) (s2 : Int32), wm_set_99 Q  J a1 a2 s1 s2 → GM E C J 99 [some (.ref (me_a E 54)), some (.int a1), some (.int a2), none] [.int s2, .int s1, .ref (me_a E 11)] := by
    intro  J a1 a2 s1 s2 h
    refine gM_iast hC hM 11 9 dX3_set_99 rfl (by decide) h.1 ?_
    refine g_aload_n hC dX3_set_100 rfl ?_
    refine gM_getA hC hM 11 dX3_set_101 q1514 (by decide) (by decide) rfl ?_
    refine g_bipush (v := 60) hC dX3_set_104 (by decide) ?_
    refine g_iload_n hC dX3_set_106 rfl ?_
    refine g_imul hC dX3_set_107 ?_
    refine g_iload_n hC dX3_set_108 rfl ?_
    refine g_iadd hC dX3_set_109 ?_
    refine gM_iald hC hM 11 9 dX3_set_110 rfl (by decide) h.2.1 ?_
    refine gM_iret hC hM hQ rfl dX3_set_111 h.2.2
  refine g_aload_n hC dX3_set_0 rfl ?_
  refine g_iconst (v := 0) hC dX3_set_1 (by decide) ?_
  refine gM_put hC hM 0 (ty := .int) dX3_set_2 q1503 (by decide) (by decide) rfl rfl rfl rfl rfl ?_
  refine g_iload_n hC dX3_set_5 rfl ?_
  refine gM_Si (As := [.int x1]) (rest := []) hC hM (mm_isSheet (cx_l C) E hM.2.1 _ _ _ h) (lw_S q1671 q1672 q76 q1673) hd_isSheet rfl rfl (Nat.le_of_ble_eq_true rfl) ⟨Nat.le_of_ble_eq_true rfl, Nat.le_of_ble_eq_true rfl⟩ dX3_set_6 ?_
  intro r2 J1 h
  refine g_if_ne (tgt := 15) hC dX3_set_9 (by decide) (fun c => ?_) (fun c => ?_)
  · have h := it_n c h
    refine g_aload_n hC dX3_set_15 rfl ?_
    refine g_iconst (v := 0) hC dX3_set_16 (by decide) ?_
    refine gM_put hC hM 1 (ty := .int) dX3_set_17 q1504 (by decide) (by decide) rfl rfl rfl rfl rfl ?_
    refine g_aload_n hC dX3_set_20 rfl ?_
    refine gM_getA hC hM 9 dX3_set_21 q1512 (by decide) (by decide) rfl ?_
    refine g_iload_n hC dX3_set_24 rfl ?_
    refine gM_iald hC hM 9 7 dX3_set_25 rfl (by decide) h.1 ?_
    refine g_if_ge (tgt := 35) hC dX3_set_26 (by decide) (fun c => ?_) (fun c => ?_)
    · have h := it_p c h.2
      refine g_iload_n hC dX3_set_35 rfl ?_
      refine g_i2l hC dX3_set_36 ?_
      refine g_lconst (v := 0) hC dX3_set_37 (by decide) ?_
      refine g_aload_n hC dX3_set_38 rfl ?_
      refine gM_getA hC hM 10 dX3_set_39 q1513 (by decide) (by decide) rfl ?_
      refine g_iload_n hC dX3_set_42 rfl ?_
      refine gM_iald hC hM 10 8 dX3_set_43 rfl (by decide) h.1 ?_
      refine g_iconst (v := 1) hC dX3_set_44 (by decide) ?_
      refine g_isub hC dX3_set_45 ?_
      refine g_i2l hC dX3_set_46 ?_
      refine gM_Si (As := [.long (Int32.toInt64 x2), .long (0 : Int64), .long (Int32.toInt64 (((mset J1 1 0 (0 : Int32)) 10 (Int32.toNatClampNeg x1)) - (1 : Int32)))]) (rest := []) hC hM (mm_in (cx_l C) E hM.2.1 _ _ _ _ _ h.2) (lw_S q1675 q1676 q76 q1677) hd_in rfl rfl (Nat.le_of_ble_eq_true rfl) ⟨Nat.le_of_ble_eq_true rfl, Nat.le_of_ble_eq_true rfl⟩ dX3_set_47 ?_
      intro r4 J3 h
      refine g_if_ne (tgt := 59) hC dX3_set_50 (by decide) (fun c => ?_) (fun c => ?_)
      · have h := it_n c h
        refine g_aload_n hC dX3_set_59 rfl ?_
        refine gM_getA hC hM 11 dX3_set_60 q1514 (by decide) (by decide) rfl ?_
        refine g_bipush (v := 60) hC dX3_set_63 (by decide) ?_
        refine g_iload_n hC dX3_set_65 rfl ?_
        refine g_imul hC dX3_set_66 ?_
        refine g_iload_n hC dX3_set_67 rfl ?_
        refine g_iadd hC dX3_set_68 ?_
        refine g_aload_n hC dX3_set_69 rfl ?_
        refine gM_getA hC hM 9 dX3_set_70 q1512 (by decide) (by decide) rfl ?_
        refine g_iload_n hC dX3_set_73 rfl ?_
        refine gM_iald hC hM 9 7 dX3_set_74 rfl (by decide) h.1 ?_
        refine g_if_ne (tgt := 83) hC dX3_set_75 (by decide) (fun c => ?_) (fun c => ?_)
        · have h := it_n c h.2
          refine g_aload_n hC dX3_set_83 rfl ?_
          refine gM_getA hC hM 9 dX3_set_84 q1512 (by decide) (by decide) rfl ?_
          refine g_iload_n hC dX3_set_87 rfl ?_
          refine gM_iald hC hM 9 7 dX3_set_88 rfl (by decide) h.1 ?_
          refine g_iconst (v := 1) hC dX3_set_89 (by decide) ?_
          refine g_icmp_ne (tgt := 98) hC dX3_set_90 (by decide) (fun c => ?_) (fun c => ?_)
          · have h := it_n c h.2
            refine g_iload_n hC dX3_set_98 rfl ?_
            refine g_sub [true, true, true, false] rfl ?_
            exact s_99 J3 x1 x2 (((60 : Int32) * x1) + x2) x3 h
          · have h := it_p c h.2
            refine g_iload_n hC dX3_set_93 rfl ?_
            refine g_i2s hC dX3_set_94 ?_
            refine g_goto (tgt := 99) hC dX3_set_95 (by decide) ?_
            refine g_sub [true, true, true, false] rfl ?_
            exact s_99 J3 x1 x2 (((60 : Int32) * x1) + x2) (Int16.toInt32 (Int32.toInt16 x3)) h
        · have h := it_p c h.2
          refine g_iload_n hC dX3_set_78 rfl ?_
          refine g_i2b hC dX3_set_79 ?_
          refine g_goto (tgt := 99) hC dX3_set_80 (by decide) ?_
          refine g_sub [true, true, true, false] rfl ?_
          exact s_99 J3 x1 x2 (((60 : Int32) * x1) + x2) (Int8.toInt32 (Int32.toInt8 x3)) h
      · have h := it_p c h
        refine g_aload_n hC dX3_set_53 rfl ?_
        refine g_iconst (v := 2) hC dX3_set_54 (by decide) ?_
        refine gM_Vi (As := [.int (2 : Int32)]) (rest := []) hC hM (mm_finding (cx_l C) E hM.2.1 _ _ _ h) (lw_V q1680 q1682 qs37 q76 q1683) hd_finding rfl rfl (Nat.le_of_ble_eq_true rfl) ⟨Nat.le_of_ble_eq_true rfl, Nat.le_of_ble_eq_true rfl⟩ dX3_set_55 ?_
        intro r6 J5 h
        refine gM_iret hC hM hQ rfl dX3_set_58 h
    · have h := it_n c h.2
      refine g_aload_n hC dX3_set_29 rfl ?_
      refine g_iconst (v := 1) hC dX3_set_30 (by decide) ?_
      refine gM_Vi (As := [.int (1 : Int32)]) (rest := []) hC hM (mm_finding (cx_l C) E hM.2.1 _ _ _ h) (lw_V q1680 q1682 qs37 q76 q1683) hd_finding rfl rfl (Nat.le_of_ble_eq_true rfl) ⟨Nat.le_of_ble_eq_true rfl, Nat.le_of_ble_eq_true rfl⟩ dX3_set_31 ?_
      intro r8 J7 h
      refine gM_iret hC hM hQ rfl dX3_set_34 h
  · have h := it_p c h
    refine g_ldc (v := -1000001) hC dX3_set_12 q1679 ?_
    refine gM_iret hC hM hQ rfl dX3_set_14 h
theorem mm_set (l : Launch) (E : ME) (hI : mInj E) (Q : Int32 → MS → Prop) (J : MS) (x1 : Int32) (x2 : Int32) (x3 : Int32) (h : wm_set Q J x1 x2 x3) : MMet E l yX3_set cX3_set 4 (some .int) ({ frames := 3, cells := 0, slots := 0, locals := 61 }) [.ref (me_a E 54), .int x1, .int x2, .int x3] J (va_Qi Q (BM E) (mA E)) :=
  MMet_of hI (by decide) rfl (Nat.le_of_ble_eq_true rfl) (L0 := [some (.ref (me_a E 54)), some (.int x1), some (.int x2), some (.int x3)]) rfl (fun C hC hM hl hQ => bm_set E C Q J x1 x2 x3 hC hM hQ h)
/-! copy -/
def wm_copy_45 (Q : Int32 → MS → Prop) (J : MS) : Prop :=
  wm_finding (fun r6 J5 => Q r6 J5) J (1 : Int32)
def wm_copy_121 (Q : Int32 → MS → Prop) (J : MS) : Prop :=
  wm_finding (fun r8 J7 => Q r8 J7) J (2 : Int32)
def wm_copy_167 (Q : Int32 → MS → Prop) (K143 : MS → Int32 → Int32 → Int32 → Int32 → Int32 → Int32 → Int32 → Prop) (J : MS) (a1 : Int32) (a2 : Int32) (a3 : Int32) (a4 : Int32) (a5 : Int32) (a6 : Int32) (a7 : Int32) (s0 : Int32) : Prop :=
  vp_in ((((60 : Int32) * a1) + a2) + s0) 480 ∧ vp_in ((((60 : Int32) * a3) + a4) + s0) 480 ∧ K143 (mset J 11 (Int32.toNatClampNeg ((((60 : Int32) * a3) + a4) + s0)) (J 11 (Int32.toNatClampNeg ((((60 : Int32) * a1) + a2) + s0)))) a1 a2 a3 a4 a5 a6 (a7 + (1 : Int32))
def wm_copy_143 (Q : Int32 → MS → Prop) : Nat → MS → Int32 → Int32 → Int32 → Int32 → Int32 → Int32 → Int32 → Prop
  | 0, _, _, _, _, _, _, _, _ => False
  | n + 1, J, a1, a2, a3, a4, a5, a6, a7 => (if a5 ≤ a7 then Q a5 J else (if a6 = 0 then wm_copy_167 Q (wm_copy_143 Q n) J a1 a2 a3 a4 a5 a6 a7 ((a5 - (1 : Int32)) - a7) else wm_copy_167 Q (wm_copy_143 Q n) J a1 a2 a3 a4 a5 a6 a7 a7))
def wm_copy_138 (Q : Int32 → MS → Prop) (J : MS) (a1 : Int32) (a2 : Int32) (a3 : Int32) (a4 : Int32) (a5 : Int32) (s0 : Int32) : Prop :=
  ∃ n9, wm_copy_143 Q n9 J a1 a2 a3 a4 a5 s0 (0 : Int32)
def wm_copy (Q : Int32 → MS → Prop) (J : MS) (x1 : Int32) (x2 : Int32) (x3 : Int32) (x4 : Int32) (x5 : Int32) : Prop :=
  wm_isSheet (fun r2 J1 => (if r2 = 0 then Q (-1000001 : Int32) J1 else wm_isSheet (fun r4 J3 => (if r4 = 0 then Q (-1000001 : Int32) J3 else vp_in x1 8 ∧ (if ((mset J3 1 0 (0 : Int32)) 9 (Int32.toNatClampNeg x1)) < 0 then wm_copy_45 Q (mset J3 1 0 (0 : Int32))  else vp_in x3 8 ∧ (if 0 ≤ ((mset J3 1 0 (0 : Int32)) 9 (Int32.toNatClampNeg x3)) then vp_in x1 8 ∧ vp_in x3 8 ∧ (if ((mset J3 1 0 (0 : Int32)) 9 (Int32.toNatClampNeg x1)) = ((mset J3 1 0 (0 : Int32)) 9 (Int32.toNatClampNeg x3)) then (if x2 < 0 then wm_copy_121 Q (mset J3 1 0 (0 : Int32))  else (if x4 < 0 then wm_copy_121 Q (mset J3 1 0 (0 : Int32))  else (if x5 < 0 then wm_copy_121 Q (mset J3 1 0 (0 : Int32))  else vp_in x1 8 ∧ (if 0 < (lg_cmp ((Int32.toInt64 x2) + (Int32.toInt64 x5)) (Int32.toInt64 ((mset J3 1 0 (0 : Int32)) 10 (Int32.toNatClampNeg x1)))) then wm_copy_121 Q (mset J3 1 0 (0 : Int32))  else vp_in x3 8 ∧ (if (lg_cmp ((Int32.toInt64 x4) + (Int32.toInt64 x5)) (Int32.toInt64 ((mset J3 1 0 (0 : Int32)) 10 (Int32.toNatClampNeg x3)))) ≤ 0 then (if x2 < x4 then wm_copy_138 Q (mset J3 1 0 (0 : Int32)) x1 x2 x3 x4 x5 (0 : Int32) else wm_copy_138 Q (mset J3 1 0 (0 : Int32)) x1 x2 x3 x4 x5 (1 : Int32)) else wm_copy_121 Q (mset J3 1 0 (0 : Int32)) ))))) else wm_finding (fun r11 J10 => Q r11 J10) (mset J3 1 0 (0 : Int32)) (5 : Int32)) else wm_copy_45 Q (mset J3 1 0 (0 : Int32)) )))) J1 x3)) (mset J 0 0 (0 : Int32)) x1
theorem hd_copy : yX3_copy.cls = RX3 ∧ yX3_copy.cls ≠ "java/lang/invoke/MethodHandle" ∧ yX3_copy.cls ≠ "java/lang/invoke/VarHandle" ∧ (parseMethodDescriptor yX3_copy.desc).map (fun d => d.parameters.length) = some 5 := by decide +kernel
set_option maxHeartbeats 4000000 in
set_option maxRecDepth 100000 in
theorem bm_copy (E : ME) (C : Cx) (Q : Int32 → MS → Prop) (J : MS) (x1 : Int32) (x2 : Int32) (x3 : Int32) (x4 : Int32) (x5 : Int32) (hC : COk C cX3_copy RX3 (some .int) 3 61 9) (hM : MOk E C) (hQ : cx_Q C = MQ (cx_b C) (va_Qi Q (BM E) (mA E)) (cx_a C) (cx_s C) (cx_MC C) (cx_MS C) (mA E)) (h : wm_copy Q J x1 x2 x3 x4 x5) : GM E C J 0 [some (.ref (me_a E 54)), some (.int x1), some (.int x2), some (.int x3), some (.int x4), some (.int x5), none, none, none] [] := by
  have s_45 : ∀ (J : MS), wm_copy_45 Q  J  → GM E C J 45 [some (.ref (me_a E 54)), none, none, none, none, none, none, none, none] [] := by
    intro  J  h
    refine g_aload_n hC dX3_copy_45 rfl ?_
    refine g_iconst (v := 1) hC dX3_copy_46 (by decide) ?_
    refine gM_Vi (As := [.int (1 : Int32)]) (rest := []) hC hM (mm_finding (cx_l C) E hM.2.1 _ _ _ h) (lw_V q1680 q1682 qs37 q76 q1683) hd_finding rfl rfl (Nat.le_of_ble_eq_true rfl) ⟨Nat.le_of_ble_eq_true rfl, Nat.le_of_ble_eq_true rfl⟩ dX3_copy_47 ?_
    intro r6 J5 h
    refine gM_iret hC hM hQ rfl dX3_copy_50 h
  have s_121 : ∀ (J : MS), wm_copy_121 Q  J  → GM E C J 121 [some (.ref (me_a E 54)), none, none, none, none, none, none, none, none] [] := by
    intro  J  h
    refine g_aload_n hC dX3_copy_121 rfl ?_
    refine g_iconst (v := 2) hC dX3_copy_122 (by decide) ?_
    refine gM_Vi (As := [.int (2 : Int32)]) (rest := []) hC hM (mm_finding (cx_l C) E hM.2.1 _ _ _ h) (lw_V q1680 q1682 qs37 q76 q1683) hd_finding rfl rfl (Nat.le_of_ble_eq_true rfl) ⟨Nat.le_of_ble_eq_true rfl, Nat.le_of_ble_eq_true rfl⟩ dX3_copy_123 ?_
    intro r8 J7 h
    refine gM_iret hC hM hQ rfl dX3_copy_126 h
  have s_167 : ∀ (K143 : MS → Int32 → Int32 → Int32 → Int32 → Int32 → Int32 → Int32 → Prop) (hK143 : ∀ (J : MS) (b1 : Int32) (b2 : Int32) (b3 : Int32) (b4 : Int32) (b5 : Int32) (b6 : Int32) (b7 : Int32), K143 J b1 b2 b3 b4 b5 b6 b7 → GM E C J 143 [some (.ref (me_a E 54)), some (.int b1), some (.int b2), some (.int b3), some (.int b4), some (.int b5), some (.int b6), some (.int b7), none] []) (J : MS) (a1 : Int32) (a2 : Int32) (a3 : Int32) (a4 : Int32) (a5 : Int32) (a6 : Int32) (a7 : Int32) (s0 : Int32), wm_copy_167 Q K143 J a1 a2 a3 a4 a5 a6 a7 s0 → GM E C J 167 [some (.ref (me_a E 54)), some (.int a1), some (.int a2), some (.int a3), some (.int a4), some (.int a5), some (.int a6), some (.int a7), none] [.int s0] := by
    intro K143 hK143 J a1 a2 a3 a4 a5 a6 a7 s0 h
    refine g_istore hC dX3_copy_167 (by decide) rfl rfl ?_
    refine g_aload_n hC dX3_copy_169 rfl ?_
    refine gM_getA hC hM 11 dX3_copy_170 q1514 (by decide) (by decide) rfl ?_
    refine g_bipush (v := 60) hC dX3_copy_173 (by decide) ?_
    refine g_iload_n hC dX3_copy_175 rfl ?_
    refine g_imul hC dX3_copy_176 ?_
    refine g_iload hC dX3_copy_177 rfl ?_
    refine g_iadd hC dX3_copy_179 ?_
    refine g_iload hC dX3_copy_180 rfl ?_
    refine g_iadd hC dX3_copy_182 ?_
    refine g_aload_n hC dX3_copy_183 rfl ?_
    refine gM_getA hC hM 11 dX3_copy_184 q1514 (by decide) (by decide) rfl ?_
    refine g_bipush (v := 60) hC dX3_copy_187 (by decide) ?_
    refine g_iload_n hC dX3_copy_189 rfl ?_
    refine g_imul hC dX3_copy_190 ?_
    refine g_iload_n hC dX3_copy_191 rfl ?_
    refine g_iadd hC dX3_copy_192 ?_
    refine g_iload hC dX3_copy_193 rfl ?_
    refine g_iadd hC dX3_copy_195 ?_
    refine gM_iald hC hM 11 9 dX3_copy_196 rfl (by decide) h.1 ?_
    refine gM_iast hC hM 11 9 dX3_copy_197 rfl (by decide) h.2.1 ?_
    refine g_iinc (v := (a7 + (1 : Int32))) hC dX3_copy_198 rfl rfl (by decide) rfl rfl ?_
    refine g_goto (tgt := 143) hC dX3_copy_201 (by decide) ?_
    refine g_sub [true, true, true, true, true, true, true, true, false] rfl ?_
    exact hK143 (mset J 11 (Int32.toNatClampNeg ((((60 : Int32) * a3) + a4) + s0)) (J 11 (Int32.toNatClampNeg ((((60 : Int32) * a1) + a2) + s0)))) a1 a2 a3 a4 a5 a6 (a7 + (1 : Int32)) h.2.2
  have s_143 : ∀ (n : Nat) (J : MS) (a1 : Int32) (a2 : Int32) (a3 : Int32) (a4 : Int32) (a5 : Int32) (a6 : Int32) (a7 : Int32), wm_copy_143 Q  n J a1 a2 a3 a4 a5 a6 a7 → GM E C J 143 [some (.ref (me_a E 54)), some (.int a1), some (.int a2), some (.int a3), some (.int a4), some (.int a5), some (.int a6), some (.int a7), none] [] := by
    intro  n
    induction n with
    | zero =>
      intro J a1 a2 a3 a4 a5 a6 a7 h
      exact False.elim h
    | succ n ih =>
      intro J a1 a2 a3 a4 a5 a6 a7 h
      refine g_iload hC dX3_copy_143 rfl ?_
      refine g_iload hC dX3_copy_145 rfl ?_
      refine g_icmp_ge (tgt := 204) hC dX3_copy_147 (by decide) (fun c => ?_) (fun c => ?_)
      · have h := it_p c h
        refine g_iload hC dX3_copy_204 rfl ?_
        refine gM_iret hC hM hQ rfl dX3_copy_206 h
      · have h := it_n c h
        refine g_iload hC dX3_copy_150 rfl ?_
        refine g_if_eq (tgt := 160) hC dX3_copy_152 (by decide) (fun c => ?_) (fun c => ?_)
        · have h := it_p c h
          refine g_iload hC dX3_copy_160 rfl ?_
          refine g_iconst (v := 1) hC dX3_copy_162 (by decide) ?_
          refine g_isub hC dX3_copy_163 ?_
          refine g_iload hC dX3_copy_164 rfl ?_
          refine g_isub hC dX3_copy_166 ?_
          exact s_167 (wm_copy_143 Q n) ih J a1 a2 a3 a4 a5 a6 a7 ((a5 - (1 : Int32)) - a7) h
        · have h := it_n c h
          refine g_iload hC dX3_copy_155 rfl ?_
          refine g_goto (tgt := 167) hC dX3_copy_157 (by decide) ?_
          exact s_167 (wm_copy_143 Q n) ih J a1 a2 a3 a4 a5 a6 a7 a7 h
  have s_138 : ∀ (J : MS) (a1 : Int32) (a2 : Int32) (a3 : Int32) (a4 : Int32) (a5 : Int32) (s0 : Int32), wm_copy_138 Q  J a1 a2 a3 a4 a5 s0 → GM E C J 138 [some (.ref (me_a E 54)), some (.int a1), some (.int a2), some (.int a3), some (.int a4), some (.int a5), none, none, none] [.int s0] := by
    intro  J a1 a2 a3 a4 a5 s0 h
    refine g_istore hC dX3_copy_138 (by decide) rfl rfl ?_
    refine g_iconst (v := 0) hC dX3_copy_140 (by decide) ?_
    refine g_istore hC dX3_copy_141 (by decide) rfl rfl ?_
    obtain ⟨n0, h0⟩ := h
    exact s_143 n0 J a1 a2 a3 a4 a5 s0 (0 : Int32) h0
  refine g_aload_n hC dX3_copy_0 rfl ?_
  refine g_iconst (v := 0) hC dX3_copy_1 (by decide) ?_
  refine gM_put hC hM 0 (ty := .int) dX3_copy_2 q1503 (by decide) (by decide) rfl rfl rfl rfl rfl ?_
  refine g_iload_n hC dX3_copy_5 rfl ?_
  refine gM_Si (As := [.int x1]) (rest := []) hC hM (mm_isSheet (cx_l C) E hM.2.1 _ _ _ h) (lw_S q1671 q1672 q76 q1673) hd_isSheet rfl rfl (Nat.le_of_ble_eq_true rfl) ⟨Nat.le_of_ble_eq_true rfl, Nat.le_of_ble_eq_true rfl⟩ dX3_copy_6 ?_
  intro r2 J1 h
  refine g_if_eq (tgt := 19) hC dX3_copy_9 (by decide) (fun c => ?_) (fun c => ?_)
  · have h := it_p c h
    refine g_ldc (v := -1000001) hC dX3_copy_19 q1679 ?_
    refine gM_iret hC hM hQ rfl dX3_copy_21 h
  · have h := it_n c h
    refine g_iload_n hC dX3_copy_12 rfl ?_
    refine gM_Si (As := [.int x3]) (rest := []) hC hM (mm_isSheet (cx_l C) E hM.2.1 _ _ _ h) (lw_S q1671 q1672 q76 q1673) hd_isSheet rfl rfl (Nat.le_of_ble_eq_true rfl) ⟨Nat.le_of_ble_eq_true rfl, Nat.le_of_ble_eq_true rfl⟩ dX3_copy_13 ?_
    intro r4 J3 h
    refine g_if_ne (tgt := 22) hC dX3_copy_16 (by decide) (fun c => ?_) (fun c => ?_)
    · have h := it_n c h
      refine g_aload_n hC dX3_copy_22 rfl ?_
      refine g_iconst (v := 0) hC dX3_copy_23 (by decide) ?_
      refine gM_put hC hM 1 (ty := .int) dX3_copy_24 q1504 (by decide) (by decide) rfl rfl rfl rfl rfl ?_
      refine g_aload_n hC dX3_copy_27 rfl ?_
      refine gM_getA hC hM 9 dX3_copy_28 q1512 (by decide) (by decide) rfl ?_
      refine g_iload_n hC dX3_copy_31 rfl ?_
      refine gM_iald hC hM 9 7 dX3_copy_32 rfl (by decide) h.1 ?_
      refine g_if_lt (tgt := 45) hC dX3_copy_33 (by decide) (fun c => ?_) (fun c => ?_)
      · have h := it_p c h.2
        refine g_sub [true, false, false, false, false, false, false, false, false] rfl ?_
        exact s_45 (mset J3 1 0 (0 : Int32)) h
      · have h := it_n c h.2
        refine g_aload_n hC dX3_copy_36 rfl ?_
        refine gM_getA hC hM 9 dX3_copy_37 q1512 (by decide) (by decide) rfl ?_
        refine g_iload_n hC dX3_copy_40 rfl ?_
        refine gM_iald hC hM 9 7 dX3_copy_41 rfl (by decide) h.1 ?_
        refine g_if_ge (tgt := 51) hC dX3_copy_42 (by decide) (fun c => ?_) (fun c => ?_)
        · have h := it_p c h.2
          refine g_aload_n hC dX3_copy_51 rfl ?_
          refine gM_getA hC hM 9 dX3_copy_52 q1512 (by decide) (by decide) rfl ?_
          refine g_iload_n hC dX3_copy_55 rfl ?_
          refine gM_iald hC hM 9 7 dX3_copy_56 rfl (by decide) h.1 ?_
          refine g_aload_n hC dX3_copy_57 rfl ?_
          refine gM_getA hC hM 9 dX3_copy_58 q1512 (by decide) (by decide) rfl ?_
          refine g_iload_n hC dX3_copy_61 rfl ?_
          refine gM_iald hC hM 9 7 dX3_copy_62 rfl (by decide) h.2.1 ?_
          refine g_icmp_eq (tgt := 72) hC dX3_copy_63 (by decide) (fun c => ?_) (fun c => ?_)
          · have h := it_p c h.2.2
            refine g_iload_n hC dX3_copy_72 rfl ?_
            refine g_if_lt (tgt := 121) hC dX3_copy_73 (by decide) (fun c => ?_) (fun c => ?_)
            · have h := it_p c h
              refine g_sub [true, false, false, false, false, false, false, false, false] rfl ?_
              exact s_121 (mset J3 1 0 (0 : Int32)) h
            · have h := it_n c h
              refine g_iload hC dX3_copy_76 rfl ?_
              refine g_if_lt (tgt := 121) hC dX3_copy_78 (by decide) (fun c => ?_) (fun c => ?_)
              · have h := it_p c h
                refine g_sub [true, false, false, false, false, false, false, false, false] rfl ?_
                exact s_121 (mset J3 1 0 (0 : Int32)) h
              · have h := it_n c h
                refine g_iload hC dX3_copy_81 rfl ?_
                refine g_if_lt (tgt := 121) hC dX3_copy_83 (by decide) (fun c => ?_) (fun c => ?_)
                · have h := it_p c h
                  refine g_sub [true, false, false, false, false, false, false, false, false] rfl ?_
                  exact s_121 (mset J3 1 0 (0 : Int32)) h
                · have h := it_n c h
                  refine g_iload_n hC dX3_copy_86 rfl ?_
                  refine g_i2l hC dX3_copy_87 ?_
                  refine g_iload hC dX3_copy_88 rfl ?_
                  refine g_i2l hC dX3_copy_90 ?_
                  refine g_ladd hC dX3_copy_91 ?_
                  refine g_aload_n hC dX3_copy_92 rfl ?_
                  refine gM_getA hC hM 10 dX3_copy_93 q1513 (by decide) (by decide) rfl ?_
                  refine g_iload_n hC dX3_copy_96 rfl ?_
                  refine gM_iald hC hM 10 8 dX3_copy_97 rfl (by decide) h.1 ?_
                  refine g_i2l hC dX3_copy_98 ?_
                  refine g_lcmp hC dX3_copy_99 ?_
                  refine g_if_gt (tgt := 121) hC dX3_copy_100 (by decide) (fun c => ?_) (fun c => ?_)
                  · have h := it_p c h.2
                    refine g_sub [true, false, false, false, false, false, false, false, false] rfl ?_
                    exact s_121 (mset J3 1 0 (0 : Int32)) h
                  · have h := it_n c h.2
                    refine g_iload hC dX3_copy_103 rfl ?_
                    refine g_i2l hC dX3_copy_105 ?_
                    refine g_iload hC dX3_copy_106 rfl ?_
                    refine g_i2l hC dX3_copy_108 ?_
                    refine g_ladd hC dX3_copy_109 ?_
                    refine g_aload_n hC dX3_copy_110 rfl ?_
                    refine gM_getA hC hM 10 dX3_copy_111 q1513 (by decide) (by decide) rfl ?_
                    refine g_iload_n hC dX3_copy_114 rfl ?_
                    refine gM_iald hC hM 10 8 dX3_copy_115 rfl (by decide) h.1 ?_
                    refine g_i2l hC dX3_copy_116 ?_
                    refine g_lcmp hC dX3_copy_117 ?_
                    refine g_if_le (tgt := 127) hC dX3_copy_118 (by decide) (fun c => ?_) (fun c => ?_)
                    · have h := it_p c h.2
                      refine g_iload_n hC dX3_copy_127 rfl ?_
                      refine g_iload hC dX3_copy_128 rfl ?_
                      refine g_icmp_lt (tgt := 137) hC dX3_copy_130 (by decide) (fun c => ?_) (fun c => ?_)
                      · have h := it_p c h
                        refine g_iconst (v := 0) hC dX3_copy_137 (by decide) ?_
                        exact s_138 (mset J3 1 0 (0 : Int32)) x1 x2 x3 x4 x5 (0 : Int32) h
                      · have h := it_n c h
                        refine g_iconst (v := 1) hC dX3_copy_133 (by decide) ?_
                        refine g_goto (tgt := 138) hC dX3_copy_134 (by decide) ?_
                        exact s_138 (mset J3 1 0 (0 : Int32)) x1 x2 x3 x4 x5 (1 : Int32) h
                    · have h := it_n c h.2
                      refine g_sub [true, false, false, false, false, false, false, false, false] rfl ?_
                      exact s_121 (mset J3 1 0 (0 : Int32)) h
          · have h := it_n c h.2.2
            refine g_aload_n hC dX3_copy_66 rfl ?_
            refine g_iconst (v := 5) hC dX3_copy_67 (by decide) ?_
            refine gM_Vi (As := [.int (5 : Int32)]) (rest := []) hC hM (mm_finding (cx_l C) E hM.2.1 _ _ _ h) (lw_V q1680 q1682 qs37 q76 q1683) hd_finding rfl rfl (Nat.le_of_ble_eq_true rfl) ⟨Nat.le_of_ble_eq_true rfl, Nat.le_of_ble_eq_true rfl⟩ dX3_copy_68 ?_
            intro r11 J10 h
            refine gM_iret hC hM hQ rfl dX3_copy_71 h
        · have h := it_n c h.2
          refine g_sub [true, false, false, false, false, false, false, false, false] rfl ?_
          exact s_45 (mset J3 1 0 (0 : Int32)) h
    · have h := it_p c h
      refine g_ldc (v := -1000001) hC dX3_copy_19 q1679 ?_
      refine gM_iret hC hM hQ rfl dX3_copy_21 h
theorem mm_copy (l : Launch) (E : ME) (hI : mInj E) (Q : Int32 → MS → Prop) (J : MS) (x1 : Int32) (x2 : Int32) (x3 : Int32) (x4 : Int32) (x5 : Int32) (h : wm_copy Q J x1 x2 x3 x4 x5) : MMet E l yX3_copy cX3_copy 9 (some .int) ({ frames := 3, cells := 0, slots := 0, locals := 61 }) [.ref (me_a E 54), .int x1, .int x2, .int x3, .int x4, .int x5] J (va_Qi Q (BM E) (mA E)) :=
  MMet_of hI (by decide) rfl (Nat.le_of_ble_eq_true rfl) (L0 := [some (.ref (me_a E 54)), some (.int x1), some (.int x2), some (.int x3), some (.int x4), some (.int x5), none, none, none]) rfl (fun C hC hM hl hQ => bm_copy E C Q J x1 x2 x3 x4 x5 hC hM hQ h)
/-! drop -/
def wm_drop (Q : Int32 → MS → Prop) (J : MS) (x1 : Int32) : Prop :=
  wm_isSheet (fun r2 J1 => (if r2 = 0 then Q (-1000001 : Int32) J1 else vp_in x1 8 ∧ (if 0 ≤ ((mset J1 1 0 (0 : Int32)) 9 (Int32.toNatClampNeg x1)) then vp_in x1 8 ∧ vp_in x1 8 ∧ Q ((mset (mset J1 1 0 (0 : Int32)) 9 (Int32.toNatClampNeg x1) (-1 : Int32)) 10 (Int32.toNatClampNeg x1)) (mset (mset J1 1 0 (0 : Int32)) 9 (Int32.toNatClampNeg x1) (-1 : Int32)) else wm_finding (fun r4 J3 => Q r4 J3) (mset J1 1 0 (0 : Int32)) (1 : Int32)))) (mset J 0 0 (0 : Int32)) x1
theorem hd_drop : yX3_drop.cls = RX3 ∧ yX3_drop.cls ≠ "java/lang/invoke/MethodHandle" ∧ yX3_drop.cls ≠ "java/lang/invoke/VarHandle" ∧ (parseMethodDescriptor yX3_drop.desc).map (fun d => d.parameters.length) = some 1 := by decide +kernel
set_option maxHeartbeats 4000000 in
set_option maxRecDepth 100000 in
theorem bm_drop (E : ME) (C : Cx) (Q : Int32 → MS → Prop) (J : MS) (x1 : Int32) (hC : COk C cX3_drop RX3 (some .int) 3 61 2) (hM : MOk E C) (hQ : cx_Q C = MQ (cx_b C) (va_Qi Q (BM E) (mA E)) (cx_a C) (cx_s C) (cx_MC C) (cx_MS C) (mA E)) (h : wm_drop Q J x1) : GM E C J 0 [some (.ref (me_a E 54)), some (.int x1)] [] := by
  refine g_aload_n hC dX3_drop_0 rfl ?_
  refine g_iconst (v := 0) hC dX3_drop_1 (by decide) ?_
  refine gM_put hC hM 0 (ty := .int) dX3_drop_2 q1503 (by decide) (by decide) rfl rfl rfl rfl rfl ?_
  refine g_iload_n hC dX3_drop_5 rfl ?_
  refine gM_Si (As := [.int x1]) (rest := []) hC hM (mm_isSheet (cx_l C) E hM.2.1 _ _ _ h) (lw_S q1671 q1672 q76 q1673) hd_isSheet rfl rfl (Nat.le_of_ble_eq_true rfl) ⟨Nat.le_of_ble_eq_true rfl, Nat.le_of_ble_eq_true rfl⟩ dX3_drop_6 ?_
  intro r2 J1 h
  refine g_if_ne (tgt := 15) hC dX3_drop_9 (by decide) (fun c => ?_) (fun c => ?_)
  · have h := it_n c h
    refine g_aload_n hC dX3_drop_15 rfl ?_
    refine g_iconst (v := 0) hC dX3_drop_16 (by decide) ?_
    refine gM_put hC hM 1 (ty := .int) dX3_drop_17 q1504 (by decide) (by decide) rfl rfl rfl rfl rfl ?_
    refine g_aload_n hC dX3_drop_20 rfl ?_
    refine gM_getA hC hM 9 dX3_drop_21 q1512 (by decide) (by decide) rfl ?_
    refine g_iload_n hC dX3_drop_24 rfl ?_
    refine gM_iald hC hM 9 7 dX3_drop_25 rfl (by decide) h.1 ?_
    refine g_if_ge (tgt := 35) hC dX3_drop_26 (by decide) (fun c => ?_) (fun c => ?_)
    · have h := it_p c h.2
      refine g_aload_n hC dX3_drop_35 rfl ?_
      refine gM_getA hC hM 9 dX3_drop_36 q1512 (by decide) (by decide) rfl ?_
      refine g_iload_n hC dX3_drop_39 rfl ?_
      refine g_iconst (v := -1) hC dX3_drop_40 (by decide) ?_
      refine gM_iast hC hM 9 7 dX3_drop_41 rfl (by decide) h.1 ?_
      refine g_aload_n hC dX3_drop_42 rfl ?_
      refine gM_getA hC hM 10 dX3_drop_43 q1513 (by decide) (by decide) rfl ?_
      refine g_iload_n hC dX3_drop_46 rfl ?_
      refine gM_iald hC hM 10 8 dX3_drop_47 rfl (by decide) h.2.1 ?_
      refine gM_iret hC hM hQ rfl dX3_drop_48 h.2.2
    · have h := it_n c h.2
      refine g_aload_n hC dX3_drop_29 rfl ?_
      refine g_iconst (v := 1) hC dX3_drop_30 (by decide) ?_
      refine gM_Vi (As := [.int (1 : Int32)]) (rest := []) hC hM (mm_finding (cx_l C) E hM.2.1 _ _ _ h) (lw_V q1680 q1682 qs37 q76 q1683) hd_finding rfl rfl (Nat.le_of_ble_eq_true rfl) ⟨Nat.le_of_ble_eq_true rfl, Nat.le_of_ble_eq_true rfl⟩ dX3_drop_31 ?_
      intro r4 J3 h
      refine gM_iret hC hM hQ rfl dX3_drop_34 h
  · have h := it_p c h
    refine g_ldc (v := -1000001) hC dX3_drop_12 q1679 ?_
    refine gM_iret hC hM hQ rfl dX3_drop_14 h
theorem mm_drop (l : Launch) (E : ME) (hI : mInj E) (Q : Int32 → MS → Prop) (J : MS) (x1 : Int32) (h : wm_drop Q J x1) : MMet E l yX3_drop cX3_drop 2 (some .int) ({ frames := 3, cells := 0, slots := 0, locals := 61 }) [.ref (me_a E 54), .int x1] J (va_Qi Q (BM E) (mA E)) :=
  MMet_of hI (by decide) rfl (Nat.le_of_ble_eq_true rfl) (L0 := [some (.ref (me_a E 54)), some (.int x1)]) rfl (fun C hC hM hl hQ => bm_drop E C Q J x1 hC hM hQ h)
/-! feed -/
def wm_feed_40 (Q : Int32 → MS → Prop) : Nat → MS → Int64 → Int32 → Prop
  | 0, _, _, _ => False
  | n + 1, J, a1, a4 => (if a4 < 0 then Q (J 13 0) J else vp_in (J 13 0) 400 ∧ wm_feed_40 Q n (mset (mset J 12 (Int32.toNatClampNeg (J 13 0)) (Int64.toInt32 ((a1 >>> (Int32.toInt64 ((8 : Int32) * a4) &&& 63)) &&& (255 : Int64)))) 13 0 (((mset J 12 (Int32.toNatClampNeg (J 13 0)) (Int64.toInt32 ((a1 >>> (Int32.toInt64 ((8 : Int32) * a4) &&& 63)) &&& (255 : Int64)))) 13 0) + (1 : Int32))) a1 (a4 + (-1 : Int32)))
def wm_feed (Q : Int32 → MS → Prop) (J : MS) (x1 : Int64) (x3 : Int32) : Prop :=
  wm_in (fun r2 J1 => (if r2 = 0 then Q (-1000001 : Int32) J1 else (if ((J1 13 0) + x3) ≤ (400 : Int32) then ∃ n3, wm_feed_40 Q n3 J1 x1 (x3 - (1 : Int32)) else Q (-1000003 : Int32) J1))) (mset J 0 0 (0 : Int32)) (Int32.toInt64 x3) (1 : Int64) (8 : Int64)
theorem hd_feed : yX3_feed.cls = RX3 ∧ yX3_feed.cls ≠ "java/lang/invoke/MethodHandle" ∧ yX3_feed.cls ≠ "java/lang/invoke/VarHandle" ∧ (parseMethodDescriptor yX3_feed.desc).map (fun d => d.parameters.length) = some 2 := by decide +kernel
set_option maxHeartbeats 4000000 in
set_option maxRecDepth 100000 in
theorem bm_feed (E : ME) (C : Cx) (Q : Int32 → MS → Prop) (J : MS) (x1 : Int64) (x3 : Int32) (hC : COk C cX3_feed RX3 (some .int) 2 41 5) (hM : MOk E C) (hQ : cx_Q C = MQ (cx_b C) (va_Qi Q (BM E) (mA E)) (cx_a C) (cx_s C) (cx_MC C) (cx_MS C) (mA E)) (h : wm_feed Q J x1 x3) : GM E C J 0 [some (.ref (me_a E 54)), some (.long x1), none, some (.int x3), none] [] := by
  have s_40 : ∀ (n : Nat) (J : MS) (a1 : Int64) (a4 : Int32), wm_feed_40 Q  n J a1 a4 → GM E C J 40 [some (.ref (me_a E 54)), some (.long a1), none, none, some (.int a4)] [] := by
    intro  n
    induction n with
    | zero =>
      intro J a1 a4 h
      exact False.elim h
    | succ n ih =>
      intro J a1 a4 h
      refine g_iload hC dX3_feed_40 rfl ?_
      refine g_if_lt (tgt := 82) hC dX3_feed_42 (by decide) (fun c => ?_) (fun c => ?_)
      · have h := it_p c h
        refine g_aload_n hC dX3_feed_82 rfl ?_
        refine gM_getS hC hM 13 dX3_feed_83 q1516 (by decide) (by decide) rfl ?_
        refine gM_iret hC hM hQ rfl dX3_feed_86 h
      · have h := it_n c h
        refine g_aload_n hC dX3_feed_45 rfl ?_
        refine gM_getA hC hM 12 dX3_feed_46 q1515 (by decide) (by decide) rfl ?_
        refine g_aload_n hC dX3_feed_49 rfl ?_
        refine gM_getS hC hM 13 dX3_feed_50 q1516 (by decide) (by decide) rfl ?_
        refine g_lload_n hC dX3_feed_53 rfl ?_
        refine g_bipush (v := 8) hC dX3_feed_54 (by decide) ?_
        refine g_iload hC dX3_feed_56 rfl ?_
        refine g_imul hC dX3_feed_58 ?_
        refine g_lshr hC dX3_feed_59 ?_
        refine g_ldc2 (v := 255) hC dX3_feed_60 q1703 ?_
        refine g_land hC dX3_feed_63 ?_
        refine g_l2i hC dX3_feed_64 ?_
        refine gM_iast hC hM 12 10 dX3_feed_65 rfl (by decide) h.1 ?_
        refine g_aload_n hC dX3_feed_66 rfl ?_
        refine g_dup hC dX3_feed_67 rfl ?_
        refine gM_getS hC hM 13 dX3_feed_68 q1516 (by decide) (by decide) rfl ?_
        refine g_iconst (v := 1) hC dX3_feed_71 (by decide) ?_
        refine g_iadd hC dX3_feed_72 ?_
        refine gM_put hC hM 13 (ty := .int) dX3_feed_73 q1516 (by decide) (by decide) rfl rfl rfl rfl rfl ?_
        refine g_iinc (v := (a4 + (-1 : Int32))) hC dX3_feed_76 rfl rfl (by decide) rfl rfl ?_
        refine g_goto (tgt := 40) hC dX3_feed_79 (by decide) ?_
        exact ih (mset (mset J 12 (Int32.toNatClampNeg (J 13 0)) (Int64.toInt32 ((a1 >>> (Int32.toInt64 ((8 : Int32) * a4) &&& 63)) &&& (255 : Int64)))) 13 0 (((mset J 12 (Int32.toNatClampNeg (J 13 0)) (Int64.toInt32 ((a1 >>> (Int32.toInt64 ((8 : Int32) * a4) &&& 63)) &&& (255 : Int64)))) 13 0) + (1 : Int32))) a1 (a4 + (-1 : Int32)) h.2
  refine g_aload_n hC dX3_feed_0 rfl ?_
  refine g_iconst (v := 0) hC dX3_feed_1 (by decide) ?_
  refine gM_put hC hM 0 (ty := .int) dX3_feed_2 q1503 (by decide) (by decide) rfl rfl rfl rfl rfl ?_
  refine g_iload_n hC dX3_feed_5 rfl ?_
  refine g_i2l hC dX3_feed_6 ?_
  refine g_lconst (v := 1) hC dX3_feed_7 (by decide) ?_
  refine g_ldc2 (v := 8) hC dX3_feed_8 q1701 ?_
  refine gM_Si (As := [.long (Int32.toInt64 x3), .long (1 : Int64), .long (8 : Int64)]) (rest := []) hC hM (mm_in (cx_l C) E hM.2.1 _ _ _ _ _ h) (lw_S q1675 q1676 q76 q1677) hd_in rfl rfl (Nat.le_of_ble_eq_true rfl) ⟨Nat.le_of_ble_eq_true rfl, Nat.le_of_ble_eq_true rfl⟩ dX3_feed_11 ?_
  intro r2 J1 h
  refine g_if_ne (tgt := 20) hC dX3_feed_14 (by decide) (fun c => ?_) (fun c => ?_)
  · have h := it_n c h
    refine g_aload_n hC dX3_feed_20 rfl ?_
    refine gM_getS hC hM 13 dX3_feed_21 q1516 (by decide) (by decide) rfl ?_
    refine g_iload_n hC dX3_feed_24 rfl ?_
    refine g_iadd hC dX3_feed_25 ?_
    refine g_sipush (v := 400) hC dX3_feed_26 (by decide) ?_
    refine g_icmp_le (tgt := 35) hC dX3_feed_29 (by decide) (fun c => ?_) (fun c => ?_)
    · have h := it_p c h
      refine g_iload_n hC dX3_feed_35 rfl ?_
      refine g_iconst (v := 1) hC dX3_feed_36 (by decide) ?_
      refine g_isub hC dX3_feed_37 ?_
      refine g_istore hC dX3_feed_38 (by decide) rfl rfl ?_
      refine g_sub [true, true, false, false, true] rfl ?_
      obtain ⟨n0, h0⟩ := h
      exact s_40 n0 J1 x1 (x3 - (1 : Int32)) h0
    · have h := it_n c h
      refine g_ldc (v := -1000003) hC dX3_feed_32 q1702 ?_
      refine gM_iret hC hM hQ rfl dX3_feed_34 h
  · have h := it_p c h
    refine g_ldc (v := -1000001) hC dX3_feed_17 q1679 ?_
    refine gM_iret hC hM hQ rfl dX3_feed_19 h
theorem mm_feed (l : Launch) (E : ME) (hI : mInj E) (Q : Int32 → MS → Prop) (J : MS) (x1 : Int64) (x3 : Int32) (h : wm_feed Q J x1 x3) : MMet E l yX3_feed cX3_feed 5 (some .int) ({ frames := 2, cells := 0, slots := 0, locals := 41 }) [.ref (me_a E 54), .long x1, .int x3] J (va_Qi Q (BM E) (mA E)) :=
  MMet_of hI (by decide) rfl (Nat.le_of_ble_eq_true rfl) (L0 := [some (.ref (me_a E 54)), some (.long x1), none, some (.int x3), none]) rfl (fun C hC hM hl hQ => bm_feed E C Q J x1 x3 hC hM hQ h)
/-! byteAt -/
def wm_byteAt (Q : Int32 → MS → Prop) (J : MS) (x1 : Int32) : Prop :=
  (if (J 15 0) ≤ x1 then Q (-1000000 : Int32) J else vp_in x1 400 ∧ Q (J 12 (Int32.toNatClampNeg x1)) J)
theorem hd_byteAt : yX3_byteAt.cls = RX3 ∧ yX3_byteAt.cls ≠ "java/lang/invoke/MethodHandle" ∧ yX3_byteAt.cls ≠ "java/lang/invoke/VarHandle" ∧ (parseMethodDescriptor yX3_byteAt.desc).map (fun d => d.parameters.length) = some 1 := by decide +kernel
set_option maxHeartbeats 4000000 in
set_option maxRecDepth 100000 in
theorem bm_byteAt (E : ME) (C : Cx) (Q : Int32 → MS → Prop) (J : MS) (x1 : Int32) (hC : COk C cX3_byteAt RX3 (some .int) 1 16 2) (hM : MOk E C) (hQ : cx_Q C = MQ (cx_b C) (va_Qi Q (BM E) (mA E)) (cx_a C) (cx_s C) (cx_MC C) (cx_MS C) (mA E)) (h : wm_byteAt Q J x1) : GM E C J 0 [some (.ref (me_a E 54)), some (.int x1)] [] := by
  refine g_iload_n hC dX3_byteAt_0 rfl ?_
  refine g_aload_n hC dX3_byteAt_1 rfl ?_
  refine gM_getS hC hM 15 dX3_byteAt_2 q1518 (by decide) (by decide) rfl ?_
  refine g_icmp_ge (tgt := 17) hC dX3_byteAt_5 (by decide) (fun c => ?_) (fun c => ?_)
  · have h := it_p c h
    refine g_ldc (v := -1000000) hC dX3_byteAt_17 q1720 ?_
    refine gM_iret hC hM hQ rfl dX3_byteAt_19 h
  · have h := it_n c h
    refine g_aload_n hC dX3_byteAt_8 rfl ?_
    refine gM_getA hC hM 12 dX3_byteAt_9 q1515 (by decide) (by decide) rfl ?_
    refine g_iload_n hC dX3_byteAt_12 rfl ?_
    refine gM_iald hC hM 12 10 dX3_byteAt_13 rfl (by decide) h.1 ?_
    refine g_goto (tgt := 19) hC dX3_byteAt_14 (by decide) ?_
    refine gM_iret hC hM hQ rfl dX3_byteAt_19 h.2
theorem mm_byteAt (l : Launch) (E : ME) (hI : mInj E) (Q : Int32 → MS → Prop) (J : MS) (x1 : Int32) (h : wm_byteAt Q J x1) : MMet E l yX3_byteAt cX3_byteAt 2 (some .int) ({ frames := 1, cells := 0, slots := 0, locals := 16 }) [.ref (me_a E 54), .int x1] J (va_Qi Q (BM E) (mA E)) :=
  MMet_of hI (by decide) rfl (Nat.le_of_ble_eq_true rfl) (L0 := [some (.ref (me_a E 54)), some (.int x1)]) rfl (fun C hC hM hl hQ => bm_byteAt E C Q J x1 hC hM hQ h)
/-! isLetter -/
def wm_isLetter (Q : Int32 → MS → Prop) (J : MS) (x0 : Int32) : Prop :=
  (if x0 < (97 : Int32) then Q (0 : Int32) J else (if (122 : Int32) < x0 then Q (0 : Int32) J else Q (1 : Int32) J))
theorem hd_isLetter : yX3_isLetter.cls = RX3 ∧ yX3_isLetter.cls ≠ "java/lang/invoke/MethodHandle" ∧ yX3_isLetter.cls ≠ "java/lang/invoke/VarHandle" ∧ (parseMethodDescriptor yX3_isLetter.desc).map (fun d => d.parameters.length) = some 1 := by decide +kernel
set_option maxHeartbeats 4000000 in
set_option maxRecDepth 100000 in
theorem bm_isLetter (E : ME) (C : Cx) (Q : Int32 → MS → Prop) (J : MS) (x0 : Int32) (hC : COk C cX3_isLetter RX3 (some .boolean) 1 16 1) (hM : MOk E C) (hQ : cx_Q C = MQ (cx_b C) (va_Qi Q (BM E) (mA E)) (cx_a C) (cx_s C) (cx_MC C) (cx_MS C) (mA E)) (h : wm_isLetter Q J x0) : GM E C J 0 [some (.int x0)] [] := by
  refine g_iload_n hC dX3_isLetter_0 rfl ?_
  refine g_bipush (v := 97) hC dX3_isLetter_1 (by decide) ?_
  refine g_icmp_lt (tgt := 16) hC dX3_isLetter_3 (by decide) (fun c => ?_) (fun c => ?_)
  · have h := it_p c h
    refine g_iconst (v := 0) hC dX3_isLetter_16 (by decide) ?_
    refine gM_zret hC hM hQ rfl rfl dX3_isLetter_17 h
  · have h := it_n c h
    refine g_iload_n hC dX3_isLetter_6 rfl ?_
    refine g_bipush (v := 122) hC dX3_isLetter_7 (by decide) ?_
    refine g_icmp_gt (tgt := 16) hC dX3_isLetter_9 (by decide) (fun c => ?_) (fun c => ?_)
    · have h := it_p c h
      refine g_iconst (v := 0) hC dX3_isLetter_16 (by decide) ?_
      refine gM_zret hC hM hQ rfl rfl dX3_isLetter_17 h
    · have h := it_n c h
      refine g_iconst (v := 1) hC dX3_isLetter_12 (by decide) ?_
      refine g_goto (tgt := 17) hC dX3_isLetter_13 (by decide) ?_
      refine gM_zret hC hM hQ rfl rfl dX3_isLetter_17 h
theorem mm_isLetter (l : Launch) (E : ME) (hI : mInj E) (Q : Int32 → MS → Prop) (J : MS) (x0 : Int32) (h : wm_isLetter Q J x0) : MMet E l yX3_isLetter cX3_isLetter 1 (some .boolean) ({ frames := 1, cells := 0, slots := 0, locals := 16 }) [.int x0] J (va_Qi Q (BM E) (mA E)) :=
  MMet_of hI (by decide) rfl (Nat.le_of_ble_eq_true rfl) (L0 := [some (.int x0)]) rfl (fun C hC hM hl hQ => bm_isLetter E C Q J x0 hC hM hQ h)
/-! isFigure -/
def wm_isFigure (Q : Int32 → MS → Prop) (J : MS) (x0 : Int32) : Prop :=
  (if x0 < (48 : Int32) then Q (0 : Int32) J else (if (57 : Int32) < x0 then Q (0 : Int32) J else Q (1 : Int32) J))
theorem hd_isFigure : yX3_isFigure.cls = RX3 ∧ yX3_isFigure.cls ≠ "java/lang/invoke/MethodHandle" ∧ yX3_isFigure.cls ≠ "java/lang/invoke/VarHandle" ∧ (parseMethodDescriptor yX3_isFigure.desc).map (fun d => d.parameters.length) = some 1 := by decide +kernel
set_option maxHeartbeats 4000000 in
set_option maxRecDepth 100000 in
theorem bm_isFigure (E : ME) (C : Cx) (Q : Int32 → MS → Prop) (J : MS) (x0 : Int32) (hC : COk C cX3_isFigure RX3 (some .boolean) 1 16 1) (hM : MOk E C) (hQ : cx_Q C = MQ (cx_b C) (va_Qi Q (BM E) (mA E)) (cx_a C) (cx_s C) (cx_MC C) (cx_MS C) (mA E)) (h : wm_isFigure Q J x0) : GM E C J 0 [some (.int x0)] [] := by
  refine g_iload_n hC dX3_isFigure_0 rfl ?_
  refine g_bipush (v := 48) hC dX3_isFigure_1 (by decide) ?_
  refine g_icmp_lt (tgt := 16) hC dX3_isFigure_3 (by decide) (fun c => ?_) (fun c => ?_)
  · have h := it_p c h
    refine g_iconst (v := 0) hC dX3_isFigure_16 (by decide) ?_
    refine gM_zret hC hM hQ rfl rfl dX3_isFigure_17 h
  · have h := it_n c h
    refine g_iload_n hC dX3_isFigure_6 rfl ?_
    refine g_bipush (v := 57) hC dX3_isFigure_7 (by decide) ?_
    refine g_icmp_gt (tgt := 16) hC dX3_isFigure_9 (by decide) (fun c => ?_) (fun c => ?_)
    · have h := it_p c h
      refine g_iconst (v := 0) hC dX3_isFigure_16 (by decide) ?_
      refine gM_zret hC hM hQ rfl rfl dX3_isFigure_17 h
    · have h := it_n c h
      refine g_iconst (v := 1) hC dX3_isFigure_12 (by decide) ?_
      refine g_goto (tgt := 17) hC dX3_isFigure_13 (by decide) ?_
      refine gM_zret hC hM hQ rfl rfl dX3_isFigure_17 h
theorem mm_isFigure (l : Launch) (E : ME) (hI : mInj E) (Q : Int32 → MS → Prop) (J : MS) (x0 : Int32) (h : wm_isFigure Q J x0) : MMet E l yX3_isFigure cX3_isFigure 1 (some .boolean) ({ frames := 1, cells := 0, slots := 0, locals := 16 }) [.int x0] J (va_Qi Q (BM E) (mA E)) :=
  MMet_of hI (by decide) rfl (Nat.le_of_ble_eq_true rfl) (L0 := [some (.int x0)]) rfl (fun C hC hM hl hQ => bm_isFigure E C Q J x0 hC hM hQ h)
/-! step -/
def wm_step_26 (Q : MS → Prop) (K0 : MS → Prop) (J : MS) : Prop :=
  K0 (mset J 16 0 ((J 16 0) + (1 : Int32)))
def wm_step_196 (Q : MS → Prop) (J : MS) : Prop :=
  Q (mset J 19 0 (J 16 0))
def wm_step_193 (Q : MS → Prop) (J : MS) (s1 : Int32) : Prop :=
  wm_step_196 Q (mset J 17 0 s1) 
def wm_step_165 (Q : MS → Prop) (J : MS) (s1 : Int32) : Prop :=
  wm_step_196 Q (mset J 17 0 s1) 
def wm_step_119 (Q : MS → Prop) : Nat → MS → Prop
  | 0, _ => False
  | n + 1, J => wm_byteAt (fun r12 J11 => wm_isFigure (fun r14 J13 => (if r14 = 0 then (if ((J13 16 0) - (J13 18 0)) ≤ (4 : Int32) then wm_step_165 Q J13 (3 : Int32) else wm_step_165 Q J13 (0 : Int32)) else wm_step_119 Q n (mset J13 16 0 ((J13 16 0) + (1 : Int32))))) J11 r12) J (J 16 0)
def wm_step_77 (Q : MS → Prop) : Nat → MS → Prop
  | 0, _ => False
  | n + 1, J => wm_byteAt (fun r17 J16 => wm_isLetter (fun r19 J18 => (if r19 = 0 then wm_step_196 Q (mset J18 17 0 (2 : Int32))  else wm_step_77 Q n (mset J18 16 0 ((J18 16 0) + (1 : Int32))))) J16 r17) J (J 16 0)
def wm_step_0 (Q : MS → Prop) : Nat → MS → Prop
  | 0, _ => False
  | n + 1, J => wm_byteAt (fun r2 J1 => (if r2 = (32 : Int32) then wm_step_26 Q (wm_step_0 Q n) J1  else wm_byteAt (fun r4 J3 => (if r4 = (10 : Int32) then wm_step_26 Q (wm_step_0 Q n) J3  else wm_byteAt (fun r6 J5 => (if r6 = (-1000000 : Int32) then wm_step_196 Q (mset J5 17 0 (1 : Int32))  else wm_isLetter (fun r8 J7 => (if r8 = 0 then wm_isFigure (fun r10 J9 => (if r10 = 0 then (if r6 = (59 : Int32) then wm_step_193 Q (mset J9 16 0 ((J9 16 0) + (1 : Int32))) (4 : Int32) else wm_step_193 Q (mset J9 16 0 ((J9 16 0) + (1 : Int32))) (0 : Int32)) else ∃ n15, wm_step_119 Q n15 J9 )) J7 r6 else ∃ n20, wm_step_77 Q n20 J7 )) J5 r6)) (mset J3 18 0 (J3 16 0)) ((mset J3 18 0 (J3 16 0)) 16 0))) J1 (J1 16 0))) J (J 16 0)
def wm_step (Q : MS → Prop) (J : MS) : Prop :=
  ∃ n21, wm_step_0 Q n21 J 
theorem hd_step : yX3_step.cls = RX3 ∧ yX3_step.cls ≠ "java/lang/invoke/MethodHandle" ∧ yX3_step.cls ≠ "java/lang/invoke/VarHandle" ∧ (parseMethodDescriptor yX3_step.desc).map (fun d => d.parameters.length) = some 0 := by decide +kernel
set_option maxHeartbeats 4000000 in
set_option maxRecDepth 100000 in
theorem bm_step (E : ME) (C : Cx) (Q : MS → Prop) (J : MS) (hC : COk C cX3_step RX3 none 2 37 2) (hM : MOk E C) (hQ : cx_Q C = MQ (cx_b C) (va_Qv Q (BM E) (mA E)) (cx_a C) (cx_s C) (cx_MC C) (cx_MS C) (mA E)) (h : wm_step Q J ) : GM E C J 0 [some (.ref (me_a E 54)), none] [] := by
  have s_26 : ∀ (K0 : MS → Prop) (hK0 : ∀ (J : MS), K0 J  → GM E C J 0 [some (.ref (me_a E 54)), none] []) (J : MS), wm_step_26 Q K0 J  → GM E C J 26 [some (.ref (me_a E 54)), none] [] := by
    intro K0 hK0 J  h
    refine g_aload_n hC dX3_step_26 rfl ?_
    refine g_dup hC dX3_step_27 rfl ?_
    refine gM_getS hC hM 16 dX3_step_28 q1519 (by decide) (by decide) rfl ?_
    refine g_iconst (v := 1) hC dX3_step_31 (by decide) ?_
    refine g_iadd hC dX3_step_32 ?_
    refine gM_put hC hM 16 (ty := .int) dX3_step_33 q1519 (by decide) (by decide) rfl rfl rfl rfl rfl ?_
    refine g_goto (tgt := 0) hC dX3_step_36 (by decide) ?_
    exact hK0 (mset J 16 0 ((J 16 0) + (1 : Int32)))  h
  have s_196 : ∀ (J : MS), wm_step_196 Q  J  → GM E C J 196 [some (.ref (me_a E 54)), none] [] := by
    intro  J  h
    refine g_aload_n hC dX3_step_196 rfl ?_
    refine g_aload_n hC dX3_step_197 rfl ?_
    refine gM_getS hC hM 16 dX3_step_198 q1519 (by decide) (by decide) rfl ?_
    refine gM_put hC hM 19 (ty := .int) dX3_step_201 q1522 (by decide) (by decide) rfl rfl rfl rfl rfl ?_
    refine gM_vret hC hM hQ rfl dX3_step_204 h
  have s_193 : ∀ (J : MS) (s1 : Int32), wm_step_193 Q  J s1 → GM E C J 193 [some (.ref (me_a E 54)), none] [.int s1, .ref (me_a E 54)] := by
    intro  J s1 h
    refine gM_put hC hM 17 (ty := .int) dX3_step_193 q1520 (by decide) (by decide) rfl rfl rfl rfl rfl ?_
    exact s_196 (mset J 17 0 s1) h
  have s_165 : ∀ (J : MS) (s1 : Int32), wm_step_165 Q  J s1 → GM E C J 165 [some (.ref (me_a E 54)), none] [.int s1, .ref (me_a E 54)] := by
    intro  J s1 h
    refine gM_put hC hM 17 (ty := .int) dX3_step_165 q1520 (by decide) (by decide) rfl rfl rfl rfl rfl ?_
    refine g_goto (tgt := 196) hC dX3_step_168 (by decide) ?_
    exact s_196 (mset J 17 0 s1) h
  have s_119 : ∀ (n : Nat) (J : MS), wm_step_119 Q  n J  → GM E C J 119 [some (.ref (me_a E 54)), none] [] := by
    intro  n
    induction n with
    | zero =>
      intro J  h
      exact False.elim h
    | succ n ih =>
      intro J  h
      refine g_aload_n hC dX3_step_119 rfl ?_
      refine g_aload_n hC dX3_step_120 rfl ?_
      refine gM_getS hC hM 16 dX3_step_121 q1519 (by decide) (by decide) rfl ?_
      refine gM_Vi (As := [.int (J 16 0)]) (rest := []) hC hM (mm_byteAt (cx_l C) E hM.2.1 _ _ _ h) (lw_V q1716 q1718 qs40 q76 q1719) hd_byteAt rfl rfl (Nat.le_of_ble_eq_true rfl) ⟨Nat.le_of_ble_eq_true rfl, Nat.le_of_ble_eq_true rfl⟩ dX3_step_124 ?_
      intro r12 J11 h
      refine gM_Si (As := [.int r12]) (rest := []) hC hM (mm_isFigure (cx_l C) E hM.2.1 _ _ _ h) (lw_S q1724 q1725 q76 q1726) hd_isFigure rfl rfl (Nat.le_of_ble_eq_true rfl) ⟨Nat.le_of_ble_eq_true rfl, Nat.le_of_ble_eq_true rfl⟩ dX3_step_127 ?_
      intro r14 J13 h
      refine g_if_eq (tgt := 146) hC dX3_step_130 (by decide) (fun c => ?_) (fun c => ?_)
      · have h := it_p c h
        refine g_aload_n hC dX3_step_146 rfl ?_
        refine g_aload_n hC dX3_step_147 rfl ?_
        refine gM_getS hC hM 16 dX3_step_148 q1519 (by decide) (by decide) rfl ?_
        refine g_aload_n hC dX3_step_151 rfl ?_
        refine gM_getS hC hM 18 dX3_step_152 q1521 (by decide) (by decide) rfl ?_
        refine g_isub hC dX3_step_155 ?_
        refine g_iconst (v := 4) hC dX3_step_156 (by decide) ?_
        refine g_icmp_le (tgt := 164) hC dX3_step_157 (by decide) (fun c => ?_) (fun c => ?_)
        · have h := it_p c h
          refine g_iconst (v := 3) hC dX3_step_164 (by decide) ?_
          exact s_165 J13 (3 : Int32) h
        · have h := it_n c h
          refine g_iconst (v := 0) hC dX3_step_160 (by decide) ?_
          refine g_goto (tgt := 165) hC dX3_step_161 (by decide) ?_
          exact s_165 J13 (0 : Int32) h
      · have h := it_n c h
        refine g_aload_n hC dX3_step_133 rfl ?_
        refine g_dup hC dX3_step_134 rfl ?_
        refine gM_getS hC hM 16 dX3_step_135 q1519 (by decide) (by decide) rfl ?_
        refine g_iconst (v := 1) hC dX3_step_138 (by decide) ?_
        refine g_iadd hC dX3_step_139 ?_
        refine gM_put hC hM 16 (ty := .int) dX3_step_140 q1519 (by decide) (by decide) rfl rfl rfl rfl rfl ?_
        refine g_goto (tgt := 119) hC dX3_step_143 (by decide) ?_
        exact ih (mset J13 16 0 ((J13 16 0) + (1 : Int32)))  h
  have s_77 : ∀ (n : Nat) (J : MS), wm_step_77 Q  n J  → GM E C J 77 [some (.ref (me_a E 54)), none] [] := by
    intro  n
    induction n with
    | zero =>
      intro J  h
      exact False.elim h
    | succ n ih =>
      intro J  h
      refine g_aload_n hC dX3_step_77 rfl ?_
      refine g_aload_n hC dX3_step_78 rfl ?_
      refine gM_getS hC hM 16 dX3_step_79 q1519 (by decide) (by decide) rfl ?_
      refine gM_Vi (As := [.int (J 16 0)]) (rest := []) hC hM (mm_byteAt (cx_l C) E hM.2.1 _ _ _ h) (lw_V q1716 q1718 qs40 q76 q1719) hd_byteAt rfl rfl (Nat.le_of_ble_eq_true rfl) ⟨Nat.le_of_ble_eq_true rfl, Nat.le_of_ble_eq_true rfl⟩ dX3_step_82 ?_
      intro r17 J16 h
      refine gM_Si (As := [.int r17]) (rest := []) hC hM (mm_isLetter (cx_l C) E hM.2.1 _ _ _ h) (lw_S q1721 q1722 q76 q1723) hd_isLetter rfl rfl (Nat.le_of_ble_eq_true rfl) ⟨Nat.le_of_ble_eq_true rfl, Nat.le_of_ble_eq_true rfl⟩ dX3_step_85 ?_
      intro r19 J18 h
      refine g_if_eq (tgt := 104) hC dX3_step_88 (by decide) (fun c => ?_) (fun c => ?_)
      · have h := it_p c h
        refine g_aload_n hC dX3_step_104 rfl ?_
        refine g_iconst (v := 2) hC dX3_step_105 (by decide) ?_
        refine gM_put hC hM 17 (ty := .int) dX3_step_106 q1520 (by decide) (by decide) rfl rfl rfl rfl rfl ?_
        refine g_goto (tgt := 196) hC dX3_step_109 (by decide) ?_
        exact s_196 (mset J18 17 0 (2 : Int32)) h
      · have h := it_n c h
        refine g_aload_n hC dX3_step_91 rfl ?_
        refine g_dup hC dX3_step_92 rfl ?_
        refine gM_getS hC hM 16 dX3_step_93 q1519 (by decide) (by decide) rfl ?_
        refine g_iconst (v := 1) hC dX3_step_96 (by decide) ?_
        refine g_iadd hC dX3_step_97 ?_
        refine gM_put hC hM 16 (ty := .int) dX3_step_98 q1519 (by decide) (by decide) rfl rfl rfl rfl rfl ?_
        refine g_goto (tgt := 77) hC dX3_step_101 (by decide) ?_
        exact ih (mset J18 16 0 ((J18 16 0) + (1 : Int32)))  h
  have s_0 : ∀ (n : Nat) (J : MS), wm_step_0 Q  n J  → GM E C J 0 [some (.ref (me_a E 54)), none] [] := by
    intro  n
    induction n with
    | zero =>
      intro J  h
      exact False.elim h
    | succ n ih =>
      intro J  h
      refine g_aload_n hC dX3_step_0 rfl ?_
      refine g_aload_n hC dX3_step_1 rfl ?_
      refine gM_getS hC hM 16 dX3_step_2 q1519 (by decide) (by decide) rfl ?_
      refine gM_Vi (As := [.int (J 16 0)]) (rest := []) hC hM (mm_byteAt (cx_l C) E hM.2.1 _ _ _ h) (lw_V q1716 q1718 qs40 q76 q1719) hd_byteAt rfl rfl (Nat.le_of_ble_eq_true rfl) ⟨Nat.le_of_ble_eq_true rfl, Nat.le_of_ble_eq_true rfl⟩ dX3_step_5 ?_
      intro r2 J1 h
      refine g_bipush (v := 32) hC dX3_step_8 (by decide) ?_
      refine g_icmp_eq (tgt := 26) hC dX3_step_10 (by decide) (fun c => ?_) (fun c => ?_)
      · have h := it_p c h
        exact s_26 (wm_step_0 Q n) ih J1 h
      · have h := it_n c h
        refine g_aload_n hC dX3_step_13 rfl ?_
        refine g_aload_n hC dX3_step_14 rfl ?_
        refine gM_getS hC hM 16 dX3_step_15 q1519 (by decide) (by decide) rfl ?_
        refine gM_Vi (As := [.int (J1 16 0)]) (rest := []) hC hM (mm_byteAt (cx_l C) E hM.2.1 _ _ _ h) (lw_V q1716 q1718 qs40 q76 q1719) hd_byteAt rfl rfl (Nat.le_of_ble_eq_true rfl) ⟨Nat.le_of_ble_eq_true rfl, Nat.le_of_ble_eq_true rfl⟩ dX3_step_18 ?_
        intro r4 J3 h
        refine g_bipush (v := 10) hC dX3_step_21 (by decide) ?_
        refine g_icmp_ne (tgt := 39) hC dX3_step_23 (by decide) (fun c => ?_) (fun c => ?_)
        · have h := it_n c h
          refine g_aload_n hC dX3_step_39 rfl ?_
          refine g_aload_n hC dX3_step_40 rfl ?_
          refine gM_getS hC hM 16 dX3_step_41 q1519 (by decide) (by decide) rfl ?_
          refine gM_put hC hM 18 (ty := .int) dX3_step_44 q1521 (by decide) (by decide) rfl rfl rfl rfl rfl ?_
          refine g_aload_n hC dX3_step_47 rfl ?_
          refine g_aload_n hC dX3_step_48 rfl ?_
          refine gM_getS hC hM 16 dX3_step_49 q1519 (by decide) (by decide) rfl ?_
          refine gM_Vi (As := [.int ((mset J3 18 0 (J3 16 0)) 16 0)]) (rest := []) hC hM (mm_byteAt (cx_l C) E hM.2.1 _ _ _ h) (lw_V q1716 q1718 qs40 q76 q1719) hd_byteAt rfl rfl (Nat.le_of_ble_eq_true rfl) ⟨Nat.le_of_ble_eq_true rfl, Nat.le_of_ble_eq_true rfl⟩ dX3_step_52 ?_
          intro r6 J5 h
          refine g_istore_n hC dX3_step_55 rfl (by decide) rfl rfl ?_
          refine g_iload_n hC dX3_step_56 rfl ?_
          refine g_ldc (v := -1000000) hC dX3_step_57 q1720 ?_
          refine g_icmp_ne (tgt := 70) hC dX3_step_59 (by decide) (fun c => ?_) (fun c => ?_)
          · have h := it_n c h
            refine g_iload_n hC dX3_step_70 rfl ?_
            refine gM_Si (As := [.int r6]) (rest := []) hC hM (mm_isLetter (cx_l C) E hM.2.1 _ _ _ h) (lw_S q1721 q1722 q76 q1723) hd_isLetter rfl rfl (Nat.le_of_ble_eq_true rfl) ⟨Nat.le_of_ble_eq_true rfl, Nat.le_of_ble_eq_true rfl⟩ dX3_step_71 ?_
            intro r8 J7 h
            refine g_if_eq (tgt := 112) hC dX3_step_74 (by decide) (fun c => ?_) (fun c => ?_)
            · have h := it_p c h
              refine g_iload_n hC dX3_step_112 rfl ?_
              refine gM_Si (As := [.int r6]) (rest := []) hC hM (mm_isFigure (cx_l C) E hM.2.1 _ _ _ h) (lw_S q1724 q1725 q76 q1726) hd_isFigure rfl rfl (Nat.le_of_ble_eq_true rfl) ⟨Nat.le_of_ble_eq_true rfl, Nat.le_of_ble_eq_true rfl⟩ dX3_step_113 ?_
              intro r10 J9 h
              refine g_if_eq (tgt := 171) hC dX3_step_116 (by decide) (fun c => ?_) (fun c => ?_)
              · have h := it_p c h
                refine g_aload_n hC dX3_step_171 rfl ?_
                refine g_dup hC dX3_step_172 rfl ?_
                refine gM_getS hC hM 16 dX3_step_173 q1519 (by decide) (by decide) rfl ?_
                refine g_iconst (v := 1) hC dX3_step_176 (by decide) ?_
                refine g_iadd hC dX3_step_177 ?_
                refine gM_put hC hM 16 (ty := .int) dX3_step_178 q1519 (by decide) (by decide) rfl rfl rfl rfl rfl ?_
                refine g_aload_n hC dX3_step_181 rfl ?_
                refine g_iload_n hC dX3_step_182 rfl ?_
                refine g_bipush (v := 59) hC dX3_step_183 (by decide) ?_
                refine g_icmp_ne (tgt := 192) hC dX3_step_185 (by decide) (fun c => ?_) (fun c => ?_)
                · have h := it_n c h
                  refine g_iconst (v := 0) hC dX3_step_192 (by decide) ?_
                  refine g_sub [true, false] rfl ?_
                  exact s_193 (mset J9 16 0 ((J9 16 0) + (1 : Int32))) (0 : Int32) h
                · have h := it_p c h
                  refine g_iconst (v := 4) hC dX3_step_188 (by decide) ?_
                  refine g_goto (tgt := 193) hC dX3_step_189 (by decide) ?_
                  refine g_sub [true, false] rfl ?_
                  exact s_193 (mset J9 16 0 ((J9 16 0) + (1 : Int32))) (4 : Int32) h
              · have h := it_n c h
                refine g_sub [true, false] rfl ?_
                obtain ⟨n0, h0⟩ := h
                exact s_119 n0 J9 h0
            · have h := it_n c h
              refine g_sub [true, false] rfl ?_
              obtain ⟨n0, h0⟩ := h
              exact s_77 n0 J7 h0
          · have h := it_p c h
            refine g_aload_n hC dX3_step_62 rfl ?_
            refine g_iconst (v := 1) hC dX3_step_63 (by decide) ?_
            refine gM_put hC hM 17 (ty := .int) dX3_step_64 q1520 (by decide) (by decide) rfl rfl rfl rfl rfl ?_
            refine g_goto (tgt := 196) hC dX3_step_67 (by decide) ?_
            refine g_sub [true, false] rfl ?_
            exact s_196 (mset J5 17 0 (1 : Int32)) h
        · have h := it_p c h
          exact s_26 (wm_step_0 Q n) ih J3 h
  obtain ⟨n0, h0⟩ := h
  exact s_0 n0 J h0
theorem mm_step (l : Launch) (E : ME) (hI : mInj E) (Q : MS → Prop) (J : MS) (h : wm_step Q J ) : MMet E l yX3_step cX3_step 2 none ({ frames := 2, cells := 0, slots := 0, locals := 37 }) [.ref (me_a E 54)] J (va_Qv Q (BM E) (mA E)) :=
  MMet_of hI (by decide) rfl (Nat.le_of_ble_eq_true rfl) (L0 := [some (.ref (me_a E 54)), none]) rfl (fun C hC hM hl hQ => bm_step E C Q J  hC hM hQ h)
/-! word -/
def wm_word_7 (Q : Int64 → MS → Prop) : Nat → MS → Int64 → Int32 → Prop
  | 0, _, _, _ => False
  | n + 1, J, a1, a3 => (if (J 19 0) ≤ a3 then Q a1 J else (if (J 17 0) = (2 : Int32) then (if (9 : Int32) ≤ ((J 19 0) - (J 18 0)) then Q a1 J else vp_in a3 400 ∧ wm_word_7 Q n J ((a1 <<< (Int32.toInt64 (8 : Int32) &&& 63)) ||| (Int32.toInt64 (J 12 (Int32.toNatClampNeg a3)))) (a3 + (1 : Int32))) else Q a1 J))
def wm_word (Q : Int64 → MS → Prop) (J : MS) : Prop :=
  ∃ n1, wm_word_7 Q n1 J (0 : Int64) (J 18 0)
theorem hd_word : yX3_word.cls = RX3 ∧ yX3_word.cls ≠ "java/lang/invoke/MethodHandle" ∧ yX3_word.cls ≠ "java/lang/invoke/VarHandle" ∧ (parseMethodDescriptor yX3_word.desc).map (fun d => d.parameters.length) = some 0 := by decide +kernel
set_option maxHeartbeats 4000000 in
set_option maxRecDepth 100000 in
theorem bm_word (E : ME) (C : Cx) (Q : Int64 → MS → Prop) (J : MS) (hC : COk C cX3_word RX3 (some .long) 1 16 4) (hM : MOk E C) (hQ : cx_Q C = MQ (cx_b C) (va_Ql Q (BM E) (mA E)) (cx_a C) (cx_s C) (cx_MC C) (cx_MS C) (mA E)) (h : wm_word Q J ) : GM E C J 0 [some (.ref (me_a E 54)), none, none, none] [] := by
  have s_7 : ∀ (n : Nat) (J : MS) (a1 : Int64) (a3 : Int32), wm_word_7 Q  n J a1 a3 → GM E C J 7 [some (.ref (me_a E 54)), some (.long a1), none, some (.int a3)] [] := by
    intro  n
    induction n with
    | zero =>
      intro J a1 a3 h
      exact False.elim h
    | succ n ih =>
      intro J a1 a3 h
      refine g_iload_n hC dX3_word_7 rfl ?_
      refine g_aload_n hC dX3_word_8 rfl ?_
      refine gM_getS hC hM 19 dX3_word_9 q1522 (by decide) (by decide) rfl ?_
      refine g_icmp_ge (tgt := 56) hC dX3_word_12 (by decide) (fun c => ?_) (fun c => ?_)
      · have h := it_p c h
        refine g_lload_n hC dX3_word_56 rfl ?_
        refine gM_lret hC hM hQ rfl dX3_word_57 h
      · have h := it_n c h
        refine g_aload_n hC dX3_word_15 rfl ?_
        refine gM_getS hC hM 17 dX3_word_16 q1520 (by decide) (by decide) rfl ?_
        refine g_iconst (v := 2) hC dX3_word_19 (by decide) ?_
        refine g_icmp_ne (tgt := 56) hC dX3_word_20 (by decide) (fun c => ?_) (fun c => ?_)
        · have h := it_n c h
          refine g_lload_n hC dX3_word_56 rfl ?_
          refine gM_lret hC hM hQ rfl dX3_word_57 h
        · have h := it_p c h
          refine g_aload_n hC dX3_word_23 rfl ?_
          refine gM_getS hC hM 19 dX3_word_24 q1522 (by decide) (by decide) rfl ?_
          refine g_aload_n hC dX3_word_27 rfl ?_
          refine gM_getS hC hM 18 dX3_word_28 q1521 (by decide) (by decide) rfl ?_
          refine g_isub hC dX3_word_31 ?_
          refine g_bipush (v := 9) hC dX3_word_32 (by decide) ?_
          refine g_icmp_ge (tgt := 56) hC dX3_word_34 (by decide) (fun c => ?_) (fun c => ?_)
          · have h := it_p c h
            refine g_lload_n hC dX3_word_56 rfl ?_
            refine gM_lret hC hM hQ rfl dX3_word_57 h
          · have h := it_n c h
            refine g_lload_n hC dX3_word_37 rfl ?_
            refine g_bipush (v := 8) hC dX3_word_38 (by decide) ?_
            refine g_lshl hC dX3_word_40 ?_
            refine g_aload_n hC dX3_word_41 rfl ?_
            refine gM_getA hC hM 12 dX3_word_42 q1515 (by decide) (by decide) rfl ?_
            refine g_iload_n hC dX3_word_45 rfl ?_
            refine gM_iald hC hM 12 10 dX3_word_46 rfl (by decide) h.1 ?_
            refine g_i2l hC dX3_word_47 ?_
            refine g_lor hC dX3_word_48 ?_
            refine g_lstore_n hC dX3_word_49 rfl (by decide) rfl rfl ?_
            refine g_iinc (v := (a3 + (1 : Int32))) hC dX3_word_50 rfl rfl (by decide) rfl rfl ?_
            refine g_goto (tgt := 7) hC dX3_word_53 (by decide) ?_
            exact ih J ((a1 <<< (Int32.toInt64 (8 : Int32) &&& 63)) ||| (Int32.toInt64 (J 12 (Int32.toNatClampNeg a3)))) (a3 + (1 : Int32)) h.2
  refine g_lconst (v := 0) hC dX3_word_0 (by decide) ?_
  refine g_lstore_n hC dX3_word_1 rfl (by decide) rfl rfl ?_
  refine g_aload_n hC dX3_word_2 rfl ?_
  refine gM_getS hC hM 18 dX3_word_3 q1521 (by decide) (by decide) rfl ?_
  refine g_istore_n hC dX3_word_6 rfl (by decide) rfl rfl ?_
  obtain ⟨n0, h0⟩ := h
  exact s_7 n0 J (0 : Int64) (J 18 0) h0
theorem mm_word (l : Launch) (E : ME) (hI : mInj E) (Q : Int64 → MS → Prop) (J : MS) (h : wm_word Q J ) : MMet E l yX3_word cX3_word 4 (some .long) ({ frames := 1, cells := 0, slots := 0, locals := 16 }) [.ref (me_a E 54)] J (va_Ql Q (BM E) (mA E)) :=
  MMet_of hI (by decide) rfl (Nat.le_of_ble_eq_true rfl) (L0 := [some (.ref (me_a E 54)), none, none, none]) rfl (fun C hC hM hl hQ => bm_word E C Q J  hC hM hQ h)
/-! bad -/
def wm_bad (Q : MS → Prop) (J : MS) (x1 : Int32) : Prop :=
  (if (J 20 0) = 0 then Q (mset (mset J 20 0 x1) 21 0 ((mset J 20 0 x1) 18 0)) else Q J)
theorem hd_bad : yX3_bad.cls = RX3 ∧ yX3_bad.cls ≠ "java/lang/invoke/MethodHandle" ∧ yX3_bad.cls ≠ "java/lang/invoke/VarHandle" ∧ (parseMethodDescriptor yX3_bad.desc).map (fun d => d.parameters.length) = some 1 := by decide +kernel
set_option maxHeartbeats 4000000 in
set_option maxRecDepth 100000 in
theorem bm_bad (E : ME) (C : Cx) (Q : MS → Prop) (J : MS) (x1 : Int32) (hC : COk C cX3_bad RX3 none 1 16 2) (hM : MOk E C) (hQ : cx_Q C = MQ (cx_b C) (va_Qv Q (BM E) (mA E)) (cx_a C) (cx_s C) (cx_MC C) (cx_MS C) (mA E)) (h : wm_bad Q J x1) : GM E C J 0 [some (.ref (me_a E 54)), some (.int x1)] [] := by
  refine g_aload_n hC dX3_bad_0 rfl ?_
  refine gM_getS hC hM 20 dX3_bad_1 q1523 (by decide) (by decide) rfl ?_
  refine g_if_ne (tgt := 20) hC dX3_bad_4 (by decide) (fun c => ?_) (fun c => ?_)
  · have h := it_n c h
    refine gM_vret hC hM hQ rfl dX3_bad_20 h
  · have h := it_p c h
    refine g_aload_n hC dX3_bad_7 rfl ?_
    refine g_iload_n hC dX3_bad_8 rfl ?_
    refine gM_put hC hM 20 (ty := .int) dX3_bad_9 q1523 (by decide) (by decide) rfl rfl rfl rfl rfl ?_
    refine g_aload_n hC dX3_bad_12 rfl ?_
    refine g_aload_n hC dX3_bad_13 rfl ?_
    refine gM_getS hC hM 18 dX3_bad_14 q1521 (by decide) (by decide) rfl ?_
    refine gM_put hC hM 21 (ty := .int) dX3_bad_17 q1524 (by decide) (by decide) rfl rfl rfl rfl rfl ?_
    refine gM_vret hC hM hQ rfl dX3_bad_20 h
theorem mm_bad (l : Launch) (E : ME) (hI : mInj E) (Q : MS → Prop) (J : MS) (x1 : Int32) (h : wm_bad Q J x1) : MMet E l yX3_bad cX3_bad 2 none ({ frames := 1, cells := 0, slots := 0, locals := 16 }) [.ref (me_a E 54), .int x1] J (va_Qv Q (BM E) (mA E)) :=
  MMet_of hI (by decide) rfl (Nat.le_of_ble_eq_true rfl) (L0 := [some (.ref (me_a E 54)), some (.int x1)]) rfl (fun C hC hM hl hQ => bm_bad E C Q J x1 hC hM hQ h)
/-! need -/
def wm_need_9 (Q : MS → Prop) (J : MS) : Prop :=
  (if (J 20 0) = 0 then wm_step (fun J1 => Q J1) J else Q J)
def wm_need (Q : MS → Prop) (J : MS) (x1 : Int32) : Prop :=
  (if x1 = 0 then wm_bad (fun J3 => wm_need_9 Q J3 ) J (1 : Int32) else wm_need_9 Q J )
theorem hd_need : yX3_need.cls = RX3 ∧ yX3_need.cls ≠ "java/lang/invoke/MethodHandle" ∧ yX3_need.cls ≠ "java/lang/invoke/VarHandle" ∧ (parseMethodDescriptor yX3_need.desc).map (fun d => d.parameters.length) = some 1 := by decide +kernel
set_option maxHeartbeats 4000000 in
set_option maxRecDepth 100000 in
theorem bm_need (E : ME) (C : Cx) (Q : MS → Prop) (J : MS) (x1 : Int32) (hC : COk C cX3_need RX3 none 3 58 2) (hM : MOk E C) (hQ : cx_Q C = MQ (cx_b C) (va_Qv Q (BM E) (mA E)) (cx_a C) (cx_s C) (cx_MC C) (cx_MS C) (mA E)) (h : wm_need Q J x1) : GM E C J 0 [some (.ref (me_a E 54)), some (.int x1)] [] := by
  have s_9 : ∀ (J : MS), wm_need_9 Q  J  → GM E C J 9 [some (.ref (me_a E 54)), none] [] := by
    intro  J  h
    refine g_aload_n hC dX3_need_9 rfl ?_
    refine gM_getS hC hM 20 dX3_need_10 q1523 (by decide) (by decide) rfl ?_
    refine g_if_ne (tgt := 20) hC dX3_need_13 (by decide) (fun c => ?_) (fun c => ?_)
    · have h := it_n c h
      refine gM_vret hC hM hQ rfl dX3_need_20 h
    · have h := it_p c h
      refine g_aload_n hC dX3_need_16 rfl ?_
      refine gM_Vv (As := []) (rest := []) hC hM (mm_step (cx_l C) E hM.2.1 _ _  h) (lw_V q1712 q1714 qs39 q76 q1715) hd_step rfl rfl (Nat.le_of_ble_eq_true rfl) ⟨Nat.le_of_ble_eq_true rfl, Nat.le_of_ble_eq_true rfl⟩ dX3_need_17 ?_
      intro J1 h
      refine gM_vret hC hM hQ rfl dX3_need_20 h
  refine g_iload_n hC dX3_need_0 rfl ?_
  refine g_if_ne (tgt := 9) hC dX3_need_1 (by decide) (fun c => ?_) (fun c => ?_)
  · have h := it_n c h
    refine g_sub [true, false] rfl ?_
    exact s_9 J h
  · have h := it_p c h
    refine g_aload_n hC dX3_need_4 rfl ?_
    refine g_iconst (v := 1) hC dX3_need_5 (by decide) ?_
    refine gM_Vv (As := [.int (1 : Int32)]) (rest := []) hC hM (mm_bad (cx_l C) E hM.2.1 _ _ _ h) (lw_V q1736 q1738 qs43 q76 q1739) hd_bad rfl rfl (Nat.le_of_ble_eq_true rfl) ⟨Nat.le_of_ble_eq_true rfl, Nat.le_of_ble_eq_true rfl⟩ dX3_need_6 ?_
    intro J3 h
    refine g_sub [true, false] rfl ?_
    exact s_9 J3 h
theorem mm_need (l : Launch) (E : ME) (hI : mInj E) (Q : MS → Prop) (J : MS) (x1 : Int32) (h : wm_need Q J x1) : MMet E l yX3_need cX3_need 2 none ({ frames := 3, cells := 0, slots := 0, locals := 58 }) [.ref (me_a E 54), .int x1] J (va_Qv Q (BM E) (mA E)) :=
  MMet_of hI (by decide) rfl (Nat.le_of_ble_eq_true rfl) (L0 := [some (.ref (me_a E 54)), some (.int x1)]) rfl (fun C hC hM hl hQ => bm_need E C Q J x1 hC hM hQ h)
/-! numberTo -/
def wm_numberTo_85 (Q : Int32 → MS → Prop) (J : MS) (a2 : Int32) (s1 : Int32) : Prop :=
  wm_need (fun J1 => Q a2 J1) J s1
def wm_numberTo_71 (Q : Int32 → MS → Prop) (J : MS) (a2 : Int32) : Prop :=
  (if (J 17 0) = (3 : Int32) then wm_numberTo_85 Q J a2 (1 : Int32) else wm_numberTo_85 Q J a2 (0 : Int32))
def wm_numberTo_53 (Q : Int32 → MS → Prop) (J : MS) (a1 : Int32) (a2 : Int32) : Prop :=
  (if (J 17 0) = (3 : Int32) then (if a2 ≤ a1 then wm_numberTo_71 Q J a2 else wm_bad (fun J3 => wm_numberTo_71 Q J3 a2) J (2 : Int32)) else wm_numberTo_71 Q J a2)
def wm_numberTo_16 (Q : Int32 → MS → Prop) : Nat → MS → Int32 → Int32 → Int32 → Prop
  | 0, _, _, _, _ => False
  | n + 1, J, a1, a2, a3 => (if (J 19 0) ≤ a3 then wm_numberTo_53 Q J a1 a2 else (if (J 17 0) = (3 : Int32) then vp_in a3 400 ∧ wm_numberTo_16 Q n J a1 ((((10 : Int32) * a2) + (J 12 (Int32.toNatClampNeg a3))) - (48 : Int32)) (a3 + (1 : Int32)) else wm_numberTo_53 Q J a1 a2))
def wm_numberTo (Q : Int32 → MS → Prop) (J : MS) (x1 : Int32) : Prop :=
  (if (J 20 0) ≤ 0 then ∃ n5, wm_numberTo_16 Q n5 J x1 (0 : Int32) (J 18 0) else Q (0 : Int32) J)
theorem hd_numberTo : yX3_numberTo.cls = RX3 ∧ yX3_numberTo.cls ≠ "java/lang/invoke/MethodHandle" ∧ yX3_numberTo.cls ≠ "java/lang/invoke/VarHandle" ∧ (parseMethodDescriptor yX3_numberTo.desc).map (fun d => d.parameters.length) = some 1 := by decide +kernel
set_option maxHeartbeats 4000000 in
set_option maxRecDepth 100000 in
theorem bm_numberTo (E : ME) (C : Cx) (Q : Int32 → MS → Prop) (J : MS) (x1 : Int32) (hC : COk C cX3_numberTo RX3 (some .int) 4 79 4) (hM : MOk E C) (hQ : cx_Q C = MQ (cx_b C) (va_Qi Q (BM E) (mA E)) (cx_a C) (cx_s C) (cx_MC C) (cx_MS C) (mA E)) (h : wm_numberTo Q J x1) : GM E C J 0 [some (.ref (me_a E 54)), some (.int x1), none, none] [] := by
  have s_85 : ∀ (J : MS) (a2 : Int32) (s1 : Int32), wm_numberTo_85 Q  J a2 s1 → GM E C J 85 [some (.ref (me_a E 54)), none, some (.int a2), none] [.int s1, .ref (me_a E 54)] := by
    intro  J a2 s1 h
    refine gM_Vv (As := [.int s1]) (rest := []) hC hM (mm_need (cx_l C) E hM.2.1 _ _ _ h) (lw_V q1732 q1734 qs42 q76 q1735) hd_need rfl rfl (Nat.le_of_ble_eq_true rfl) ⟨Nat.le_of_ble_eq_true rfl, Nat.le_of_ble_eq_true rfl⟩ dX3_numberTo_85 ?_
    intro J1 h
    refine g_iload_n hC dX3_numberTo_88 rfl ?_
    refine gM_iret hC hM hQ rfl dX3_numberTo_89 h
  have s_71 : ∀ (J : MS) (a2 : Int32), wm_numberTo_71 Q  J a2 → GM E C J 71 [some (.ref (me_a E 54)), none, some (.int a2), none] [] := by
    intro  J a2 h
    refine g_aload_n hC dX3_numberTo_71 rfl ?_
    refine g_aload_n hC dX3_numberTo_72 rfl ?_
    refine gM_getS hC hM 17 dX3_numberTo_73 q1520 (by decide) (by decide) rfl ?_
    refine g_iconst (v := 3) hC dX3_numberTo_76 (by decide) ?_
    refine g_icmp_ne (tgt := 84) hC dX3_numberTo_77 (by decide) (fun c => ?_) (fun c => ?_)
    · have h := it_n c h
      refine g_iconst (v := 0) hC dX3_numberTo_84 (by decide) ?_
      exact s_85 J a2 (0 : Int32) h
    · have h := it_p c h
      refine g_iconst (v := 1) hC dX3_numberTo_80 (by decide) ?_
      refine g_goto (tgt := 85) hC dX3_numberTo_81 (by decide) ?_
      exact s_85 J a2 (1 : Int32) h
  have s_53 : ∀ (J : MS) (a1 : Int32) (a2 : Int32), wm_numberTo_53 Q  J a1 a2 → GM E C J 53 [some (.ref (me_a E 54)), some (.int a1), some (.int a2), none] [] := by
    intro  J a1 a2 h
    refine g_aload_n hC dX3_numberTo_53 rfl ?_
    refine gM_getS hC hM 17 dX3_numberTo_54 q1520 (by decide) (by decide) rfl ?_
    refine g_iconst (v := 3) hC dX3_numberTo_57 (by decide) ?_
    refine g_icmp_ne (tgt := 71) hC dX3_numberTo_58 (by decide) (fun c => ?_) (fun c => ?_)
    · have h := it_n c h
      refine g_sub [true, false, true, false] rfl ?_
      exact s_71 J a2 h
    · have h := it_p c h
      refine g_iload_n hC dX3_numberTo_61 rfl ?_
      refine g_iload_n hC dX3_numberTo_62 rfl ?_
      refine g_icmp_le (tgt := 71) hC dX3_numberTo_63 (by decide) (fun c => ?_) (fun c => ?_)
      · have h := it_p c h
        refine g_sub [true, false, true, false] rfl ?_
        exact s_71 J a2 h
      · have h := it_n c h
        refine g_aload_n hC dX3_numberTo_66 rfl ?_
        refine g_iconst (v := 2) hC dX3_numberTo_67 (by decide) ?_
        refine gM_Vv (As := [.int (2 : Int32)]) (rest := []) hC hM (mm_bad (cx_l C) E hM.2.1 _ _ _ h) (lw_V q1736 q1738 qs43 q76 q1739) hd_bad rfl rfl (Nat.le_of_ble_eq_true rfl) ⟨Nat.le_of_ble_eq_true rfl, Nat.le_of_ble_eq_true rfl⟩ dX3_numberTo_68 ?_
        intro J3 h
        refine g_sub [true, false, true, false] rfl ?_
        exact s_71 J3 a2 h
  have s_16 : ∀ (n : Nat) (J : MS) (a1 : Int32) (a2 : Int32) (a3 : Int32), wm_numberTo_16 Q  n J a1 a2 a3 → GM E C J 16 [some (.ref (me_a E 54)), some (.int a1), some (.int a2), some (.int a3)] [] := by
    intro  n
    induction n with
    | zero =>
      intro J a1 a2 a3 h
      exact False.elim h
    | succ n ih =>
      intro J a1 a2 a3 h
      refine g_iload_n hC dX3_numberTo_16 rfl ?_
      refine g_aload_n hC dX3_numberTo_17 rfl ?_
      refine gM_getS hC hM 19 dX3_numberTo_18 q1522 (by decide) (by decide) rfl ?_
      refine g_icmp_ge (tgt := 53) hC dX3_numberTo_21 (by decide) (fun c => ?_) (fun c => ?_)
      · have h := it_p c h
        refine g_sub [true, true, true, false] rfl ?_
        exact s_53 J a1 a2 h
      · have h := it_n c h
        refine g_aload_n hC dX3_numberTo_24 rfl ?_
        refine gM_getS hC hM 17 dX3_numberTo_25 q1520 (by decide) (by decide) rfl ?_
        refine g_iconst (v := 3) hC dX3_numberTo_28 (by decide) ?_
        refine g_icmp_ne (tgt := 53) hC dX3_numberTo_29 (by decide) (fun c => ?_) (fun c => ?_)
        · have h := it_n c h
          refine g_sub [true, true, true, false] rfl ?_
          exact s_53 J a1 a2 h
        · have h := it_p c h
          refine g_bipush (v := 10) hC dX3_numberTo_32 (by decide) ?_
          refine g_iload_n hC dX3_numberTo_34 rfl ?_
          refine g_imul hC dX3_numberTo_35 ?_
          refine g_aload_n hC dX3_numberTo_36 rfl ?_
          refine gM_getA hC hM 12 dX3_numberTo_37 q1515 (by decide) (by decide) rfl ?_
          refine g_iload_n hC dX3_numberTo_40 rfl ?_
          refine gM_iald hC hM 12 10 dX3_numberTo_41 rfl (by decide) h.1 ?_
          refine g_iadd hC dX3_numberTo_42 ?_
          refine g_bipush (v := 48) hC dX3_numberTo_43 (by decide) ?_
          refine g_isub hC dX3_numberTo_45 ?_
          refine g_istore_n hC dX3_numberTo_46 rfl (by decide) rfl rfl ?_
          refine g_iinc (v := (a3 + (1 : Int32))) hC dX3_numberTo_47 rfl rfl (by decide) rfl rfl ?_
          refine g_goto (tgt := 16) hC dX3_numberTo_50 (by decide) ?_
          exact ih J a1 ((((10 : Int32) * a2) + (J 12 (Int32.toNatClampNeg a3))) - (48 : Int32)) (a3 + (1 : Int32)) h.2
  refine g_aload_n hC dX3_numberTo_0 rfl ?_
  refine gM_getS hC hM 20 dX3_numberTo_1 q1523 (by decide) (by decide) rfl ?_
  refine g_if_le (tgt := 9) hC dX3_numberTo_4 (by decide) (fun c => ?_) (fun c => ?_)
  · have h := it_p c h
    refine g_iconst (v := 0) hC dX3_numberTo_9 (by decide) ?_
    refine g_istore_n hC dX3_numberTo_10 rfl (by decide) rfl rfl ?_
    refine g_aload_n hC dX3_numberTo_11 rfl ?_
    refine gM_getS hC hM 18 dX3_numberTo_12 q1521 (by decide) (by decide) rfl ?_
    refine g_istore_n hC dX3_numberTo_15 rfl (by decide) rfl rfl ?_
    obtain ⟨n0, h0⟩ := h
    exact s_16 n0 J x1 (0 : Int32) (J 18 0) h0
  · have h := it_n c h
    refine g_iconst (v := 0) hC dX3_numberTo_7 (by decide) ?_
    refine gM_iret hC hM hQ rfl dX3_numberTo_8 h
theorem mm_numberTo (l : Launch) (E : ME) (hI : mInj E) (Q : Int32 → MS → Prop) (J : MS) (x1 : Int32) (h : wm_numberTo Q J x1) : MMet E l yX3_numberTo cX3_numberTo 4 (some .int) ({ frames := 4, cells := 0, slots := 0, locals := 79 }) [.ref (me_a E 54), .int x1] J (va_Qi Q (BM E) (mA E)) :=
  MMet_of hI (by decide) rfl (Nat.le_of_ble_eq_true rfl) (L0 := [some (.ref (me_a E 54)), some (.int x1), none, none]) rfl (fun C hC hM hl hQ => bm_numberTo E C Q J x1 hC hM hQ h)
/-! isRule -/
def wm_isRule (Q : Int32 → MS → Prop) (J : MS) : Prop :=
  wm_word (fun r2 J1 => (if (lg_cmp r2 (495623370096 : Int64)) = 0 then Q (1 : Int32) J1 else (if (lg_cmp r2 (7811884315945690483 : Int64)) = 0 then Q (1 : Int32) J1 else (if (lg_cmp r2 (1918989413 : Int64)) = 0 then Q (1 : Int32) J1 else (if (lg_cmp r2 (439855772532 : Int64)) = 0 then Q (1 : Int32) J1 else (if (lg_cmp r2 (1818326117 : Int64)) = 0 then Q (1 : Int32) J1 else (if (lg_cmp r2 (1718186597 : Int64)) = 0 then Q (1 : Int32) J1 else Q (0 : Int32) J1))))))) J
theorem hd_isRule : yX3_isRule.cls = RX3 ∧ yX3_isRule.cls ≠ "java/lang/invoke/MethodHandle" ∧ yX3_isRule.cls ≠ "java/lang/invoke/VarHandle" ∧ (parseMethodDescriptor yX3_isRule.desc).map (fun d => d.parameters.length) = some 0 := by decide +kernel
set_option maxHeartbeats 4000000 in
set_option maxRecDepth 100000 in
theorem bm_isRule (E : ME) (C : Cx) (Q : Int32 → MS → Prop) (J : MS) (hC : COk C cX3_isRule RX3 (some .boolean) 2 39 3) (hM : MOk E C) (hQ : cx_Q C = MQ (cx_b C) (va_Qi Q (BM E) (mA E)) (cx_a C) (cx_s C) (cx_MC C) (cx_MS C) (mA E)) (h : wm_isRule Q J ) : GM E C J 0 [some (.ref (me_a E 54)), none, none] [] := by
  refine g_aload_n hC dX3_isRule_0 rfl ?_
  refine gM_Vl (As := []) (rest := []) hC hM (mm_word (cx_l C) E hM.2.1 _ _  h) (lw_V q1727 q1729 qs41 q76 q1730) hd_word rfl rfl (Nat.le_of_ble_eq_true rfl) ⟨Nat.le_of_ble_eq_true rfl, Nat.le_of_ble_eq_true rfl⟩ dX3_isRule_1 ?_
  intro r2 J1 h
  refine g_lstore_n hC dX3_isRule_4 rfl (by decide) rfl rfl ?_
  refine g_lload_n hC dX3_isRule_5 rfl ?_
  refine g_ldc2 (v := 495623370096) hC dX3_isRule_6 q1752 ?_
  refine g_lcmp hC dX3_isRule_9 ?_
  refine g_if_eq (tgt := 53) hC dX3_isRule_10 (by decide) (fun c => ?_) (fun c => ?_)
  · have h := it_p c h
    refine g_iconst (v := 1) hC dX3_isRule_53 (by decide) ?_
    refine g_goto (tgt := 58) hC dX3_isRule_54 (by decide) ?_
    refine gM_zret hC hM hQ rfl rfl dX3_isRule_58 h
  · have h := it_n c h
    refine g_lload_n hC dX3_isRule_13 rfl ?_
    refine g_ldc2 (v := 7811884315945690483) hC dX3_isRule_14 q1753 ?_
    refine g_lcmp hC dX3_isRule_17 ?_
    refine g_if_eq (tgt := 53) hC dX3_isRule_18 (by decide) (fun c => ?_) (fun c => ?_)
    · have h := it_p c h
      refine g_iconst (v := 1) hC dX3_isRule_53 (by decide) ?_
      refine g_goto (tgt := 58) hC dX3_isRule_54 (by decide) ?_
      refine gM_zret hC hM hQ rfl rfl dX3_isRule_58 h
    · have h := it_n c h
      refine g_lload_n hC dX3_isRule_21 rfl ?_
      refine g_ldc2 (v := 1918989413) hC dX3_isRule_22 q1754 ?_
      refine g_lcmp hC dX3_isRule_25 ?_
      refine g_if_eq (tgt := 53) hC dX3_isRule_26 (by decide) (fun c => ?_) (fun c => ?_)
      · have h := it_p c h
        refine g_iconst (v := 1) hC dX3_isRule_53 (by decide) ?_
        refine g_goto (tgt := 58) hC dX3_isRule_54 (by decide) ?_
        refine gM_zret hC hM hQ rfl rfl dX3_isRule_58 h
      · have h := it_n c h
        refine g_lload_n hC dX3_isRule_29 rfl ?_
        refine g_ldc2 (v := 439855772532) hC dX3_isRule_30 q1755 ?_
        refine g_lcmp hC dX3_isRule_33 ?_
        refine g_if_eq (tgt := 53) hC dX3_isRule_34 (by decide) (fun c => ?_) (fun c => ?_)
        · have h := it_p c h
          refine g_iconst (v := 1) hC dX3_isRule_53 (by decide) ?_
          refine g_goto (tgt := 58) hC dX3_isRule_54 (by decide) ?_
          refine gM_zret hC hM hQ rfl rfl dX3_isRule_58 h
        · have h := it_n c h
          refine g_lload_n hC dX3_isRule_37 rfl ?_
          refine g_ldc2 (v := 1818326117) hC dX3_isRule_38 q1756 ?_
          refine g_lcmp hC dX3_isRule_41 ?_
          refine g_if_eq (tgt := 53) hC dX3_isRule_42 (by decide) (fun c => ?_) (fun c => ?_)
          · have h := it_p c h
            refine g_iconst (v := 1) hC dX3_isRule_53 (by decide) ?_
            refine g_goto (tgt := 58) hC dX3_isRule_54 (by decide) ?_
            refine gM_zret hC hM hQ rfl rfl dX3_isRule_58 h
          · have h := it_n c h
            refine g_lload_n hC dX3_isRule_45 rfl ?_
            refine g_ldc2 (v := 1718186597) hC dX3_isRule_46 q1757 ?_
            refine g_lcmp hC dX3_isRule_49 ?_
            refine g_if_ne (tgt := 57) hC dX3_isRule_50 (by decide) (fun c => ?_) (fun c => ?_)
            · have h := it_n c h
              refine g_iconst (v := 0) hC dX3_isRule_57 (by decide) ?_
              refine gM_zret hC hM hQ rfl rfl dX3_isRule_58 h
            · have h := it_p c h
              refine g_iconst (v := 1) hC dX3_isRule_53 (by decide) ?_
              refine g_goto (tgt := 58) hC dX3_isRule_54 (by decide) ?_
              refine gM_zret hC hM hQ rfl rfl dX3_isRule_58 h
theorem mm_isRule (l : Launch) (E : ME) (hI : mInj E) (Q : Int32 → MS → Prop) (J : MS) (h : wm_isRule Q J ) : MMet E l yX3_isRule cX3_isRule 3 (some .boolean) ({ frames := 2, cells := 0, slots := 0, locals := 39 }) [.ref (me_a E 54)] J (va_Qi Q (BM E) (mA E)) :=
  MMet_of hI (by decide) rfl (Nat.le_of_ble_eq_true rfl) (L0 := [some (.ref (me_a E 54)), none, none]) rfl (fun C hC hM hl hQ => bm_isRule E C Q J  hC hM hQ h)
/-! useOfWord -/
def wm_useOfWord (Q : Int32 → MS → Prop) (J : MS) : Prop :=
  wm_word (fun r2 J1 => (if (lg_cmp r2 (32199642371088754 : Int64)) = 0 then Q (0 : Int32) J1 else (if (lg_cmp r2 (482671228025 : Int64)) = 0 then Q (1 : Int32) J1 else (if (lg_cmp r2 (1668052322 : Int64)) = 0 then Q (2 : Int32) J1 else (if (lg_cmp r2 (28839564633334124 : Int64)) = 0 then Q (3 : Int32) J1 else (if (lg_cmp r2 (126870791090028 : Int64)) = 0 then Q (4 : Int32) J1 else Q (-1000000 : Int32) J1)))))) J
theorem hd_useOfWord : yX3_useOfWord.cls = RX3 ∧ yX3_useOfWord.cls ≠ "java/lang/invoke/MethodHandle" ∧ yX3_useOfWord.cls ≠ "java/lang/invoke/VarHandle" ∧ (parseMethodDescriptor yX3_useOfWord.desc).map (fun d => d.parameters.length) = some 0 := by decide +kernel
set_option maxHeartbeats 4000000 in
set_option maxRecDepth 100000 in
theorem bm_useOfWord (E : ME) (C : Cx) (Q : Int32 → MS → Prop) (J : MS) (hC : COk C cX3_useOfWord RX3 (some .int) 2 39 3) (hM : MOk E C) (hQ : cx_Q C = MQ (cx_b C) (va_Qi Q (BM E) (mA E)) (cx_a C) (cx_s C) (cx_MC C) (cx_MS C) (mA E)) (h : wm_useOfWord Q J ) : GM E C J 0 [some (.ref (me_a E 54)), none, none] [] := by
  refine g_aload_n hC dX3_useOfWord_0 rfl ?_
  refine gM_Vl (As := []) (rest := []) hC hM (mm_word (cx_l C) E hM.2.1 _ _  h) (lw_V q1727 q1729 qs41 q76 q1730) hd_word rfl rfl (Nat.le_of_ble_eq_true rfl) ⟨Nat.le_of_ble_eq_true rfl, Nat.le_of_ble_eq_true rfl⟩ dX3_useOfWord_1 ?_
  intro r2 J1 h
  refine g_lstore_n hC dX3_useOfWord_4 rfl (by decide) rfl rfl ?_
  refine g_lload_n hC dX3_useOfWord_5 rfl ?_
  refine g_ldc2 (v := 32199642371088754) hC dX3_useOfWord_6 q1762 ?_
  refine g_lcmp hC dX3_useOfWord_9 ?_
  refine g_if_ne (tgt := 17) hC dX3_useOfWord_10 (by decide) (fun c => ?_) (fun c => ?_)
  · have h := it_n c h
    refine g_lload_n hC dX3_useOfWord_17 rfl ?_
    refine g_ldc2 (v := 482671228025) hC dX3_useOfWord_18 q1763 ?_
    refine g_lcmp hC dX3_useOfWord_21 ?_
    refine g_if_ne (tgt := 29) hC dX3_useOfWord_22 (by decide) (fun c => ?_) (fun c => ?_)
    · have h := it_n c h
      refine g_lload_n hC dX3_useOfWord_29 rfl ?_
      refine g_ldc2 (v := 1668052322) hC dX3_useOfWord_30 q1764 ?_
      refine g_lcmp hC dX3_useOfWord_33 ?_
      refine g_if_ne (tgt := 41) hC dX3_useOfWord_34 (by decide) (fun c => ?_) (fun c => ?_)
      · have h := it_n c h
        refine g_lload_n hC dX3_useOfWord_41 rfl ?_
        refine g_ldc2 (v := 28839564633334124) hC dX3_useOfWord_42 q1765 ?_
        refine g_lcmp hC dX3_useOfWord_45 ?_
        refine g_if_ne (tgt := 53) hC dX3_useOfWord_46 (by decide) (fun c => ?_) (fun c => ?_)
        · have h := it_n c h
          refine g_lload_n hC dX3_useOfWord_53 rfl ?_
          refine g_ldc2 (v := 126870791090028) hC dX3_useOfWord_54 q1766 ?_
          refine g_lcmp hC dX3_useOfWord_57 ?_
          refine g_if_ne (tgt := 65) hC dX3_useOfWord_58 (by decide) (fun c => ?_) (fun c => ?_)
          · have h := it_n c h
            refine g_ldc (v := -1000000) hC dX3_useOfWord_65 q1720 ?_
            refine gM_iret hC hM hQ rfl dX3_useOfWord_67 h
          · have h := it_p c h
            refine g_iconst (v := 4) hC dX3_useOfWord_61 (by decide) ?_
            refine g_goto (tgt := 67) hC dX3_useOfWord_62 (by decide) ?_
            refine gM_iret hC hM hQ rfl dX3_useOfWord_67 h
        · have h := it_p c h
          refine g_iconst (v := 3) hC dX3_useOfWord_49 (by decide) ?_
          refine g_goto (tgt := 67) hC dX3_useOfWord_50 (by decide) ?_
          refine gM_iret hC hM hQ rfl dX3_useOfWord_67 h
      · have h := it_p c h
        refine g_iconst (v := 2) hC dX3_useOfWord_37 (by decide) ?_
        refine g_goto (tgt := 67) hC dX3_useOfWord_38 (by decide) ?_
        refine gM_iret hC hM hQ rfl dX3_useOfWord_67 h
    · have h := it_p c h
      refine g_iconst (v := 1) hC dX3_useOfWord_25 (by decide) ?_
      refine g_goto (tgt := 67) hC dX3_useOfWord_26 (by decide) ?_
      refine gM_iret hC hM hQ rfl dX3_useOfWord_67 h
  · have h := it_p c h
    refine g_iconst (v := 0) hC dX3_useOfWord_13 (by decide) ?_
    refine g_goto (tgt := 67) hC dX3_useOfWord_14 (by decide) ?_
    refine gM_iret hC hM hQ rfl dX3_useOfWord_67 h
theorem mm_useOfWord (l : Launch) (E : ME) (hI : mInj E) (Q : Int32 → MS → Prop) (J : MS) (h : wm_useOfWord Q J ) : MMet E l yX3_useOfWord cX3_useOfWord 3 (some .int) ({ frames := 2, cells := 0, slots := 0, locals := 39 }) [.ref (me_a E 54)] J (va_Qi Q (BM E) (mA E)) :=
  MMet_of hI (by decide) rfl (Nat.le_of_ble_eq_true rfl) (L0 := [some (.ref (me_a E 54)), none, none]) rfl (fun C hC hM hl hQ => bm_useOfWord E C Q J  hC hM hQ h)
/-! rankUp -/
def wm_rankUp_76 (Q : MS → Prop) (K15 : MS → Int32 → Int32 → Int32 → Int32 → Int32 → Prop) (J : MS) (a1 : Int32) (a2 : Int32) (a3 : Int32) (a4 : Int32) (a5 : Int32) (s1 : Int32) (s2 : Int32) : Prop :=
  vp_in s1 20 ∧ K15 (mset J 8 (Int32.toNatClampNeg s1) s2) a1 a2 a3 a4 (a5 + (1 : Int32))
def wm_rankUp_74 (Q : MS → Prop) (K15 : MS → Int32 → Int32 → Int32 → Int32 → Int32 → Prop) (J : MS) (a1 : Int32) (a2 : Int32) (a3 : Int32) (a4 : Int32) (a5 : Int32) (a6 : Int32) (s1 : Int32) : Prop :=
  wm_rankUp_76 Q K15 J a1 a2 a3 a4 a5 s1 a6
def wm_rankUp_15 (Q : MS → Prop) : Nat → MS → Int32 → Int32 → Int32 → Int32 → Int32 → Prop
  | 0, _, _, _, _, _, _ => False
  | n + 1, J, a1, a2, a3, a4, a5 => (if (5 : Int32) ≤ a5 then Q J else vp_in (((5 : Int32) * a1) + a5) 20 ∧ (if a5 = a2 then wm_rankUp_76 Q (wm_rankUp_15 Q n) J a1 a2 a3 a4 a5 (((5 : Int32) * a1) + a5) a3 else (if (J 8 (Int32.toNatClampNeg (((5 : Int32) * a1) + a5))) < a3 then wm_rankUp_74 Q (wm_rankUp_15 Q n) J a1 a2 a3 a4 a5 (J 8 (Int32.toNatClampNeg (((5 : Int32) * a1) + a5))) (((5 : Int32) * a1) + a5) else (if a4 ≤ (J 8 (Int32.toNatClampNeg (((5 : Int32) * a1) + a5))) then wm_rankUp_74 Q (wm_rankUp_15 Q n) J a1 a2 a3 a4 a5 (J 8 (Int32.toNatClampNeg (((5 : Int32) * a1) + a5))) (((5 : Int32) * a1) + a5) else wm_rankUp_76 Q (wm_rankUp_15 Q n) J a1 a2 a3 a4 a5 (((5 : Int32) * a1) + a5) ((J 8 (Int32.toNatClampNeg (((5 : Int32) * a1) + a5))) + (1 : Int32))))))
def wm_rankUp (Q : MS → Prop) (J : MS) (x1 : Int32) (x2 : Int32) (x3 : Int32) : Prop :=
  vp_in (((5 : Int32) * x1) + x2) 20 ∧ ∃ n1, wm_rankUp_15 Q n1 J x1 x2 x3 (J 8 (Int32.toNatClampNeg (((5 : Int32) * x1) + x2))) (0 : Int32)
theorem hd_rankUp : yX3_rankUp.cls = RX3 ∧ yX3_rankUp.cls ≠ "java/lang/invoke/MethodHandle" ∧ yX3_rankUp.cls ≠ "java/lang/invoke/VarHandle" ∧ (parseMethodDescriptor yX3_rankUp.desc).map (fun d => d.parameters.length) = some 3 := by decide +kernel
set_option maxHeartbeats 4000000 in
set_option maxRecDepth 100000 in
theorem bm_rankUp (E : ME) (C : Cx) (Q : MS → Prop) (J : MS) (x1 : Int32) (x2 : Int32) (x3 : Int32) (hC : COk C cX3_rankUp RX3 none 1 16 7) (hM : MOk E C) (hQ : cx_Q C = MQ (cx_b C) (va_Qv Q (BM E) (mA E)) (cx_a C) (cx_s C) (cx_MC C) (cx_MS C) (mA E)) (h : wm_rankUp Q J x1 x2 x3) : GM E C J 0 [some (.ref (me_a E 54)), some (.int x1), some (.int x2), some (.int x3), none, none, none] [] := by
  have s_76 : ∀ (K15 : MS → Int32 → Int32 → Int32 → Int32 → Int32 → Prop) (hK15 : ∀ (J : MS) (b1 : Int32) (b2 : Int32) (b3 : Int32) (b4 : Int32) (b5 : Int32), K15 J b1 b2 b3 b4 b5 → GM E C J 15 [some (.ref (me_a E 54)), some (.int b1), some (.int b2), some (.int b3), some (.int b4), some (.int b5), none] []) (J : MS) (a1 : Int32) (a2 : Int32) (a3 : Int32) (a4 : Int32) (a5 : Int32) (s1 : Int32) (s2 : Int32), wm_rankUp_76 Q K15 J a1 a2 a3 a4 a5 s1 s2 → GM E C J 76 [some (.ref (me_a E 54)), some (.int a1), some (.int a2), some (.int a3), some (.int a4), some (.int a5), none] [.int s2, .int s1, .ref (me_a E 8)] := by
    intro K15 hK15 J a1 a2 a3 a4 a5 s1 s2 h
    refine gM_iast hC hM 8 6 dX3_rankUp_76 rfl (by decide) h.1 ?_
    refine g_iinc (v := (a5 + (1 : Int32))) hC dX3_rankUp_77 rfl rfl (by decide) rfl rfl ?_
    refine g_goto (tgt := 15) hC dX3_rankUp_80 (by decide) ?_
    exact hK15 (mset J 8 (Int32.toNatClampNeg s1) s2) a1 a2 a3 a4 (a5 + (1 : Int32)) h.2
  have s_74 : ∀ (K15 : MS → Int32 → Int32 → Int32 → Int32 → Int32 → Prop) (hK15 : ∀ (J : MS) (b1 : Int32) (b2 : Int32) (b3 : Int32) (b4 : Int32) (b5 : Int32), K15 J b1 b2 b3 b4 b5 → GM E C J 15 [some (.ref (me_a E 54)), some (.int b1), some (.int b2), some (.int b3), some (.int b4), some (.int b5), none] []) (J : MS) (a1 : Int32) (a2 : Int32) (a3 : Int32) (a4 : Int32) (a5 : Int32) (a6 : Int32) (s1 : Int32), wm_rankUp_74 Q K15 J a1 a2 a3 a4 a5 a6 s1 → GM E C J 74 [some (.ref (me_a E 54)), some (.int a1), some (.int a2), some (.int a3), some (.int a4), some (.int a5), some (.int a6)] [.int s1, .ref (me_a E 8)] := by
    intro K15 hK15 J a1 a2 a3 a4 a5 a6 s1 h
    refine g_iload hC dX3_rankUp_74 rfl ?_
    refine g_sub [true, true, true, true, true, true, false] rfl ?_
    exact s_76 K15 hK15 J a1 a2 a3 a4 a5 s1 a6 h
  have s_15 : ∀ (n : Nat) (J : MS) (a1 : Int32) (a2 : Int32) (a3 : Int32) (a4 : Int32) (a5 : Int32), wm_rankUp_15 Q  n J a1 a2 a3 a4 a5 → GM E C J 15 [some (.ref (me_a E 54)), some (.int a1), some (.int a2), some (.int a3), some (.int a4), some (.int a5), none] [] := by
    intro  n
    induction n with
    | zero =>
      intro J a1 a2 a3 a4 a5 h
      exact False.elim h
    | succ n ih =>
      intro J a1 a2 a3 a4 a5 h
      refine g_iload hC dX3_rankUp_15 rfl ?_
      refine g_iconst (v := 5) hC dX3_rankUp_17 (by decide) ?_
      refine g_icmp_ge (tgt := 83) hC dX3_rankUp_18 (by decide) (fun c => ?_) (fun c => ?_)
      · have h := it_p c h
        refine gM_vret hC hM hQ rfl dX3_rankUp_83 h
      · have h := it_n c h
        refine g_aload_n hC dX3_rankUp_21 rfl ?_
        refine gM_getA hC hM 8 dX3_rankUp_22 q1511 (by decide) (by decide) rfl ?_
        refine g_iconst (v := 5) hC dX3_rankUp_25 (by decide) ?_
        refine g_iload_n hC dX3_rankUp_26 rfl ?_
        refine g_imul hC dX3_rankUp_27 ?_
        refine g_iload hC dX3_rankUp_28 rfl ?_
        refine g_iadd hC dX3_rankUp_30 ?_
        refine gM_iald hC hM 8 6 dX3_rankUp_31 rfl (by decide) h.1 ?_
        refine g_istore hC dX3_rankUp_32 (by decide) rfl rfl ?_
        refine g_aload_n hC dX3_rankUp_34 rfl ?_
        refine gM_getA hC hM 8 dX3_rankUp_35 q1511 (by decide) (by decide) rfl ?_
        refine g_iconst (v := 5) hC dX3_rankUp_38 (by decide) ?_
        refine g_iload_n hC dX3_rankUp_39 rfl ?_
        refine g_imul hC dX3_rankUp_40 ?_
        refine g_iload hC dX3_rankUp_41 rfl ?_
        refine g_iadd hC dX3_rankUp_43 ?_
        refine g_iload hC dX3_rankUp_44 rfl ?_
        refine g_iload_n hC dX3_rankUp_46 rfl ?_
        refine g_icmp_ne (tgt := 54) hC dX3_rankUp_47 (by decide) (fun c => ?_) (fun c => ?_)
        · have h := it_n c h.2
          refine g_iload hC dX3_rankUp_54 rfl ?_
          refine g_iload_n hC dX3_rankUp_56 rfl ?_
          refine g_icmp_lt (tgt := 74) hC dX3_rankUp_57 (by decide) (fun c => ?_) (fun c => ?_)
          · have h := it_p c h
            exact s_74 (wm_rankUp_15 Q n) ih J a1 a2 a3 a4 a5 (J 8 (Int32.toNatClampNeg (((5 : Int32) * a1) + a5))) (((5 : Int32) * a1) + a5) h
          · have h := it_n c h
            refine g_iload hC dX3_rankUp_60 rfl ?_
            refine g_iload hC dX3_rankUp_62 rfl ?_
            refine g_icmp_ge (tgt := 74) hC dX3_rankUp_64 (by decide) (fun c => ?_) (fun c => ?_)
            · have h := it_p c h
              exact s_74 (wm_rankUp_15 Q n) ih J a1 a2 a3 a4 a5 (J 8 (Int32.toNatClampNeg (((5 : Int32) * a1) + a5))) (((5 : Int32) * a1) + a5) h
            · have h := it_n c h
              refine g_iload hC dX3_rankUp_67 rfl ?_
              refine g_iconst (v := 1) hC dX3_rankUp_69 (by decide) ?_
              refine g_iadd hC dX3_rankUp_70 ?_
              refine g_goto (tgt := 76) hC dX3_rankUp_71 (by decide) ?_
              refine g_sub [true, true, true, true, true, true, false] rfl ?_
              exact s_76 (wm_rankUp_15 Q n) ih J a1 a2 a3 a4 a5 (((5 : Int32) * a1) + a5) ((J 8 (Int32.toNatClampNeg (((5 : Int32) * a1) + a5))) + (1 : Int32)) h
        · have h := it_p c h.2
          refine g_iload_n hC dX3_rankUp_50 rfl ?_
          refine g_goto (tgt := 76) hC dX3_rankUp_51 (by decide) ?_
          refine g_sub [true, true, true, true, true, true, false] rfl ?_
          exact s_76 (wm_rankUp_15 Q n) ih J a1 a2 a3 a4 a5 (((5 : Int32) * a1) + a5) a3 h
  refine g_aload_n hC dX3_rankUp_0 rfl ?_
  refine gM_getA hC hM 8 dX3_rankUp_1 q1511 (by decide) (by decide) rfl ?_
  refine g_iconst (v := 5) hC dX3_rankUp_4 (by decide) ?_
  refine g_iload_n hC dX3_rankUp_5 rfl ?_
  refine g_imul hC dX3_rankUp_6 ?_
  refine g_iload_n hC dX3_rankUp_7 rfl ?_
  refine g_iadd hC dX3_rankUp_8 ?_
  refine gM_iald hC hM 8 6 dX3_rankUp_9 rfl (by decide) h.1 ?_
  refine g_istore hC dX3_rankUp_10 (by decide) rfl rfl ?_
  refine g_iconst (v := 0) hC dX3_rankUp_12 (by decide) ?_
  refine g_istore hC dX3_rankUp_13 (by decide) rfl rfl ?_
  obtain ⟨n0, h0⟩ := h.2
  exact s_15 n0 J x1 x2 x3 (J 8 (Int32.toNatClampNeg (((5 : Int32) * x1) + x2))) (0 : Int32) h0
theorem mm_rankUp (l : Launch) (E : ME) (hI : mInj E) (Q : MS → Prop) (J : MS) (x1 : Int32) (x2 : Int32) (x3 : Int32) (h : wm_rankUp Q J x1 x2 x3) : MMet E l yX3_rankUp cX3_rankUp 7 none ({ frames := 1, cells := 0, slots := 0, locals := 16 }) [.ref (me_a E 54), .int x1, .int x2, .int x3] J (va_Qv Q (BM E) (mA E)) :=
  MMet_of hI (by decide) rfl (Nat.le_of_ble_eq_true rfl) (L0 := [some (.ref (me_a E 54)), some (.int x1), some (.int x2), some (.int x3), none, none, none]) rfl (fun C hC hM hl hQ => bm_rankUp E C Q J x1 x2 x3 hC hM hQ h)
/-! readFirst -/
def wm_readFirst_109 (Q : MS → Prop) (K7 : MS → Int32 → Int32 → Int32 → Int32 → Prop) (J : MS) (a1 : Int32) (a2 : Int32) (a3 : Int32) (s0 : Int32) : Prop :=
  K7 J a1 a2 a3 s0
def wm_readFirst_108 (Q : MS → Prop) (K7 : MS → Int32 → Int32 → Int32 → Int32 → Prop) (J : MS) (a1 : Int32) (a2 : Int32) (a3 : Int32) : Prop :=
  wm_readFirst_109 Q K7 J a1 a2 a3 (0 : Int32)
def wm_readFirst_88 (Q : MS → Prop) (K7 : MS → Int32 → Int32 → Int32 → Int32 → Prop) (J : MS) (a1 : Int32) (a2 : Int32) (a3 : Int32) : Prop :=
  (if (J 20 0) = 0 then wm_useOfWord (fun r6 J5 => (if r6 = (-1000000 : Int32) then wm_readFirst_108 Q K7 J5 a1 a2 a3 else wm_readFirst_109 Q K7 J5 a1 a2 a3 (1 : Int32))) J else wm_readFirst_108 Q K7 J a1 a2 a3)
def wm_readFirst_85 (Q : MS → Prop) (K7 : MS → Int32 → Int32 → Int32 → Int32 → Prop) (J : MS) (a1 : Int32) (a2 : Int32) (a3 : Int32) : Prop :=
  wm_readFirst_88 Q K7 J a1 a2 (a3 + (1 : Int32))
def wm_readFirst_53 (Q : MS → Prop) (K7 : MS → Int32 → Int32 → Int32 → Int32 → Prop) (J : MS) (a1 : Int32) (a2 : Int32) (a3 : Int32) (a5 : Int32) (s1 : Int32) : Prop :=
  wm_need (fun J3 => (if (J3 20 0) = 0 then (if (J3 22 0) = 0 then wm_readFirst_85 Q K7 J3 a1 (a2 ||| ((1 : Int32) <<< (a5 &&& 31))) a3 else wm_rankUp (fun J7 => wm_readFirst_85 Q K7 J7 a1 (a2 ||| ((1 : Int32) <<< (a5 &&& 31))) a3) J3 a1 a5 a3) else wm_readFirst_88 Q K7 J3 a1 a2 a3)) J s1
def wm_readFirst_40 (Q : MS → Prop) (K7 : MS → Int32 → Int32 → Int32 → Int32 → Prop) (J : MS) (a1 : Int32) (a2 : Int32) (a3 : Int32) (a5 : Int32) : Prop :=
  (if a5 = (-1000000 : Int32) then wm_readFirst_53 Q K7 J a1 a2 a3 a5 (0 : Int32) else wm_readFirst_53 Q K7 J a1 a2 a3 a5 (1 : Int32))
def wm_readFirst_7 (Q : MS → Prop) : Nat → MS → Int32 → Int32 → Int32 → Int32 → Prop
  | 0, _, _, _, _, _ => False
  | n + 1, J, a1, a2, a3, a4 => (if a4 = 0 then Q J else wm_useOfWord (fun r2 J1 => (if r2 = (-1000000 : Int32) then wm_readFirst_40 Q (wm_readFirst_7 Q n) J1 a1 a2 a3 r2 else (if ((a2 >>> (r2 &&& 31)) &&& (1 : Int32)) = (1 : Int32) then wm_bad (fun J9 => wm_readFirst_40 Q (wm_readFirst_7 Q n) J9 a1 a2 a3 r2) J1 (3 : Int32) else wm_readFirst_40 Q (wm_readFirst_7 Q n) J1 a1 a2 a3 r2))) J)
def wm_readFirst (Q : MS → Prop) (J : MS) (x1 : Int32) : Prop :=
  ∃ n11, wm_readFirst_7 Q n11 J x1 (0 : Int32) (0 : Int32) (1 : Int32)
theorem hd_readFirst : yX3_readFirst.cls = RX3 ∧ yX3_readFirst.cls ≠ "java/lang/invoke/MethodHandle" ∧ yX3_readFirst.cls ≠ "java/lang/invoke/VarHandle" ∧ (parseMethodDescriptor yX3_readFirst.desc).map (fun d => d.parameters.length) = some 1 := by decide +kernel
set_option maxHeartbeats 4000000 in
set_option maxRecDepth 100000 in
theorem bm_readFirst (E : ME) (C : Cx) (Q : MS → Prop) (J : MS) (x1 : Int32) (hC : COk C cX3_readFirst RX3 none 4 79 6) (hM : MOk E C) (hQ : cx_Q C = MQ (cx_b C) (va_Qv Q (BM E) (mA E)) (cx_a C) (cx_s C) (cx_MC C) (cx_MS C) (mA E)) (h : wm_readFirst Q J x1) : GM E C J 0 [some (.ref (me_a E 54)), some (.int x1), none, none, none, none] [] := by
  have s_109 : ∀ (K7 : MS → Int32 → Int32 → Int32 → Int32 → Prop) (hK7 : ∀ (J : MS) (b1 : Int32) (b2 : Int32) (b3 : Int32) (b4 : Int32), K7 J b1 b2 b3 b4 → GM E C J 7 [some (.ref (me_a E 54)), some (.int b1), some (.int b2), some (.int b3), some (.int b4), none] []) (J : MS) (a1 : Int32) (a2 : Int32) (a3 : Int32) (s0 : Int32), wm_readFirst_109 Q K7 J a1 a2 a3 s0 → GM E C J 109 [some (.ref (me_a E 54)), some (.int a1), some (.int a2), some (.int a3), none, none] [.int s0] := by
    intro K7 hK7 J a1 a2 a3 s0 h
    refine g_istore hC dX3_readFirst_109 (by decide) rfl rfl ?_
    refine g_goto (tgt := 7) hC dX3_readFirst_111 (by decide) ?_
    exact hK7 J a1 a2 a3 s0 h
  have s_108 : ∀ (K7 : MS → Int32 → Int32 → Int32 → Int32 → Prop) (hK7 : ∀ (J : MS) (b1 : Int32) (b2 : Int32) (b3 : Int32) (b4 : Int32), K7 J b1 b2 b3 b4 → GM E C J 7 [some (.ref (me_a E 54)), some (.int b1), some (.int b2), some (.int b3), some (.int b4), none] []) (J : MS) (a1 : Int32) (a2 : Int32) (a3 : Int32), wm_readFirst_108 Q K7 J a1 a2 a3 → GM E C J 108 [some (.ref (me_a E 54)), some (.int a1), some (.int a2), some (.int a3), none, none] [] := by
    intro K7 hK7 J a1 a2 a3 h
    refine g_iconst (v := 0) hC dX3_readFirst_108 (by decide) ?_
    exact s_109 K7 hK7 J a1 a2 a3 (0 : Int32) h
  have s_88 : ∀ (K7 : MS → Int32 → Int32 → Int32 → Int32 → Prop) (hK7 : ∀ (J : MS) (b1 : Int32) (b2 : Int32) (b3 : Int32) (b4 : Int32), K7 J b1 b2 b3 b4 → GM E C J 7 [some (.ref (me_a E 54)), some (.int b1), some (.int b2), some (.int b3), some (.int b4), none] []) (J : MS) (a1 : Int32) (a2 : Int32) (a3 : Int32), wm_readFirst_88 Q K7 J a1 a2 a3 → GM E C J 88 [some (.ref (me_a E 54)), some (.int a1), some (.int a2), some (.int a3), none, none] [] := by
    intro K7 hK7 J a1 a2 a3 h
    refine g_aload_n hC dX3_readFirst_88 rfl ?_
    refine gM_getS hC hM 20 dX3_readFirst_89 q1523 (by decide) (by decide) rfl ?_
    refine g_if_ne (tgt := 108) hC dX3_readFirst_92 (by decide) (fun c => ?_) (fun c => ?_)
    · have h := it_n c h
      exact s_108 K7 hK7 J a1 a2 a3 h
    · have h := it_p c h
      refine g_aload_n hC dX3_readFirst_95 rfl ?_
      refine gM_Vi (As := []) (rest := []) hC hM (mm_useOfWord (cx_l C) E hM.2.1 _ _  h) (lw_V q1758 q1760 qs47 q76 q1761) hd_useOfWord rfl rfl (Nat.le_of_ble_eq_true rfl) ⟨Nat.le_of_ble_eq_true rfl, Nat.le_of_ble_eq_true rfl⟩ dX3_readFirst_96 ?_
      intro r6 J5 h
      refine g_ldc (v := -1000000) hC dX3_readFirst_99 q1720 ?_
      refine g_icmp_eq (tgt := 108) hC dX3_readFirst_101 (by decide) (fun c => ?_) (fun c => ?_)
      · have h := it_p c h
        exact s_108 K7 hK7 J5 a1 a2 a3 h
      · have h := it_n c h
        refine g_iconst (v := 1) hC dX3_readFirst_104 (by decide) ?_
        refine g_goto (tgt := 109) hC dX3_readFirst_105 (by decide) ?_
        exact s_109 K7 hK7 J5 a1 a2 a3 (1 : Int32) h
  have s_85 : ∀ (K7 : MS → Int32 → Int32 → Int32 → Int32 → Prop) (hK7 : ∀ (J : MS) (b1 : Int32) (b2 : Int32) (b3 : Int32) (b4 : Int32), K7 J b1 b2 b3 b4 → GM E C J 7 [some (.ref (me_a E 54)), some (.int b1), some (.int b2), some (.int b3), some (.int b4), none] []) (J : MS) (a1 : Int32) (a2 : Int32) (a3 : Int32), wm_readFirst_85 Q K7 J a1 a2 a3 → GM E C J 85 [some (.ref (me_a E 54)), some (.int a1), some (.int a2), some (.int a3), none, none] [] := by
    intro K7 hK7 J a1 a2 a3 h
    refine g_iinc (v := (a3 + (1 : Int32))) hC dX3_readFirst_85 rfl rfl (by decide) rfl rfl ?_
    exact s_88 K7 hK7 J a1 a2 (a3 + (1 : Int32)) h
  have s_53 : ∀ (K7 : MS → Int32 → Int32 → Int32 → Int32 → Prop) (hK7 : ∀ (J : MS) (b1 : Int32) (b2 : Int32) (b3 : Int32) (b4 : Int32), K7 J b1 b2 b3 b4 → GM E C J 7 [some (.ref (me_a E 54)), some (.int b1), some (.int b2), some (.int b3), some (.int b4), none] []) (J : MS) (a1 : Int32) (a2 : Int32) (a3 : Int32) (a5 : Int32) (s1 : Int32), wm_readFirst_53 Q K7 J a1 a2 a3 a5 s1 → GM E C J 53 [some (.ref (me_a E 54)), some (.int a1), some (.int a2), some (.int a3), none, some (.int a5)] [.int s1, .ref (me_a E 54)] := by
    intro K7 hK7 J a1 a2 a3 a5 s1 h
    refine gM_Vv (As := [.int s1]) (rest := []) hC hM (mm_need (cx_l C) E hM.2.1 _ _ _ h) (lw_V q1732 q1734 qs42 q76 q1735) hd_need rfl rfl (Nat.le_of_ble_eq_true rfl) ⟨Nat.le_of_ble_eq_true rfl, Nat.le_of_ble_eq_true rfl⟩ dX3_readFirst_53 ?_
    intro J3 h
    refine g_aload_n hC dX3_readFirst_56 rfl ?_
    refine gM_getS hC hM 20 dX3_readFirst_57 q1523 (by decide) (by decide) rfl ?_
    refine g_if_ne (tgt := 88) hC dX3_readFirst_60 (by decide) (fun c => ?_) (fun c => ?_)
    · have h := it_n c h
      refine g_sub [true, true, true, true, false, false] rfl ?_
      exact s_88 K7 hK7 J3 a1 a2 a3 h
    · have h := it_p c h
      refine g_iload_n hC dX3_readFirst_63 rfl ?_
      refine g_iconst (v := 1) hC dX3_readFirst_64 (by decide) ?_
      refine g_iload hC dX3_readFirst_65 rfl ?_
      refine g_ishl hC dX3_readFirst_67 ?_
      refine g_ior hC dX3_readFirst_68 ?_
      refine g_istore_n hC dX3_readFirst_69 rfl (by decide) rfl rfl ?_
      refine g_aload_n hC dX3_readFirst_70 rfl ?_
      refine gM_getS hC hM 22 dX3_readFirst_71 q1525 (by decide) (by decide) rfl ?_
      refine g_if_eq (tgt := 85) hC dX3_readFirst_74 (by decide) (fun c => ?_) (fun c => ?_)
      · have h := it_p c h
        refine g_sub [true, true, true, true, false, false] rfl ?_
        exact s_85 K7 hK7 J3 a1 (a2 ||| ((1 : Int32) <<< (a5 &&& 31))) a3 h
      · have h := it_n c h
        refine g_aload_n hC dX3_readFirst_77 rfl ?_
        refine g_iload_n hC dX3_readFirst_78 rfl ?_
        refine g_iload hC dX3_readFirst_79 rfl ?_
        refine g_iload_n hC dX3_readFirst_81 rfl ?_
        refine gM_Vv (As := [.int a1, .int a5, .int a3]) (rest := []) hC hM (mm_rankUp (cx_l C) E hM.2.1 _ _ _ _ _ h) (lw_V q1771 q1773 qs49 q76 q1774) hd_rankUp rfl rfl (Nat.le_of_ble_eq_true rfl) ⟨Nat.le_of_ble_eq_true rfl, Nat.le_of_ble_eq_true rfl⟩ dX3_readFirst_82 ?_
        intro J7 h
        refine g_sub [true, true, true, true, false, false] rfl ?_
        exact s_85 K7 hK7 J7 a1 (a2 ||| ((1 : Int32) <<< (a5 &&& 31))) a3 h
  have s_40 : ∀ (K7 : MS → Int32 → Int32 → Int32 → Int32 → Prop) (hK7 : ∀ (J : MS) (b1 : Int32) (b2 : Int32) (b3 : Int32) (b4 : Int32), K7 J b1 b2 b3 b4 → GM E C J 7 [some (.ref (me_a E 54)), some (.int b1), some (.int b2), some (.int b3), some (.int b4), none] []) (J : MS) (a1 : Int32) (a2 : Int32) (a3 : Int32) (a5 : Int32), wm_readFirst_40 Q K7 J a1 a2 a3 a5 → GM E C J 40 [some (.ref (me_a E 54)), some (.int a1), some (.int a2), some (.int a3), none, some (.int a5)] [] := by
    intro K7 hK7 J a1 a2 a3 a5 h
    refine g_aload_n hC dX3_readFirst_40 rfl ?_
    refine g_iload hC dX3_readFirst_41 rfl ?_
    refine g_ldc (v := -1000000) hC dX3_readFirst_43 q1720 ?_
    refine g_icmp_eq (tgt := 52) hC dX3_readFirst_45 (by decide) (fun c => ?_) (fun c => ?_)
    · have h := it_p c h
      refine g_iconst (v := 0) hC dX3_readFirst_52 (by decide) ?_
      exact s_53 K7 hK7 J a1 a2 a3 a5 (0 : Int32) h
    · have h := it_n c h
      refine g_iconst (v := 1) hC dX3_readFirst_48 (by decide) ?_
      refine g_goto (tgt := 53) hC dX3_readFirst_49 (by decide) ?_
      exact s_53 K7 hK7 J a1 a2 a3 a5 (1 : Int32) h
  have s_7 : ∀ (n : Nat) (J : MS) (a1 : Int32) (a2 : Int32) (a3 : Int32) (a4 : Int32), wm_readFirst_7 Q  n J a1 a2 a3 a4 → GM E C J 7 [some (.ref (me_a E 54)), some (.int a1), some (.int a2), some (.int a3), some (.int a4), none] [] := by
    intro  n
    induction n with
    | zero =>
      intro J a1 a2 a3 a4 h
      exact False.elim h
    | succ n ih =>
      intro J a1 a2 a3 a4 h
      refine g_iload hC dX3_readFirst_7 rfl ?_
      refine g_if_eq (tgt := 114) hC dX3_readFirst_9 (by decide) (fun c => ?_) (fun c => ?_)
      · have h := it_p c h
        refine gM_vret hC hM hQ rfl dX3_readFirst_114 h
      · have h := it_n c h
        refine g_aload_n hC dX3_readFirst_12 rfl ?_
        refine gM_Vi (As := []) (rest := []) hC hM (mm_useOfWord (cx_l C) E hM.2.1 _ _  h) (lw_V q1758 q1760 qs47 q76 q1761) hd_useOfWord rfl rfl (Nat.le_of_ble_eq_true rfl) ⟨Nat.le_of_ble_eq_true rfl, Nat.le_of_ble_eq_true rfl⟩ dX3_readFirst_13 ?_
        intro r2 J1 h
        refine g_istore hC dX3_readFirst_16 (by decide) rfl rfl ?_
        refine g_sub [true, true, true, true, false, true] rfl ?_
        refine g_iload hC dX3_readFirst_18 rfl ?_
        refine g_ldc (v := -1000000) hC dX3_readFirst_20 q1720 ?_
        refine g_icmp_eq (tgt := 40) hC dX3_readFirst_22 (by decide) (fun c => ?_) (fun c => ?_)
        · have h := it_p c h
          exact s_40 (wm_readFirst_7 Q n) ih J1 a1 a2 a3 r2 h
        · have h := it_n c h
          refine g_iload_n hC dX3_readFirst_25 rfl ?_
          refine g_iload hC dX3_readFirst_26 rfl ?_
          refine g_ishr hC dX3_readFirst_28 ?_
          refine g_iconst (v := 1) hC dX3_readFirst_29 (by decide) ?_
          refine g_iand hC dX3_readFirst_30 ?_
          refine g_iconst (v := 1) hC dX3_readFirst_31 (by decide) ?_
          refine g_icmp_ne (tgt := 40) hC dX3_readFirst_32 (by decide) (fun c => ?_) (fun c => ?_)
          · have h := it_n c h
            exact s_40 (wm_readFirst_7 Q n) ih J1 a1 a2 a3 r2 h
          · have h := it_p c h
            refine g_aload_n hC dX3_readFirst_35 rfl ?_
            refine g_iconst (v := 3) hC dX3_readFirst_36 (by decide) ?_
            refine gM_Vv (As := [.int (3 : Int32)]) (rest := []) hC hM (mm_bad (cx_l C) E hM.2.1 _ _ _ h) (lw_V q1736 q1738 qs43 q76 q1739) hd_bad rfl rfl (Nat.le_of_ble_eq_true rfl) ⟨Nat.le_of_ble_eq_true rfl, Nat.le_of_ble_eq_true rfl⟩ dX3_readFirst_37 ?_
            intro J9 h
            exact s_40 (wm_readFirst_7 Q n) ih J9 a1 a2 a3 r2 h
  refine g_iconst (v := 0) hC dX3_readFirst_0 (by decide) ?_
  refine g_istore_n hC dX3_readFirst_1 rfl (by decide) rfl rfl ?_
  refine g_iconst (v := 0) hC dX3_readFirst_2 (by decide) ?_
  refine g_istore_n hC dX3_readFirst_3 rfl (by decide) rfl rfl ?_
  refine g_iconst (v := 1) hC dX3_readFirst_4 (by decide) ?_
  refine g_istore hC dX3_readFirst_5 (by decide) rfl rfl ?_
  obtain ⟨n0, h0⟩ := h
  exact s_7 n0 J x1 (0 : Int32) (0 : Int32) (1 : Int32) h0
theorem mm_readFirst (l : Launch) (E : ME) (hI : mInj E) (Q : MS → Prop) (J : MS) (x1 : Int32) (h : wm_readFirst Q J x1) : MMet E l yX3_readFirst cX3_readFirst 6 none ({ frames := 4, cells := 0, slots := 0, locals := 79 }) [.ref (me_a E 54), .int x1] J (va_Qv Q (BM E) (mA E)) :=
  MMet_of hI (by decide) rfl (Nat.le_of_ble_eq_true rfl) (L0 := [some (.ref (me_a E 54)), some (.int x1), none, none, none, none]) rfl (fun C hC hM hl hQ => bm_readFirst E C Q J x1 hC hM hQ h)
/-! readRule -/
def wm_readRule_296 (Q : MS → Prop) (J : MS) : Prop :=
  Q (mset J 23 0 ((J 23 0) + (1 : Int32)))
def wm_readRule_256 (Q : MS → Prop) (J : MS) (s1 : Int32) (s2 : Int32) : Prop :=
  vp_in s1 4 ∧ wm_readRule_296 Q (mset J 5 (Int32.toNatClampNeg s1) s2) 
def wm_readRule_232 (Q : MS → Prop) (J : MS) (a1 : Int32) (a5 : Int32) (s1 : Int32) (s2 : Int32) : Prop :=
  vp_in s1 4 ∧ (if ((mset J 4 (Int32.toNatClampNeg s1) s2) 22 0) = 0 then vp_in a1 4 ∧ wm_readRule_256 Q (mset J 4 (Int32.toNatClampNeg s1) s2) a1 ((mset J 4 (Int32.toNatClampNeg s1) s2) 5 (Int32.toNatClampNeg a1)) else wm_readRule_256 Q (mset J 4 (Int32.toNatClampNeg s1) s2) a1 a5)
def wm_readRule_166 (Q : MS → Prop) (J : MS) : Prop :=
  wm_readRule_296 Q J 
def wm_readRule_134 (Q : MS → Prop) (J : MS) (a1 : Int32) (a4 : Int32) (s1 : Int32) : Prop :=
  wm_need (fun J19 => wm_numberTo (fun r22 J21 => (if (J21 22 0) = 0 then wm_readRule_166 Q J21  else vp_in (((5 : Int32) * a1) + a4) 20 ∧ wm_readRule_166 Q (mset J21 7 (Int32.toNatClampNeg (((5 : Int32) * a1) + a4)) r22) )) J19 (1000 : Int32)) J s1
def wm_readRule_103 (Q : MS → Prop) (J : MS) (s1 : Int32) (s2 : Int32) : Prop :=
  vp_in s1 4 ∧ wm_readRule_296 Q (mset J 3 (Int32.toNatClampNeg s1) s2) 
def wm_readRule_60 (Q : MS → Prop) (J : MS) (s1 : Int32) (s2 : Int32) : Prop :=
  vp_in s1 4 ∧ wm_readRule_296 Q (mset J 2 (Int32.toNatClampNeg s1) s2) 
def wm_readRule (Q : MS → Prop) (J : MS) (x1 : Int32) : Prop :=
  wm_word (fun r2 J1 => wm_isRule (fun r4 J3 => wm_need (fun J5 => (if (J5 20 0) ≤ 0 then (if (lg_cmp r2 (495623370096 : Int64)) = 0 then wm_numberTo (fun r26 J25 => (if (J25 22 0) = 0 then vp_in x1 4 ∧ wm_readRule_60 Q J25 x1 (J25 2 (Int32.toNatClampNeg x1)) else wm_readRule_60 Q J25 x1 r26)) J5 (8 : Int32) else (if (lg_cmp r2 (7811884315945690483 : Int64)) = 0 then wm_numberTo (fun r24 J23 => (if (J23 22 0) = 0 then vp_in x1 4 ∧ wm_readRule_103 Q J23 x1 (J23 3 (Int32.toNatClampNeg x1)) else wm_readRule_103 Q J23 x1 r24)) J5 (50 : Int32) else (if (lg_cmp r2 (1918989413 : Int64)) = 0 then wm_useOfWord (fun r18 J17 => (if r18 = (-1000000 : Int32) then wm_readRule_134 Q J17 x1 r18 (0 : Int32) else wm_readRule_134 Q J17 x1 r18 (1 : Int32))) J5 else (if (lg_cmp r2 (439855772532 : Int64)) = 0 then wm_readFirst (fun J15 => wm_readRule_296 Q J15 ) J5 x1 else (if (lg_cmp r2 (1818326117 : Int64)) = 0 then wm_numberTo (fun r12 J11 => wm_numberTo (fun r14 J13 => (if (J13 22 0) = 0 then vp_in x1 4 ∧ wm_readRule_232 Q J13 x1 r14 x1 (J13 4 (Int32.toNatClampNeg x1)) else wm_readRule_232 Q J13 x1 r14 x1 r12)) J11 (100 : Int32)) J5 (60 : Int32) else wm_numberTo (fun r8 J7 => wm_numberTo (fun r10 J9 => (if (J9 22 0) = 0 then wm_readRule_296 Q J9  else vp_in (((2 : Int32) * x1) + r8) 8 ∧ wm_readRule_296 Q (mset J9 6 (Int32.toNatClampNeg (((2 : Int32) * x1) + r8)) r10) )) J7 (500 : Int32)) J5 (1 : Int32)))))) else Q J5)) J3 r4) J1) J
theorem hd_readRule : yX3_readRule.cls = RX3 ∧ yX3_readRule.cls ≠ "java/lang/invoke/MethodHandle" ∧ yX3_readRule.cls ≠ "java/lang/invoke/VarHandle" ∧ (parseMethodDescriptor yX3_readRule.desc).map (fun d => d.parameters.length) = some 1 := by decide +kernel
set_option maxHeartbeats 4000000 in
set_option maxRecDepth 100000 in
theorem bm_readRule (E : ME) (C : Cx) (Q : MS → Prop) (J : MS) (x1 : Int32) (hC : COk C cX3_readRule RX3 none 5 104 6) (hM : MOk E C) (hQ : cx_Q C = MQ (cx_b C) (va_Qv Q (BM E) (mA E)) (cx_a C) (cx_s C) (cx_MC C) (cx_MS C) (mA E)) (h : wm_readRule Q J x1) : GM E C J 0 [some (.ref (me_a E 54)), some (.int x1), none, none, none, none] [] := by
  have s_296 : ∀ (J : MS), wm_readRule_296 Q  J  → GM E C J 296 [some (.ref (me_a E 54)), none, none, none, none, none] [] := by
    intro  J  h
    refine g_aload_n hC dX3_readRule_296 rfl ?_
    refine g_dup hC dX3_readRule_297 rfl ?_
    refine gM_getS hC hM 23 dX3_readRule_298 q1526 (by decide) (by decide) rfl ?_
    refine g_iconst (v := 1) hC dX3_readRule_301 (by decide) ?_
    refine g_iadd hC dX3_readRule_302 ?_
    refine gM_put hC hM 23 (ty := .int) dX3_readRule_303 q1526 (by decide) (by decide) rfl rfl rfl rfl rfl ?_
    refine gM_vret hC hM hQ rfl dX3_readRule_306 h
  have s_256 : ∀ (J : MS) (s1 : Int32) (s2 : Int32), wm_readRule_256 Q  J s1 s2 → GM E C J 256 [some (.ref (me_a E 54)), none, none, none, none, none] [.int s2, .int s1, .ref (me_a E 5)] := by
    intro  J s1 s2 h
    refine gM_iast hC hM 5 3 dX3_readRule_256 rfl (by decide) h.1 ?_
    refine g_goto (tgt := 296) hC dX3_readRule_257 (by decide) ?_
    exact s_296 (mset J 5 (Int32.toNatClampNeg s1) s2) h.2
  have s_232 : ∀ (J : MS) (a1 : Int32) (a5 : Int32) (s1 : Int32) (s2 : Int32), wm_readRule_232 Q  J a1 a5 s1 s2 → GM E C J 232 [some (.ref (me_a E 54)), some (.int a1), none, none, none, some (.int a5)] [.int s2, .int s1, .ref (me_a E 4)] := by
    intro  J a1 a5 s1 s2 h
    refine gM_iast hC hM 4 2 dX3_readRule_232 rfl (by decide) h.1 ?_
    refine g_aload_n hC dX3_readRule_233 rfl ?_
    refine gM_getA hC hM 5 dX3_readRule_234 q1508 (by decide) (by decide) rfl ?_
    refine g_iload_n hC dX3_readRule_237 rfl ?_
    refine g_aload_n hC dX3_readRule_238 rfl ?_
    refine gM_getS hC hM 22 dX3_readRule_239 q1525 (by decide) (by decide) rfl ?_
    refine g_if_eq (tgt := 250) hC dX3_readRule_242 (by decide) (fun c => ?_) (fun c => ?_)
    · have h := it_p c h.2
      refine g_aload_n hC dX3_readRule_250 rfl ?_
      refine gM_getA hC hM 5 dX3_readRule_251 q1508 (by decide) (by decide) rfl ?_
      refine g_iload_n hC dX3_readRule_254 rfl ?_
      refine gM_iald hC hM 5 3 dX3_readRule_255 rfl (by decide) h.1 ?_
      refine g_sub [true, false, false, false, false, false] rfl ?_
      exact s_256 (mset J 4 (Int32.toNatClampNeg s1) s2) a1 ((mset J 4 (Int32.toNatClampNeg s1) s2) 5 (Int32.toNatClampNeg a1)) h.2
    · have h := it_n c h.2
      refine g_iload hC dX3_readRule_245 rfl ?_
      refine g_goto (tgt := 256) hC dX3_readRule_247 (by decide) ?_
      refine g_sub [true, false, false, false, false, false] rfl ?_
      exact s_256 (mset J 4 (Int32.toNatClampNeg s1) s2) a1 a5 h
  have s_166 : ∀ (J : MS), wm_readRule_166 Q  J  → GM E C J 166 [some (.ref (me_a E 54)), none, none, none, none, none] [] := by
    intro  J  h
    refine g_goto (tgt := 296) hC dX3_readRule_166 (by decide) ?_
    exact s_296 J h
  have s_134 : ∀ (J : MS) (a1 : Int32) (a4 : Int32) (s1 : Int32), wm_readRule_134 Q  J a1 a4 s1 → GM E C J 134 [some (.ref (me_a E 54)), some (.int a1), none, none, some (.int a4), none] [.int s1, .ref (me_a E 54)] := by
    intro  J a1 a4 s1 h
    refine gM_Vv (As := [.int s1]) (rest := []) hC hM (mm_need (cx_l C) E hM.2.1 _ _ _ h) (lw_V q1732 q1734 qs42 q76 q1735) hd_need rfl rfl (Nat.le_of_ble_eq_true rfl) ⟨Nat.le_of_ble_eq_true rfl, Nat.le_of_ble_eq_true rfl⟩ dX3_readRule_134 ?_
    intro J19 h
    refine g_aload_n hC dX3_readRule_137 rfl ?_
    refine g_sipush (v := 1000) hC dX3_readRule_138 (by decide) ?_
    refine gM_Vi (As := [.int (1000 : Int32)]) (rest := []) hC hM (mm_numberTo (cx_l C) E hM.2.1 _ _ _ h) (lw_V q1740 q1742 qs44 q76 q1743) hd_numberTo rfl rfl (Nat.le_of_ble_eq_true rfl) ⟨Nat.le_of_ble_eq_true rfl, Nat.le_of_ble_eq_true rfl⟩ dX3_readRule_141 ?_
    intro r22 J21 h
    refine g_istore hC dX3_readRule_144 (by decide) rfl rfl ?_
    refine g_aload_n hC dX3_readRule_146 rfl ?_
    refine gM_getS hC hM 22 dX3_readRule_147 q1525 (by decide) (by decide) rfl ?_
    refine g_if_eq (tgt := 166) hC dX3_readRule_150 (by decide) (fun c => ?_) (fun c => ?_)
    · have h := it_p c h
      refine g_sub [true, false, false, false, false, false] rfl ?_
      exact s_166 J21 h
    · have h := it_n c h
      refine g_aload_n hC dX3_readRule_153 rfl ?_
      refine gM_getA hC hM 7 dX3_readRule_154 q1510 (by decide) (by decide) rfl ?_
      refine g_iconst (v := 5) hC dX3_readRule_157 (by decide) ?_
      refine g_iload_n hC dX3_readRule_158 rfl ?_
      refine g_imul hC dX3_readRule_159 ?_
      refine g_iload hC dX3_readRule_160 rfl ?_
      refine g_iadd hC dX3_readRule_162 ?_
      refine g_iload hC dX3_readRule_163 rfl ?_
      refine gM_iast hC hM 7 5 dX3_readRule_165 rfl (by decide) h.1 ?_
      refine g_sub [true, false, false, false, false, false] rfl ?_
      exact s_166 (mset J21 7 (Int32.toNatClampNeg (((5 : Int32) * a1) + a4)) r22) h.2
  have s_103 : ∀ (J : MS) (s1 : Int32) (s2 : Int32), wm_readRule_103 Q  J s1 s2 → GM E C J 103 [some (.ref (me_a E 54)), none, none, none, none, none] [.int s2, .int s1, .ref (me_a E 3)] := by
    intro  J s1 s2 h
    refine gM_iast hC hM 3 1 dX3_readRule_103 rfl (by decide) h.1 ?_
    refine g_goto (tgt := 296) hC dX3_readRule_104 (by decide) ?_
    exact s_296 (mset J 3 (Int32.toNatClampNeg s1) s2) h.2
  have s_60 : ∀ (J : MS) (s1 : Int32) (s2 : Int32), wm_readRule_60 Q  J s1 s2 → GM E C J 60 [some (.ref (me_a E 54)), none, none, none, none, none] [.int s2, .int s1, .ref (me_a E 2)] := by
    intro  J s1 s2 h
    refine gM_iast hC hM 2 0 dX3_readRule_60 rfl (by decide) h.1 ?_
    refine g_goto (tgt := 296) hC dX3_readRule_61 (by decide) ?_
    exact s_296 (mset J 2 (Int32.toNatClampNeg s1) s2) h.2
  refine g_aload_n hC dX3_readRule_0 rfl ?_
  refine gM_Vl (As := []) (rest := []) hC hM (mm_word (cx_l C) E hM.2.1 _ _  h) (lw_V q1727 q1729 qs41 q76 q1730) hd_word rfl rfl (Nat.le_of_ble_eq_true rfl) ⟨Nat.le_of_ble_eq_true rfl, Nat.le_of_ble_eq_true rfl⟩ dX3_readRule_1 ?_
  intro r2 J1 h
  refine g_lstore_n hC dX3_readRule_4 rfl (by decide) rfl rfl ?_
  refine g_aload_n hC dX3_readRule_5 rfl ?_
  refine g_aload_n hC dX3_readRule_6 rfl ?_
  refine gM_Vi (As := []) (rest := [.ref (me_a E 54)]) hC hM (mm_isRule (cx_l C) E hM.2.1 _ _  h) (lw_V q1748 q1750 qs46 q76 q1751) hd_isRule rfl rfl (Nat.le_of_ble_eq_true rfl) ⟨Nat.le_of_ble_eq_true rfl, Nat.le_of_ble_eq_true rfl⟩ dX3_readRule_7 ?_
  intro r4 J3 h
  refine gM_Vv (As := [.int r4]) (rest := []) hC hM (mm_need (cx_l C) E hM.2.1 _ _ _ h) (lw_V q1732 q1734 qs42 q76 q1735) hd_need rfl rfl (Nat.le_of_ble_eq_true rfl) ⟨Nat.le_of_ble_eq_true rfl, Nat.le_of_ble_eq_true rfl⟩ dX3_readRule_10 ?_
  intro J5 h
  refine g_aload_n hC dX3_readRule_13 rfl ?_
  refine gM_getS hC hM 20 dX3_readRule_14 q1523 (by decide) (by decide) rfl ?_
  refine g_if_le (tgt := 21) hC dX3_readRule_17 (by decide) (fun c => ?_) (fun c => ?_)
  · have h := it_p c h
    refine g_lload_n hC dX3_readRule_21 rfl ?_
    refine g_ldc2 (v := 495623370096) hC dX3_readRule_22 q1752 ?_
    refine g_lcmp hC dX3_readRule_25 ?_
    refine g_if_ne (tgt := 64) hC dX3_readRule_26 (by decide) (fun c => ?_) (fun c => ?_)
    · have h := it_n c h
      refine g_lload_n hC dX3_readRule_64 rfl ?_
      refine g_ldc2 (v := 7811884315945690483) hC dX3_readRule_65 q1753 ?_
      refine g_lcmp hC dX3_readRule_68 ?_
      refine g_if_ne (tgt := 107) hC dX3_readRule_69 (by decide) (fun c => ?_) (fun c => ?_)
      · have h := it_n c h
        refine g_lload_n hC dX3_readRule_107 rfl ?_
        refine g_ldc2 (v := 1918989413) hC dX3_readRule_108 q1754 ?_
        refine g_lcmp hC dX3_readRule_111 ?_
        refine g_if_ne (tgt := 169) hC dX3_readRule_112 (by decide) (fun c => ?_) (fun c => ?_)
        · have h := it_n c h
          refine g_lload_n hC dX3_readRule_169 rfl ?_
          refine g_ldc2 (v := 439855772532) hC dX3_readRule_170 q1755 ?_
          refine g_lcmp hC dX3_readRule_173 ?_
          refine g_if_ne (tgt := 185) hC dX3_readRule_174 (by decide) (fun c => ?_) (fun c => ?_)
          · have h := it_n c h
            refine g_lload_n hC dX3_readRule_185 rfl ?_
            refine g_ldc2 (v := 1818326117) hC dX3_readRule_186 q1756 ?_
            refine g_lcmp hC dX3_readRule_189 ?_
            refine g_if_ne (tgt := 260) hC dX3_readRule_190 (by decide) (fun c => ?_) (fun c => ?_)
            · have h := it_n c h
              refine g_aload_n hC dX3_readRule_260 rfl ?_
              refine g_iconst (v := 1) hC dX3_readRule_261 (by decide) ?_
              refine gM_Vi (As := [.int (1 : Int32)]) (rest := []) hC hM (mm_numberTo (cx_l C) E hM.2.1 _ _ _ h) (lw_V q1740 q1742 qs44 q76 q1743) hd_numberTo rfl rfl (Nat.le_of_ble_eq_true rfl) ⟨Nat.le_of_ble_eq_true rfl, Nat.le_of_ble_eq_true rfl⟩ dX3_readRule_262 ?_
              intro r8 J7 h
              refine g_istore hC dX3_readRule_265 (by decide) rfl rfl ?_
              refine g_sub [true, true, false, false, true, false] rfl ?_
              refine g_aload_n hC dX3_readRule_267 rfl ?_
              refine g_sipush (v := 500) hC dX3_readRule_268 (by decide) ?_
              refine gM_Vi (As := [.int (500 : Int32)]) (rest := []) hC hM (mm_numberTo (cx_l C) E hM.2.1 _ _ _ h) (lw_V q1740 q1742 qs44 q76 q1743) hd_numberTo rfl rfl (Nat.le_of_ble_eq_true rfl) ⟨Nat.le_of_ble_eq_true rfl, Nat.le_of_ble_eq_true rfl⟩ dX3_readRule_271 ?_
              intro r10 J9 h
              refine g_istore hC dX3_readRule_274 (by decide) rfl rfl ?_
              refine g_aload_n hC dX3_readRule_276 rfl ?_
              refine gM_getS hC hM 22 dX3_readRule_277 q1525 (by decide) (by decide) rfl ?_
              refine g_if_eq (tgt := 296) hC dX3_readRule_280 (by decide) (fun c => ?_) (fun c => ?_)
              · have h := it_p c h
                refine g_sub [true, false, false, false, false, false] rfl ?_
                exact s_296 J9 h
              · have h := it_n c h
                refine g_aload_n hC dX3_readRule_283 rfl ?_
                refine gM_getA hC hM 6 dX3_readRule_284 q1509 (by decide) (by decide) rfl ?_
                refine g_iconst (v := 2) hC dX3_readRule_287 (by decide) ?_
                refine g_iload_n hC dX3_readRule_288 rfl ?_
                refine g_imul hC dX3_readRule_289 ?_
                refine g_iload hC dX3_readRule_290 rfl ?_
                refine g_iadd hC dX3_readRule_292 ?_
                refine g_iload hC dX3_readRule_293 rfl ?_
                refine gM_iast hC hM 6 4 dX3_readRule_295 rfl (by decide) h.1 ?_
                refine g_sub [true, false, false, false, false, false] rfl ?_
                exact s_296 (mset J9 6 (Int32.toNatClampNeg (((2 : Int32) * x1) + r8)) r10) h.2
            · have h := it_p c h
              refine g_aload_n hC dX3_readRule_193 rfl ?_
              refine g_bipush (v := 60) hC dX3_readRule_194 (by decide) ?_
              refine gM_Vi (As := [.int (60 : Int32)]) (rest := []) hC hM (mm_numberTo (cx_l C) E hM.2.1 _ _ _ h) (lw_V q1740 q1742 qs44 q76 q1743) hd_numberTo rfl rfl (Nat.le_of_ble_eq_true rfl) ⟨Nat.le_of_ble_eq_true rfl, Nat.le_of_ble_eq_true rfl⟩ dX3_readRule_196 ?_
              intro r12 J11 h
              refine g_istore hC dX3_readRule_199 (by decide) rfl rfl ?_
              refine g_sub [true, true, false, false, true, false] rfl ?_
              refine g_aload_n hC dX3_readRule_201 rfl ?_
              refine g_bipush (v := 100) hC dX3_readRule_202 (by decide) ?_
              refine gM_Vi (As := [.int (100 : Int32)]) (rest := []) hC hM (mm_numberTo (cx_l C) E hM.2.1 _ _ _ h) (lw_V q1740 q1742 qs44 q76 q1743) hd_numberTo rfl rfl (Nat.le_of_ble_eq_true rfl) ⟨Nat.le_of_ble_eq_true rfl, Nat.le_of_ble_eq_true rfl⟩ dX3_readRule_204 ?_
              intro r14 J13 h
              refine g_istore hC dX3_readRule_207 (by decide) rfl rfl ?_
              refine g_aload_n hC dX3_readRule_209 rfl ?_
              refine gM_getA hC hM 4 dX3_readRule_210 q1507 (by decide) (by decide) rfl ?_
              refine g_iload_n hC dX3_readRule_213 rfl ?_
              refine g_aload_n hC dX3_readRule_214 rfl ?_
              refine gM_getS hC hM 22 dX3_readRule_215 q1525 (by decide) (by decide) rfl ?_
              refine g_if_eq (tgt := 226) hC dX3_readRule_218 (by decide) (fun c => ?_) (fun c => ?_)
              · have h := it_p c h
                refine g_aload_n hC dX3_readRule_226 rfl ?_
                refine gM_getA hC hM 4 dX3_readRule_227 q1507 (by decide) (by decide) rfl ?_
                refine g_iload_n hC dX3_readRule_230 rfl ?_
                refine gM_iald hC hM 4 2 dX3_readRule_231 rfl (by decide) h.1 ?_
                refine g_sub [true, true, false, false, false, true] rfl ?_
                exact s_232 J13 x1 r14 x1 (J13 4 (Int32.toNatClampNeg x1)) h.2
              · have h := it_n c h
                refine g_iload hC dX3_readRule_221 rfl ?_
                refine g_goto (tgt := 232) hC dX3_readRule_223 (by decide) ?_
                refine g_sub [true, true, false, false, false, true] rfl ?_
                exact s_232 J13 x1 r14 x1 r12 h
          · have h := it_p c h
            refine g_aload_n hC dX3_readRule_177 rfl ?_
            refine g_iload_n hC dX3_readRule_178 rfl ?_
            refine gM_Vv (As := [.int x1]) (rest := []) hC hM (mm_readFirst (cx_l C) E hM.2.1 _ _ _ h) (lw_V q1767 q1769 qs48 q76 q1770) hd_readFirst rfl rfl (Nat.le_of_ble_eq_true rfl) ⟨Nat.le_of_ble_eq_true rfl, Nat.le_of_ble_eq_true rfl⟩ dX3_readRule_179 ?_
            intro J15 h
            refine g_goto (tgt := 296) hC dX3_readRule_182 (by decide) ?_
            refine g_sub [true, false, false, false, false, false] rfl ?_
            exact s_296 J15 h
        · have h := it_p c h
          refine g_aload_n hC dX3_readRule_115 rfl ?_
          refine gM_Vi (As := []) (rest := []) hC hM (mm_useOfWord (cx_l C) E hM.2.1 _ _  h) (lw_V q1758 q1760 qs47 q76 q1761) hd_useOfWord rfl rfl (Nat.le_of_ble_eq_true rfl) ⟨Nat.le_of_ble_eq_true rfl, Nat.le_of_ble_eq_true rfl⟩ dX3_readRule_116 ?_
          intro r18 J17 h
          refine g_istore hC dX3_readRule_119 (by decide) rfl rfl ?_
          refine g_sub [true, true, false, false, true, false] rfl ?_
          refine g_aload_n hC dX3_readRule_121 rfl ?_
          refine g_iload hC dX3_readRule_122 rfl ?_
          refine g_ldc (v := -1000000) hC dX3_readRule_124 q1720 ?_
          refine g_icmp_eq (tgt := 133) hC dX3_readRule_126 (by decide) (fun c => ?_) (fun c => ?_)
          · have h := it_p c h
            refine g_iconst (v := 0) hC dX3_readRule_133 (by decide) ?_
            exact s_134 J17 x1 r18 (0 : Int32) h
          · have h := it_n c h
            refine g_iconst (v := 1) hC dX3_readRule_129 (by decide) ?_
            refine g_goto (tgt := 134) hC dX3_readRule_130 (by decide) ?_
            exact s_134 J17 x1 r18 (1 : Int32) h
      · have h := it_p c h
        refine g_aload_n hC dX3_readRule_72 rfl ?_
        refine g_bipush (v := 50) hC dX3_readRule_73 (by decide) ?_
        refine gM_Vi (As := [.int (50 : Int32)]) (rest := []) hC hM (mm_numberTo (cx_l C) E hM.2.1 _ _ _ h) (lw_V q1740 q1742 qs44 q76 q1743) hd_numberTo rfl rfl (Nat.le_of_ble_eq_true rfl) ⟨Nat.le_of_ble_eq_true rfl, Nat.le_of_ble_eq_true rfl⟩ dX3_readRule_75 ?_
        intro r24 J23 h
        refine g_istore hC dX3_readRule_78 (by decide) rfl rfl ?_
        refine g_sub [true, true, false, false, true, false] rfl ?_
        refine g_aload_n hC dX3_readRule_80 rfl ?_
        refine gM_getA hC hM 3 dX3_readRule_81 q1506 (by decide) (by decide) rfl ?_
        refine g_iload_n hC dX3_readRule_84 rfl ?_
        refine g_aload_n hC dX3_readRule_85 rfl ?_
        refine gM_getS hC hM 22 dX3_readRule_86 q1525 (by decide) (by decide) rfl ?_
        refine g_if_eq (tgt := 97) hC dX3_readRule_89 (by decide) (fun c => ?_) (fun c => ?_)
        · have h := it_p c h
          refine g_aload_n hC dX3_readRule_97 rfl ?_
          refine gM_getA hC hM 3 dX3_readRule_98 q1506 (by decide) (by decide) rfl ?_
          refine g_iload_n hC dX3_readRule_101 rfl ?_
          refine gM_iald hC hM 3 1 dX3_readRule_102 rfl (by decide) h.1 ?_
          refine g_sub [true, false, false, false, false, false] rfl ?_
          exact s_103 J23 x1 (J23 3 (Int32.toNatClampNeg x1)) h.2
        · have h := it_n c h
          refine g_iload hC dX3_readRule_92 rfl ?_
          refine g_goto (tgt := 103) hC dX3_readRule_94 (by decide) ?_
          refine g_sub [true, false, false, false, false, false] rfl ?_
          exact s_103 J23 x1 r24 h
    · have h := it_p c h
      refine g_aload_n hC dX3_readRule_29 rfl ?_
      refine g_bipush (v := 8) hC dX3_readRule_30 (by decide) ?_
      refine gM_Vi (As := [.int (8 : Int32)]) (rest := []) hC hM (mm_numberTo (cx_l C) E hM.2.1 _ _ _ h) (lw_V q1740 q1742 qs44 q76 q1743) hd_numberTo rfl rfl (Nat.le_of_ble_eq_true rfl) ⟨Nat.le_of_ble_eq_true rfl, Nat.le_of_ble_eq_true rfl⟩ dX3_readRule_32 ?_
      intro r26 J25 h
      refine g_istore hC dX3_readRule_35 (by decide) rfl rfl ?_
      refine g_sub [true, true, false, false, true, false] rfl ?_
      refine g_aload_n hC dX3_readRule_37 rfl ?_
      refine gM_getA hC hM 2 dX3_readRule_38 q1505 (by decide) (by decide) rfl ?_
      refine g_iload_n hC dX3_readRule_41 rfl ?_
      refine g_aload_n hC dX3_readRule_42 rfl ?_
      refine gM_getS hC hM 22 dX3_readRule_43 q1525 (by decide) (by decide) rfl ?_
      refine g_if_eq (tgt := 54) hC dX3_readRule_46 (by decide) (fun c => ?_) (fun c => ?_)
      · have h := it_p c h
        refine g_aload_n hC dX3_readRule_54 rfl ?_
        refine gM_getA hC hM 2 dX3_readRule_55 q1505 (by decide) (by decide) rfl ?_
        refine g_iload_n hC dX3_readRule_58 rfl ?_
        refine gM_iald hC hM 2 0 dX3_readRule_59 rfl (by decide) h.1 ?_
        refine g_sub [true, false, false, false, false, false] rfl ?_
        exact s_60 J25 x1 (J25 2 (Int32.toNatClampNeg x1)) h.2
      · have h := it_n c h
        refine g_iload hC dX3_readRule_49 rfl ?_
        refine g_goto (tgt := 60) hC dX3_readRule_51 (by decide) ?_
        refine g_sub [true, false, false, false, false, false] rfl ?_
        exact s_60 J25 x1 r26 h
  · have h := it_n c h
    refine gM_vret hC hM hQ rfl dX3_readRule_20 h
theorem mm_readRule (l : Launch) (E : ME) (hI : mInj E) (Q : MS → Prop) (J : MS) (x1 : Int32) (h : wm_readRule Q J x1) : MMet E l yX3_readRule cX3_readRule 6 none ({ frames := 5, cells := 0, slots := 0, locals := 104 }) [.ref (me_a E 54), .int x1] J (va_Qv Q (BM E) (mA E)) :=
  MMet_of hI (by decide) rfl (Nat.le_of_ble_eq_true rfl) (L0 := [some (.ref (me_a E 54)), some (.int x1), none, none, none, none]) rfl (fun C hC hM hl hQ => bm_readRule E C Q J x1 hC hM hQ h)
