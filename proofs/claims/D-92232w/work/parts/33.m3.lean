/-! run -/
def wm_run (Q : Int32 → MS → Prop) (J : MS) (x1 : Int32) (x2 : Int32) (x3 : Int32) : Prop :=
  wm_isTime (fun r2 J1 => (if r2 = 0 then Q (-1000001 : Int32) J1 else wm_runTill (fun r4 J3 => Q r4 J3) J1 x1 (((96 : Int32) * x2) + x3))) (mset J 0 0 (0 : Int32)) x1 x2 x3
theorem hd_run : yX3_run.cls = RX3 ∧ yX3_run.cls ≠ "java/lang/invoke/MethodHandle" ∧ yX3_run.cls ≠ "java/lang/invoke/VarHandle" ∧ (parseMethodDescriptor yX3_run.desc).map (fun d => d.parameters.length) = some 3 := by decide +kernel
set_option maxHeartbeats 4000000 in
set_option maxRecDepth 100000 in
theorem bm_run (E : ME) (C : Cx) (Q : Int32 → MS → Prop) (J : MS) (x1 : Int32) (x2 : Int32) (x3 : Int32) (hC : COk C cX3_run RX3 (some .int) 4 83 4) (hM : MOk E C) (hQ : cx_Q C = MQ (cx_b C) (va_Qi Q (BM E) (mA E)) (cx_a C) (cx_s C) (cx_MC C) (cx_MS C) (mA E)) (h : wm_run Q J x1 x2 x3) : GM E C J 0 [some (.ref (me_a E 54)), some (.int x1), some (.int x2), some (.int x3)] [] := by
  refine g_aload_n hC dX3_run_0 rfl ?_
  refine g_iconst (v := 0) hC dX3_run_1 (by decide) ?_
  refine gM_put hC hM 0 (ty := .int) dX3_run_2 q1503 (by decide) (by decide) rfl rfl rfl rfl rfl ?_
  refine g_iload_n hC dX3_run_5 rfl ?_
  refine g_iload_n hC dX3_run_6 rfl ?_
  refine g_iload_n hC dX3_run_7 rfl ?_
  refine gM_Si (As := [.int x1, .int x2, .int x3]) (rest := []) hC hM (mm_isTime (cx_l C) E hM.2.1 _ _ _ _ _ h) (lw_S q1893 q1894 q76 q1895) hd_isTime rfl rfl (Nat.le_of_ble_eq_true rfl) ⟨Nat.le_of_ble_eq_true rfl, Nat.le_of_ble_eq_true rfl⟩ dX3_run_8 ?_
  intro r2 J1 h
  refine g_if_eq (tgt := 28) hC dX3_run_11 (by decide) (fun c => ?_) (fun c => ?_)
  · have h := it_p c h
    refine g_ldc (v := -1000001) hC dX3_run_28 q1679 ?_
    refine gM_iret hC hM hQ rfl dX3_run_30 h
  · have h := it_n c h
    refine g_aload_n hC dX3_run_14 rfl ?_
    refine g_iload_n hC dX3_run_15 rfl ?_
    refine g_bipush (v := 96) hC dX3_run_16 (by decide) ?_
    refine g_iload_n hC dX3_run_18 rfl ?_
    refine g_imul hC dX3_run_19 ?_
    refine g_iload_n hC dX3_run_20 rfl ?_
    refine g_iadd hC dX3_run_21 ?_
    refine gM_Vi (As := [.int x1, .int (((96 : Int32) * x2) + x3)]) (rest := []) hC hM (mm_runTill (cx_l C) E hM.2.1 _ _ _ _ h) (lw_V q1896 q1898 qs62 q76 q1899) hd_runTill rfl rfl (Nat.le_of_ble_eq_true rfl) ⟨Nat.le_of_ble_eq_true rfl, Nat.le_of_ble_eq_true rfl⟩ dX3_run_22 ?_
    intro r4 J3 h
    refine g_goto (tgt := 30) hC dX3_run_25 (by decide) ?_
    refine gM_iret hC hM hQ rfl dX3_run_30 h
theorem mm_run (l : Launch) (E : ME) (hI : mInj E) (Q : Int32 → MS → Prop) (J : MS) (x1 : Int32) (x2 : Int32) (x3 : Int32) (h : wm_run Q J x1 x2 x3) : MMet E l yX3_run cX3_run 4 (some .int) ({ frames := 4, cells := 0, slots := 0, locals := 83 }) [.ref (me_a E 54), .int x1, .int x2, .int x3] J (va_Qi Q (BM E) (mA E)) :=
  MMet_of hI (by decide) rfl (Nat.le_of_ble_eq_true rfl) (L0 := [some (.ref (me_a E 54)), some (.int x1), some (.int x2), some (.int x3)]) rfl (fun C hC hM hl hQ => bm_run E C Q J x1 x2 x3 hC hM hQ h)
/-! meter -/
def wm_meter (Q : Int32 → MS → Prop) (J : MS) (x1 : Int32) (x2 : Int32) (x3 : Int32) (x4 : Int32) : Prop :=
  wm_isTime (fun r2 J1 => (if r2 = 0 then Q (-1000001 : Int32) J1 else wm_in (fun r4 J3 => (if r4 = 0 then Q (-1000001 : Int32) J3 else wm_runTill (fun r6 J5 => wm_in (fun r8 J7 => (if r8 = 0 then Q (0 : Int32) J7 else Q (1 : Int32) J7)) J5 (Int32.toInt64 (x4 - r6)) (-15 : Int64) (15 : Int64)) J3 x1 (((96 : Int32) * x2) + x3))) J1 (Int32.toInt64 x4) (0 : Int64) (100000 : Int64))) (mset J 0 0 (0 : Int32)) x1 x2 x3
theorem hd_meter : yX3_meter.cls = RX3 ∧ yX3_meter.cls ≠ "java/lang/invoke/MethodHandle" ∧ yX3_meter.cls ≠ "java/lang/invoke/VarHandle" ∧ (parseMethodDescriptor yX3_meter.desc).map (fun d => d.parameters.length) = some 4 := by decide +kernel
set_option maxHeartbeats 4000000 in
set_option maxRecDepth 100000 in
theorem bm_meter (E : ME) (C : Cx) (Q : Int32 → MS → Prop) (J : MS) (x1 : Int32) (x2 : Int32) (x3 : Int32) (x4 : Int32) (hC : COk C cX3_meter RX3 (some .int) 4 83 5) (hM : MOk E C) (hQ : cx_Q C = MQ (cx_b C) (va_Qi Q (BM E) (mA E)) (cx_a C) (cx_s C) (cx_MC C) (cx_MS C) (mA E)) (h : wm_meter Q J x1 x2 x3 x4) : GM E C J 0 [some (.ref (me_a E 54)), some (.int x1), some (.int x2), some (.int x3), some (.int x4)] [] := by
  refine g_aload_n hC dX3_meter_0 rfl ?_
  refine g_iconst (v := 0) hC dX3_meter_1 (by decide) ?_
  refine gM_put hC hM 0 (ty := .int) dX3_meter_2 q1503 (by decide) (by decide) rfl rfl rfl rfl rfl ?_
  refine g_iload_n hC dX3_meter_5 rfl ?_
  refine g_iload_n hC dX3_meter_6 rfl ?_
  refine g_iload_n hC dX3_meter_7 rfl ?_
  refine gM_Si (As := [.int x1, .int x2, .int x3]) (rest := []) hC hM (mm_isTime (cx_l C) E hM.2.1 _ _ _ _ _ h) (lw_S q1893 q1894 q76 q1895) hd_isTime rfl rfl (Nat.le_of_ble_eq_true rfl) ⟨Nat.le_of_ble_eq_true rfl, Nat.le_of_ble_eq_true rfl⟩ dX3_meter_8 ?_
  intro r2 J1 h
  refine g_if_eq (tgt := 27) hC dX3_meter_11 (by decide) (fun c => ?_) (fun c => ?_)
  · have h := it_p c h
    refine g_ldc (v := -1000001) hC dX3_meter_27 q1679 ?_
    refine g_goto (tgt := 64) hC dX3_meter_29 (by decide) ?_
    refine gM_iret hC hM hQ rfl dX3_meter_64 h
  · have h := it_n c h
    refine g_iload hC dX3_meter_14 rfl ?_
    refine g_i2l hC dX3_meter_16 ?_
    refine g_lconst (v := 0) hC dX3_meter_17 (by decide) ?_
    refine g_ldc2 (v := 100000) hC dX3_meter_18 q1904 ?_
    refine gM_Si (As := [.long (Int32.toInt64 x4), .long (0 : Int64), .long (100000 : Int64)]) (rest := []) hC hM (mm_in (cx_l C) E hM.2.1 _ _ _ _ _ h) (lw_S q1675 q1676 q76 q1677) hd_in rfl rfl (Nat.le_of_ble_eq_true rfl) ⟨Nat.le_of_ble_eq_true rfl, Nat.le_of_ble_eq_true rfl⟩ dX3_meter_21 ?_
    intro r4 J3 h
    refine g_if_ne (tgt := 32) hC dX3_meter_24 (by decide) (fun c => ?_) (fun c => ?_)
    · have h := it_n c h
      refine g_iload hC dX3_meter_32 rfl ?_
      refine g_aload_n hC dX3_meter_34 rfl ?_
      refine g_iload_n hC dX3_meter_35 rfl ?_
      refine g_bipush (v := 96) hC dX3_meter_36 (by decide) ?_
      refine g_iload_n hC dX3_meter_38 rfl ?_
      refine g_imul hC dX3_meter_39 ?_
      refine g_iload_n hC dX3_meter_40 rfl ?_
      refine g_iadd hC dX3_meter_41 ?_
      refine gM_Vi (As := [.int x1, .int (((96 : Int32) * x2) + x3)]) (rest := [.int x4]) hC hM (mm_runTill (cx_l C) E hM.2.1 _ _ _ _ h) (lw_V q1896 q1898 qs62 q76 q1899) hd_runTill rfl rfl (Nat.le_of_ble_eq_true rfl) ⟨Nat.le_of_ble_eq_true rfl, Nat.le_of_ble_eq_true rfl⟩ dX3_meter_42 ?_
      intro r6 J5 h
      refine g_isub hC dX3_meter_45 ?_
      refine g_i2l hC dX3_meter_46 ?_
      refine g_ldc2 (v := -15) hC dX3_meter_47 q1905 ?_
      refine g_ldc2 (v := 15) hC dX3_meter_50 q1906 ?_
      refine gM_Si (As := [.long (Int32.toInt64 (x4 - r6)), .long (-15 : Int64), .long (15 : Int64)]) (rest := []) hC hM (mm_in (cx_l C) E hM.2.1 _ _ _ _ _ h) (lw_S q1675 q1676 q76 q1677) hd_in rfl rfl (Nat.le_of_ble_eq_true rfl) ⟨Nat.le_of_ble_eq_true rfl, Nat.le_of_ble_eq_true rfl⟩ dX3_meter_53 ?_
      intro r8 J7 h
      refine g_if_eq (tgt := 63) hC dX3_meter_56 (by decide) (fun c => ?_) (fun c => ?_)
      · have h := it_p c h
        refine g_iconst (v := 0) hC dX3_meter_63 (by decide) ?_
        refine gM_iret hC hM hQ rfl dX3_meter_64 h
      · have h := it_n c h
        refine g_iconst (v := 1) hC dX3_meter_59 (by decide) ?_
        refine g_goto (tgt := 64) hC dX3_meter_60 (by decide) ?_
        refine gM_iret hC hM hQ rfl dX3_meter_64 h
    · have h := it_p c h
      refine g_ldc (v := -1000001) hC dX3_meter_27 q1679 ?_
      refine g_goto (tgt := 64) hC dX3_meter_29 (by decide) ?_
      refine gM_iret hC hM hQ rfl dX3_meter_64 h
theorem mm_meter (l : Launch) (E : ME) (hI : mInj E) (Q : Int32 → MS → Prop) (J : MS) (x1 : Int32) (x2 : Int32) (x3 : Int32) (x4 : Int32) (h : wm_meter Q J x1 x2 x3 x4) : MMet E l yX3_meter cX3_meter 5 (some .int) ({ frames := 4, cells := 0, slots := 0, locals := 83 }) [.ref (me_a E 54), .int x1, .int x2, .int x3, .int x4] J (va_Qi Q (BM E) (mA E)) :=
  MMet_of hI (by decide) rfl (Nat.le_of_ble_eq_true rfl) (L0 := [some (.ref (me_a E 54)), some (.int x1), some (.int x2), some (.int x3), some (.int x4)]) rfl (fun C hC hM hl hQ => bm_meter E C Q J x1 x2 x3 x4 hC hM hQ h)
/-! give -/
def wm_give (Q : Int32 → MS → Prop) (J : MS) (x1 : Int32) (x2 : Int32) (x3 : Int32) (x4 : Int32) : Prop :=
  wm_in (fun r2 J1 => (if r2 = 0 then Q (-1000001 : Int32) J1 else wm_in (fun r4 J3 => (if r4 = 0 then Q (-1000001 : Int32) J3 else wm_in (fun r6 J5 => (if r6 = 0 then Q (-1000001 : Int32) J5 else (if x2 = x3 then Q (-1000001 : Int32) J5 else wm_isDay (fun r8 J7 => (if r8 = 0 then Q (-1000001 : Int32) J7 else (if (J7 37 0) = (40 : Int32) then Q (-1000003 : Int32) J7 else vp_in (J7 37 0) 40 ∧ vp_in ((mset J7 38 (Int32.toNatClampNeg (J7 37 0)) x1) 37 0) 40 ∧ vp_in ((mset (mset J7 38 (Int32.toNatClampNeg (J7 37 0)) x1) 39 (Int32.toNatClampNeg ((mset J7 38 (Int32.toNatClampNeg (J7 37 0)) x1) 37 0)) x2) 37 0) 40 ∧ vp_in ((mset (mset (mset J7 38 (Int32.toNatClampNeg (J7 37 0)) x1) 39 (Int32.toNatClampNeg ((mset J7 38 (Int32.toNatClampNeg (J7 37 0)) x1) 37 0)) x2) 40 (Int32.toNatClampNeg ((mset (mset J7 38 (Int32.toNatClampNeg (J7 37 0)) x1) 39 (Int32.toNatClampNeg ((mset J7 38 (Int32.toNatClampNeg (J7 37 0)) x1) 37 0)) x2) 37 0)) x3) 37 0) 40 ∧ Q ((mset (mset (mset (mset (mset J7 38 (Int32.toNatClampNeg (J7 37 0)) x1) 39 (Int32.toNatClampNeg ((mset J7 38 (Int32.toNatClampNeg (J7 37 0)) x1) 37 0)) x2) 40 (Int32.toNatClampNeg ((mset (mset J7 38 (Int32.toNatClampNeg (J7 37 0)) x1) 39 (Int32.toNatClampNeg ((mset J7 38 (Int32.toNatClampNeg (J7 37 0)) x1) 37 0)) x2) 37 0)) x3) 41 (Int32.toNatClampNeg ((mset (mset (mset J7 38 (Int32.toNatClampNeg (J7 37 0)) x1) 39 (Int32.toNatClampNeg ((mset J7 38 (Int32.toNatClampNeg (J7 37 0)) x1) 37 0)) x2) 40 (Int32.toNatClampNeg ((mset (mset J7 38 (Int32.toNatClampNeg (J7 37 0)) x1) 39 (Int32.toNatClampNeg ((mset J7 38 (Int32.toNatClampNeg (J7 37 0)) x1) 37 0)) x2) 37 0)) x3) 37 0)) x4) 37 0 (((mset (mset (mset (mset J7 38 (Int32.toNatClampNeg (J7 37 0)) x1) 39 (Int32.toNatClampNeg ((mset J7 38 (Int32.toNatClampNeg (J7 37 0)) x1) 37 0)) x2) 40 (Int32.toNatClampNeg ((mset (mset J7 38 (Int32.toNatClampNeg (J7 37 0)) x1) 39 (Int32.toNatClampNeg ((mset J7 38 (Int32.toNatClampNeg (J7 37 0)) x1) 37 0)) x2) 37 0)) x3) 41 (Int32.toNatClampNeg ((mset (mset (mset J7 38 (Int32.toNatClampNeg (J7 37 0)) x1) 39 (Int32.toNatClampNeg ((mset J7 38 (Int32.toNatClampNeg (J7 37 0)) x1) 37 0)) x2) 40 (Int32.toNatClampNeg ((mset (mset J7 38 (Int32.toNatClampNeg (J7 37 0)) x1) 39 (Int32.toNatClampNeg ((mset J7 38 (Int32.toNatClampNeg (J7 37 0)) x1) 37 0)) x2) 37 0)) x3) 37 0)) x4) 37 0) + (1 : Int32))) 37 0) (mset (mset (mset (mset (mset J7 38 (Int32.toNatClampNeg (J7 37 0)) x1) 39 (Int32.toNatClampNeg ((mset J7 38 (Int32.toNatClampNeg (J7 37 0)) x1) 37 0)) x2) 40 (Int32.toNatClampNeg ((mset (mset J7 38 (Int32.toNatClampNeg (J7 37 0)) x1) 39 (Int32.toNatClampNeg ((mset J7 38 (Int32.toNatClampNeg (J7 37 0)) x1) 37 0)) x2) 37 0)) x3) 41 (Int32.toNatClampNeg ((mset (mset (mset J7 38 (Int32.toNatClampNeg (J7 37 0)) x1) 39 (Int32.toNatClampNeg ((mset J7 38 (Int32.toNatClampNeg (J7 37 0)) x1) 37 0)) x2) 40 (Int32.toNatClampNeg ((mset (mset J7 38 (Int32.toNatClampNeg (J7 37 0)) x1) 39 (Int32.toNatClampNeg ((mset J7 38 (Int32.toNatClampNeg (J7 37 0)) x1) 37 0)) x2) 37 0)) x3) 37 0)) x4) 37 0 (((mset (mset (mset (mset J7 38 (Int32.toNatClampNeg (J7 37 0)) x1) 39 (Int32.toNatClampNeg ((mset J7 38 (Int32.toNatClampNeg (J7 37 0)) x1) 37 0)) x2) 40 (Int32.toNatClampNeg ((mset (mset J7 38 (Int32.toNatClampNeg (J7 37 0)) x1) 39 (Int32.toNatClampNeg ((mset J7 38 (Int32.toNatClampNeg (J7 37 0)) x1) 37 0)) x2) 37 0)) x3) 41 (Int32.toNatClampNeg ((mset (mset (mset J7 38 (Int32.toNatClampNeg (J7 37 0)) x1) 39 (Int32.toNatClampNeg ((mset J7 38 (Int32.toNatClampNeg (J7 37 0)) x1) 37 0)) x2) 40 (Int32.toNatClampNeg ((mset (mset J7 38 (Int32.toNatClampNeg (J7 37 0)) x1) 39 (Int32.toNatClampNeg ((mset J7 38 (Int32.toNatClampNeg (J7 37 0)) x1) 37 0)) x2) 37 0)) x3) 37 0)) x4) 37 0) + (1 : Int32)))))) J5 x4))) J3 (Int32.toInt64 x3) (0 : Int64) (9 : Int64))) J1 (Int32.toInt64 x2) (0 : Int64) (9 : Int64))) (mset J 0 0 (0 : Int32)) (Int32.toInt64 x1) (0 : Int64) (3 : Int64)
theorem hd_give : yX3_give.cls = RX3 ∧ yX3_give.cls ≠ "java/lang/invoke/MethodHandle" ∧ yX3_give.cls ≠ "java/lang/invoke/VarHandle" ∧ (parseMethodDescriptor yX3_give.desc).map (fun d => d.parameters.length) = some 4 := by decide +kernel
set_option maxHeartbeats 4000000 in
set_option maxRecDepth 100000 in
theorem bm_give (E : ME) (C : Cx) (Q : Int32 → MS → Prop) (J : MS) (x1 : Int32) (x2 : Int32) (x3 : Int32) (x4 : Int32) (hC : COk C cX3_give RX3 (some .int) 3 61 5) (hM : MOk E C) (hQ : cx_Q C = MQ (cx_b C) (va_Qi Q (BM E) (mA E)) (cx_a C) (cx_s C) (cx_MC C) (cx_MS C) (mA E)) (h : wm_give Q J x1 x2 x3 x4) : GM E C J 0 [some (.ref (me_a E 54)), some (.int x1), some (.int x2), some (.int x3), some (.int x4)] [] := by
  refine g_aload_n hC dX3_give_0 rfl ?_
  refine g_iconst (v := 0) hC dX3_give_1 (by decide) ?_
  refine gM_put hC hM 0 (ty := .int) dX3_give_2 q1503 (by decide) (by decide) rfl rfl rfl rfl rfl ?_
  refine g_iload_n hC dX3_give_5 rfl ?_
  refine g_i2l hC dX3_give_6 ?_
  refine g_lconst (v := 0) hC dX3_give_7 (by decide) ?_
  refine g_ldc2 (v := 3) hC dX3_give_8 q1787 ?_
  refine gM_Si (As := [.long (Int32.toInt64 x1), .long (0 : Int64), .long (3 : Int64)]) (rest := []) hC hM (mm_in (cx_l C) E hM.2.1 _ _ _ _ _ h) (lw_S q1675 q1676 q76 q1677) hd_in rfl rfl (Nat.le_of_ble_eq_true rfl) ⟨Nat.le_of_ble_eq_true rfl, Nat.le_of_ble_eq_true rfl⟩ dX3_give_11 ?_
  intro r2 J1 h
  refine g_if_eq (tgt := 54) hC dX3_give_14 (by decide) (fun c => ?_) (fun c => ?_)
  · have h := it_p c h
    refine g_ldc (v := -1000001) hC dX3_give_54 q1679 ?_
    refine gM_iret hC hM hQ rfl dX3_give_56 h
  · have h := it_n c h
    refine g_iload_n hC dX3_give_17 rfl ?_
    refine g_i2l hC dX3_give_18 ?_
    refine g_lconst (v := 0) hC dX3_give_19 (by decide) ?_
    refine g_ldc2 (v := 9) hC dX3_give_20 q1798 ?_
    refine gM_Si (As := [.long (Int32.toInt64 x2), .long (0 : Int64), .long (9 : Int64)]) (rest := []) hC hM (mm_in (cx_l C) E hM.2.1 _ _ _ _ _ h) (lw_S q1675 q1676 q76 q1677) hd_in rfl rfl (Nat.le_of_ble_eq_true rfl) ⟨Nat.le_of_ble_eq_true rfl, Nat.le_of_ble_eq_true rfl⟩ dX3_give_23 ?_
    intro r4 J3 h
    refine g_if_eq (tgt := 54) hC dX3_give_26 (by decide) (fun c => ?_) (fun c => ?_)
    · have h := it_p c h
      refine g_ldc (v := -1000001) hC dX3_give_54 q1679 ?_
      refine gM_iret hC hM hQ rfl dX3_give_56 h
    · have h := it_n c h
      refine g_iload_n hC dX3_give_29 rfl ?_
      refine g_i2l hC dX3_give_30 ?_
      refine g_lconst (v := 0) hC dX3_give_31 (by decide) ?_
      refine g_ldc2 (v := 9) hC dX3_give_32 q1798 ?_
      refine gM_Si (As := [.long (Int32.toInt64 x3), .long (0 : Int64), .long (9 : Int64)]) (rest := []) hC hM (mm_in (cx_l C) E hM.2.1 _ _ _ _ _ h) (lw_S q1675 q1676 q76 q1677) hd_in rfl rfl (Nat.le_of_ble_eq_true rfl) ⟨Nat.le_of_ble_eq_true rfl, Nat.le_of_ble_eq_true rfl⟩ dX3_give_35 ?_
      intro r6 J5 h
      refine g_if_eq (tgt := 54) hC dX3_give_38 (by decide) (fun c => ?_) (fun c => ?_)
      · have h := it_p c h
        refine g_ldc (v := -1000001) hC dX3_give_54 q1679 ?_
        refine gM_iret hC hM hQ rfl dX3_give_56 h
      · have h := it_n c h
        refine g_iload_n hC dX3_give_41 rfl ?_
        refine g_iload_n hC dX3_give_42 rfl ?_
        refine g_icmp_eq (tgt := 54) hC dX3_give_43 (by decide) (fun c => ?_) (fun c => ?_)
        · have h := it_p c h
          refine g_ldc (v := -1000001) hC dX3_give_54 q1679 ?_
          refine gM_iret hC hM hQ rfl dX3_give_56 h
        · have h := it_n c h
          refine g_iload hC dX3_give_46 rfl ?_
          refine gM_Si (As := [.int x4]) (rest := []) hC hM (mm_isDay (cx_l C) E hM.2.1 _ _ _ h) (lw_S q1799 q1800 q76 q1801) hd_isDay rfl rfl (Nat.le_of_ble_eq_true rfl) ⟨Nat.le_of_ble_eq_true rfl, Nat.le_of_ble_eq_true rfl⟩ dX3_give_48 ?_
          intro r8 J7 h
          refine g_if_ne (tgt := 57) hC dX3_give_51 (by decide) (fun c => ?_) (fun c => ?_)
          · have h := it_n c h
            refine g_aload_n hC dX3_give_57 rfl ?_
            refine gM_getS hC hM 37 dX3_give_58 q1540 (by decide) (by decide) rfl ?_
            refine g_bipush (v := 40) hC dX3_give_61 (by decide) ?_
            refine g_icmp_ne (tgt := 69) hC dX3_give_63 (by decide) (fun c => ?_) (fun c => ?_)
            · have h := it_n c h
              refine g_aload_n hC dX3_give_69 rfl ?_
              refine gM_getA hC hM 38 dX3_give_70 q1541 (by decide) (by decide) rfl ?_
              refine g_aload_n hC dX3_give_73 rfl ?_
              refine gM_getS hC hM 37 dX3_give_74 q1540 (by decide) (by decide) rfl ?_
              refine g_iload_n hC dX3_give_77 rfl ?_
              refine gM_iast hC hM 38 20 dX3_give_78 rfl (by decide) h.1 ?_
              refine g_aload_n hC dX3_give_79 rfl ?_
              refine gM_getA hC hM 39 dX3_give_80 q1542 (by decide) (by decide) rfl ?_
              refine g_aload_n hC dX3_give_83 rfl ?_
              refine gM_getS hC hM 37 dX3_give_84 q1540 (by decide) (by decide) rfl ?_
              refine g_iload_n hC dX3_give_87 rfl ?_
              refine gM_iast hC hM 39 21 dX3_give_88 rfl (by decide) h.2.1 ?_
              refine g_aload_n hC dX3_give_89 rfl ?_
              refine gM_getA hC hM 40 dX3_give_90 q1543 (by decide) (by decide) rfl ?_
              refine g_aload_n hC dX3_give_93 rfl ?_
              refine gM_getS hC hM 37 dX3_give_94 q1540 (by decide) (by decide) rfl ?_
              refine g_iload_n hC dX3_give_97 rfl ?_
              refine gM_iast hC hM 40 22 dX3_give_98 rfl (by decide) h.2.2.1 ?_
              refine g_aload_n hC dX3_give_99 rfl ?_
              refine gM_getA hC hM 41 dX3_give_100 q1544 (by decide) (by decide) rfl ?_
              refine g_aload_n hC dX3_give_103 rfl ?_
              refine gM_getS hC hM 37 dX3_give_104 q1540 (by decide) (by decide) rfl ?_
              refine g_iload hC dX3_give_107 rfl ?_
              refine gM_iast hC hM 41 23 dX3_give_109 rfl (by decide) h.2.2.2.1 ?_
              refine g_aload_n hC dX3_give_110 rfl ?_
              refine g_dup hC dX3_give_111 rfl ?_
              refine gM_getS hC hM 37 dX3_give_112 q1540 (by decide) (by decide) rfl ?_
              refine g_iconst (v := 1) hC dX3_give_115 (by decide) ?_
              refine g_iadd hC dX3_give_116 ?_
              refine gM_put hC hM 37 (ty := .int) dX3_give_117 q1540 (by decide) (by decide) rfl rfl rfl rfl rfl ?_
              refine g_aload_n hC dX3_give_120 rfl ?_
              refine gM_getS hC hM 37 dX3_give_121 q1540 (by decide) (by decide) rfl ?_
              refine gM_iret hC hM hQ rfl dX3_give_124 h.2.2.2.2
            · have h := it_p c h
              refine g_ldc (v := -1000003) hC dX3_give_66 q1702 ?_
              refine gM_iret hC hM hQ rfl dX3_give_68 h
          · have h := it_p c h
            refine g_ldc (v := -1000001) hC dX3_give_54 q1679 ?_
            refine gM_iret hC hM hQ rfl dX3_give_56 h
theorem mm_give (l : Launch) (E : ME) (hI : mInj E) (Q : Int32 → MS → Prop) (J : MS) (x1 : Int32) (x2 : Int32) (x3 : Int32) (x4 : Int32) (h : wm_give Q J x1 x2 x3 x4) : MMet E l yX3_give cX3_give 5 (some .int) ({ frames := 3, cells := 0, slots := 0, locals := 61 }) [.ref (me_a E 54), .int x1, .int x2, .int x3, .int x4] J (va_Qi Q (BM E) (mA E)) :=
  MMet_of hI (by decide) rfl (Nat.le_of_ble_eq_true rfl) (L0 := [some (.ref (me_a E 54)), some (.int x1), some (.int x2), some (.int x3), some (.int x4)]) rfl (fun C hC hM hl hQ => bm_give E C Q J x1 x2 x3 x4 hC hM hQ h)
/-! key -/
def wm_key_148 (Q : Int32 → MS → Prop) (K47 : MS → Int32 → Int32 → Int32 → Int32 → Int32 → Int32 → Prop) (K56 : MS → Int32 → Int32 → Int32 → Int32 → Int32 → Int32 → Int32 → Prop) (J : MS) (a1 : Int32) (a2 : Int32) (a3 : Int32) (a4 : Int32) (a5 : Int32) (a6 : Int32) (a7 : Int32) : Prop :=
  K56 J a1 a2 a3 a4 a5 a6 (a7 + (1 : Int32))
def wm_key_145 (Q : Int32 → MS → Prop) (K47 : MS → Int32 → Int32 → Int32 → Int32 → Int32 → Int32 → Prop) (K56 : MS → Int32 → Int32 → Int32 → Int32 → Int32 → Int32 → Int32 → Prop) (J : MS) (a1 : Int32) (a2 : Int32) (a3 : Int32) (a4 : Int32) (a6 : Int32) (a7 : Int32) (s0 : Int32) (s1 : Int32) : Prop :=
  wm_key_148 Q K47 K56 J a1 a2 a3 a4 (s0 + s1) a6 a7
def wm_key_131 (Q : Int32 → MS → Prop) (K47 : MS → Int32 → Int32 → Int32 → Int32 → Int32 → Int32 → Prop) (K56 : MS → Int32 → Int32 → Int32 → Int32 → Int32 → Int32 → Int32 → Prop) (J : MS) (a1 : Int32) (a2 : Int32) (a3 : Int32) (a5 : Int32) (a6 : Int32) (a7 : Int32) (a8 : Int32) (s0 : Int32) : Prop :=
  (if a8 = 0 then wm_key_145 Q K47 K56 J a1 a2 a3 s0 a6 a7 a5 (1 : Int32) else wm_key_145 Q K47 K56 J a1 a2 a3 s0 a6 a7 a5 (0 : Int32))
def wm_key_112 (Q : Int32 → MS → Prop) (K47 : MS → Int32 → Int32 → Int32 → Int32 → Int32 → Int32 → Prop) (K56 : MS → Int32 → Int32 → Int32 → Int32 → Int32 → Int32 → Int32 → Prop) (J : MS) (a1 : Int32) (a2 : Int32) (a3 : Int32) (a4 : Int32) (a5 : Int32) (a6 : Int32) (a7 : Int32) (s0 : Int32) : Prop :=
  (if s0 = 0 then wm_key_131 Q K47 K56 J a1 a2 a3 a5 a6 a7 s0 a4 else vp_in a7 40 ∧ wm_key_131 Q K47 K56 J a1 a2 a3 a5 a6 a7 s0 (J 40 (Int32.toNatClampNeg a7)))
def wm_key_107 (Q : Int32 → MS → Prop) (K47 : MS → Int32 → Int32 → Int32 → Int32 → Int32 → Int32 → Prop) (K56 : MS → Int32 → Int32 → Int32 → Int32 → Int32 → Int32 → Int32 → Prop) (J : MS) (a1 : Int32) (a2 : Int32) (a3 : Int32) (a4 : Int32) (a5 : Int32) (a6 : Int32) (a7 : Int32) : Prop :=
  wm_key_112 Q K47 K56 J a1 a2 a3 a4 a5 a6 a7 (1 : Int32)
def wm_key_56 (Q : Int32 → MS → Prop) (K47 : MS → Int32 → Int32 → Int32 → Int32 → Int32 → Int32 → Prop) : Nat → MS → Int32 → Int32 → Int32 → Int32 → Int32 → Int32 → Int32 → Prop
  | 0, _, _, _, _, _, _, _, _ => False
  | n + 1, J, a1, a2, a3, a4, a5, a6, a7 => (if (J 37 0) ≤ a7 then K47 J a1 a2 a3 a4 a5 (a6 + (1 : Int32)) else vp_in a7 40 ∧ (if (J 38 (Int32.toNatClampNeg a7)) = a1 then vp_in a7 40 ∧ (if (J 41 (Int32.toNatClampNeg a7)) = a6 then (if a4 = (-1000000 : Int32) then wm_key_107 Q K47 (wm_key_56 Q K47 n) J a1 a2 a3 a4 a5 a6 a7 else vp_in a7 40 ∧ (if (J 39 (Int32.toNatClampNeg a7)) = a4 then wm_key_107 Q K47 (wm_key_56 Q K47 n) J a1 a2 a3 a4 a5 a6 a7 else wm_key_112 Q K47 (wm_key_56 Q K47 n) J a1 a2 a3 a4 a5 a6 a7 (0 : Int32))) else wm_key_148 Q K47 (wm_key_56 Q K47 n) J a1 a2 a3 a4 a5 a6 a7) else wm_key_148 Q K47 (wm_key_56 Q K47 n) J a1 a2 a3 a4 a5 a6 a7))
def wm_key_47 (Q : Int32 → MS → Prop) : Nat → MS → Int32 → Int32 → Int32 → Int32 → Int32 → Int32 → Prop
  | 0, _, _, _, _, _, _, _ => False
  | n + 1, J, a1, a2, a3, a4, a5, a6 => (if a2 < a6 then (if a3 = 0 then Q a4 J else Q a5 J) else ∃ n7, wm_key_56 Q (wm_key_47 Q n) n7 J a1 a2 a3 a4 a5 a6 (0 : Int32))
def wm_key (Q : Int32 → MS → Prop) (J : MS) (x1 : Int32) (x2 : Int32) (x3 : Int32) : Prop :=
  wm_in (fun r2 J1 => (if r2 = 0 then Q (-1000001 : Int32) J1 else wm_isDay (fun r4 J3 => (if r4 = 0 then Q (-1000001 : Int32) J3 else wm_in (fun r6 J5 => (if r6 = 0 then Q (-1000001 : Int32) J5 else ∃ n8, wm_key_47 Q n8 J5 x1 x2 x3 (-1000000 : Int32) (0 : Int32) (0 : Int32))) J3 (Int32.toInt64 x3) (0 : Int64) (1 : Int64))) J1 x2)) (mset J 0 0 (0 : Int32)) (Int32.toInt64 x1) (0 : Int64) (3 : Int64)
theorem hd_key : yX3_key.cls = RX3 ∧ yX3_key.cls ≠ "java/lang/invoke/MethodHandle" ∧ yX3_key.cls ≠ "java/lang/invoke/VarHandle" ∧ (parseMethodDescriptor yX3_key.desc).map (fun d => d.parameters.length) = some 3 := by decide +kernel
set_option maxHeartbeats 4000000 in
set_option maxRecDepth 100000 in
theorem bm_key (E : ME) (C : Cx) (Q : Int32 → MS → Prop) (J : MS) (x1 : Int32) (x2 : Int32) (x3 : Int32) (hC : COk C cX3_key RX3 (some .int) 3 61 9) (hM : MOk E C) (hQ : cx_Q C = MQ (cx_b C) (va_Qi Q (BM E) (mA E)) (cx_a C) (cx_s C) (cx_MC C) (cx_MS C) (mA E)) (h : wm_key Q J x1 x2 x3) : GM E C J 0 [some (.ref (me_a E 54)), some (.int x1), some (.int x2), some (.int x3), none, none, none, none, none] [] := by
  have s_148 : ∀ (K47 : MS → Int32 → Int32 → Int32 → Int32 → Int32 → Int32 → Prop) (hK47 : ∀ (J : MS) (b1 : Int32) (b2 : Int32) (b3 : Int32) (b4 : Int32) (b5 : Int32) (b6 : Int32), K47 J b1 b2 b3 b4 b5 b6 → GM E C J 47 [some (.ref (me_a E 54)), some (.int b1), some (.int b2), some (.int b3), some (.int b4), some (.int b5), some (.int b6), none, none] []) (K56 : MS → Int32 → Int32 → Int32 → Int32 → Int32 → Int32 → Int32 → Prop) (hK56 : ∀ (J : MS) (b1 : Int32) (b2 : Int32) (b3 : Int32) (b4 : Int32) (b5 : Int32) (b6 : Int32) (b7 : Int32), K56 J b1 b2 b3 b4 b5 b6 b7 → GM E C J 56 [some (.ref (me_a E 54)), some (.int b1), some (.int b2), some (.int b3), some (.int b4), some (.int b5), some (.int b6), some (.int b7), none] []) (J : MS) (a1 : Int32) (a2 : Int32) (a3 : Int32) (a4 : Int32) (a5 : Int32) (a6 : Int32) (a7 : Int32), wm_key_148 Q K47 K56 J a1 a2 a3 a4 a5 a6 a7 → GM E C J 148 [some (.ref (me_a E 54)), some (.int a1), some (.int a2), some (.int a3), some (.int a4), some (.int a5), some (.int a6), some (.int a7), none] [] := by
    intro K47 hK47 K56 hK56 J a1 a2 a3 a4 a5 a6 a7 h
    refine g_iinc (v := (a7 + (1 : Int32))) hC dX3_key_148 rfl rfl (by decide) rfl rfl ?_
    refine g_goto (tgt := 56) hC dX3_key_151 (by decide) ?_
    exact hK56 J a1 a2 a3 a4 a5 a6 (a7 + (1 : Int32)) h
  have s_145 : ∀ (K47 : MS → Int32 → Int32 → Int32 → Int32 → Int32 → Int32 → Prop) (hK47 : ∀ (J : MS) (b1 : Int32) (b2 : Int32) (b3 : Int32) (b4 : Int32) (b5 : Int32) (b6 : Int32), K47 J b1 b2 b3 b4 b5 b6 → GM E C J 47 [some (.ref (me_a E 54)), some (.int b1), some (.int b2), some (.int b3), some (.int b4), some (.int b5), some (.int b6), none, none] []) (K56 : MS → Int32 → Int32 → Int32 → Int32 → Int32 → Int32 → Int32 → Prop) (hK56 : ∀ (J : MS) (b1 : Int32) (b2 : Int32) (b3 : Int32) (b4 : Int32) (b5 : Int32) (b6 : Int32) (b7 : Int32), K56 J b1 b2 b3 b4 b5 b6 b7 → GM E C J 56 [some (.ref (me_a E 54)), some (.int b1), some (.int b2), some (.int b3), some (.int b4), some (.int b5), some (.int b6), some (.int b7), none] []) (J : MS) (a1 : Int32) (a2 : Int32) (a3 : Int32) (a4 : Int32) (a6 : Int32) (a7 : Int32) (s0 : Int32) (s1 : Int32), wm_key_145 Q K47 K56 J a1 a2 a3 a4 a6 a7 s0 s1 → GM E C J 145 [some (.ref (me_a E 54)), some (.int a1), some (.int a2), some (.int a3), some (.int a4), none, some (.int a6), some (.int a7), none] [.int s1, .int s0] := by
    intro K47 hK47 K56 hK56 J a1 a2 a3 a4 a6 a7 s0 s1 h
    refine g_iadd hC dX3_key_145 ?_
    refine g_istore hC dX3_key_146 (by decide) rfl rfl ?_
    exact s_148 K47 hK47 K56 hK56 J a1 a2 a3 a4 (s0 + s1) a6 a7 h
  have s_131 : ∀ (K47 : MS → Int32 → Int32 → Int32 → Int32 → Int32 → Int32 → Prop) (hK47 : ∀ (J : MS) (b1 : Int32) (b2 : Int32) (b3 : Int32) (b4 : Int32) (b5 : Int32) (b6 : Int32), K47 J b1 b2 b3 b4 b5 b6 → GM E C J 47 [some (.ref (me_a E 54)), some (.int b1), some (.int b2), some (.int b3), some (.int b4), some (.int b5), some (.int b6), none, none] []) (K56 : MS → Int32 → Int32 → Int32 → Int32 → Int32 → Int32 → Int32 → Prop) (hK56 : ∀ (J : MS) (b1 : Int32) (b2 : Int32) (b3 : Int32) (b4 : Int32) (b5 : Int32) (b6 : Int32) (b7 : Int32), K56 J b1 b2 b3 b4 b5 b6 b7 → GM E C J 56 [some (.ref (me_a E 54)), some (.int b1), some (.int b2), some (.int b3), some (.int b4), some (.int b5), some (.int b6), some (.int b7), none] []) (J : MS) (a1 : Int32) (a2 : Int32) (a3 : Int32) (a5 : Int32) (a6 : Int32) (a7 : Int32) (a8 : Int32) (s0 : Int32), wm_key_131 Q K47 K56 J a1 a2 a3 a5 a6 a7 a8 s0 → GM E C J 131 [some (.ref (me_a E 54)), some (.int a1), some (.int a2), some (.int a3), none, some (.int a5), some (.int a6), some (.int a7), some (.int a8)] [.int s0] := by
    intro K47 hK47 K56 hK56 J a1 a2 a3 a5 a6 a7 a8 s0 h
    refine g_istore hC dX3_key_131 (by decide) rfl rfl ?_
    refine g_iload hC dX3_key_133 rfl ?_
    refine g_iload hC dX3_key_135 rfl ?_
    refine g_if_eq (tgt := 144) hC dX3_key_137 (by decide) (fun c => ?_) (fun c => ?_)
    · have h := it_p c h
      refine g_iconst (v := 1) hC dX3_key_144 (by decide) ?_
      refine g_sub [true, true, true, true, true, false, true, true, false] rfl ?_
      exact s_145 K47 hK47 K56 hK56 J a1 a2 a3 s0 a6 a7 a5 (1 : Int32) h
    · have h := it_n c h
      refine g_iconst (v := 0) hC dX3_key_140 (by decide) ?_
      refine g_goto (tgt := 145) hC dX3_key_141 (by decide) ?_
      refine g_sub [true, true, true, true, true, false, true, true, false] rfl ?_
      exact s_145 K47 hK47 K56 hK56 J a1 a2 a3 s0 a6 a7 a5 (0 : Int32) h
  have s_112 : ∀ (K47 : MS → Int32 → Int32 → Int32 → Int32 → Int32 → Int32 → Prop) (hK47 : ∀ (J : MS) (b1 : Int32) (b2 : Int32) (b3 : Int32) (b4 : Int32) (b5 : Int32) (b6 : Int32), K47 J b1 b2 b3 b4 b5 b6 → GM E C J 47 [some (.ref (me_a E 54)), some (.int b1), some (.int b2), some (.int b3), some (.int b4), some (.int b5), some (.int b6), none, none] []) (K56 : MS → Int32 → Int32 → Int32 → Int32 → Int32 → Int32 → Int32 → Prop) (hK56 : ∀ (J : MS) (b1 : Int32) (b2 : Int32) (b3 : Int32) (b4 : Int32) (b5 : Int32) (b6 : Int32) (b7 : Int32), K56 J b1 b2 b3 b4 b5 b6 b7 → GM E C J 56 [some (.ref (me_a E 54)), some (.int b1), some (.int b2), some (.int b3), some (.int b4), some (.int b5), some (.int b6), some (.int b7), none] []) (J : MS) (a1 : Int32) (a2 : Int32) (a3 : Int32) (a4 : Int32) (a5 : Int32) (a6 : Int32) (a7 : Int32) (s0 : Int32), wm_key_112 Q K47 K56 J a1 a2 a3 a4 a5 a6 a7 s0 → GM E C J 112 [some (.ref (me_a E 54)), some (.int a1), some (.int a2), some (.int a3), some (.int a4), some (.int a5), some (.int a6), some (.int a7), none] [.int s0] := by
    intro K47 hK47 K56 hK56 J a1 a2 a3 a4 a5 a6 a7 s0 h
    refine g_istore hC dX3_key_112 (by decide) rfl rfl ?_
    refine g_iload hC dX3_key_114 rfl ?_
    refine g_if_eq (tgt := 129) hC dX3_key_116 (by decide) (fun c => ?_) (fun c => ?_)
    · have h := it_p c h
      refine g_iload hC dX3_key_129 rfl ?_
      refine g_sub [true, true, true, true, false, true, true, true, true] rfl ?_
      exact s_131 K47 hK47 K56 hK56 J a1 a2 a3 a5 a6 a7 s0 a4 h
    · have h := it_n c h
      refine g_aload_n hC dX3_key_119 rfl ?_
      refine gM_getA hC hM 40 dX3_key_120 q1543 (by decide) (by decide) rfl ?_
      refine g_iload hC dX3_key_123 rfl ?_
      refine gM_iald hC hM 40 22 dX3_key_125 rfl (by decide) h.1 ?_
      refine g_goto (tgt := 131) hC dX3_key_126 (by decide) ?_
      refine g_sub [true, true, true, true, false, true, true, true, true] rfl ?_
      exact s_131 K47 hK47 K56 hK56 J a1 a2 a3 a5 a6 a7 s0 (J 40 (Int32.toNatClampNeg a7)) h.2
  have s_107 : ∀ (K47 : MS → Int32 → Int32 → Int32 → Int32 → Int32 → Int32 → Prop) (hK47 : ∀ (J : MS) (b1 : Int32) (b2 : Int32) (b3 : Int32) (b4 : Int32) (b5 : Int32) (b6 : Int32), K47 J b1 b2 b3 b4 b5 b6 → GM E C J 47 [some (.ref (me_a E 54)), some (.int b1), some (.int b2), some (.int b3), some (.int b4), some (.int b5), some (.int b6), none, none] []) (K56 : MS → Int32 → Int32 → Int32 → Int32 → Int32 → Int32 → Int32 → Prop) (hK56 : ∀ (J : MS) (b1 : Int32) (b2 : Int32) (b3 : Int32) (b4 : Int32) (b5 : Int32) (b6 : Int32) (b7 : Int32), K56 J b1 b2 b3 b4 b5 b6 b7 → GM E C J 56 [some (.ref (me_a E 54)), some (.int b1), some (.int b2), some (.int b3), some (.int b4), some (.int b5), some (.int b6), some (.int b7), none] []) (J : MS) (a1 : Int32) (a2 : Int32) (a3 : Int32) (a4 : Int32) (a5 : Int32) (a6 : Int32) (a7 : Int32), wm_key_107 Q K47 K56 J a1 a2 a3 a4 a5 a6 a7 → GM E C J 107 [some (.ref (me_a E 54)), some (.int a1), some (.int a2), some (.int a3), some (.int a4), some (.int a5), some (.int a6), some (.int a7), none] [] := by
    intro K47 hK47 K56 hK56 J a1 a2 a3 a4 a5 a6 a7 h
    refine g_iconst (v := 1) hC dX3_key_107 (by decide) ?_
    refine g_goto (tgt := 112) hC dX3_key_108 (by decide) ?_
    exact s_112 K47 hK47 K56 hK56 J a1 a2 a3 a4 a5 a6 a7 (1 : Int32) h
  have s_56 : ∀ (K47 : MS → Int32 → Int32 → Int32 → Int32 → Int32 → Int32 → Prop) (hK47 : ∀ (J : MS) (b1 : Int32) (b2 : Int32) (b3 : Int32) (b4 : Int32) (b5 : Int32) (b6 : Int32), K47 J b1 b2 b3 b4 b5 b6 → GM E C J 47 [some (.ref (me_a E 54)), some (.int b1), some (.int b2), some (.int b3), some (.int b4), some (.int b5), some (.int b6), none, none] []) (n : Nat) (J : MS) (a1 : Int32) (a2 : Int32) (a3 : Int32) (a4 : Int32) (a5 : Int32) (a6 : Int32) (a7 : Int32), wm_key_56 Q K47 n J a1 a2 a3 a4 a5 a6 a7 → GM E C J 56 [some (.ref (me_a E 54)), some (.int a1), some (.int a2), some (.int a3), some (.int a4), some (.int a5), some (.int a6), some (.int a7), none] [] := by
    intro K47 hK47 n
    induction n with
    | zero =>
      intro J a1 a2 a3 a4 a5 a6 a7 h
      exact False.elim h
    | succ n ih =>
      intro J a1 a2 a3 a4 a5 a6 a7 h
      refine g_iload hC dX3_key_56 rfl ?_
      refine g_aload_n hC dX3_key_58 rfl ?_
      refine gM_getS hC hM 37 dX3_key_59 q1540 (by decide) (by decide) rfl ?_
      refine g_icmp_ge (tgt := 154) hC dX3_key_62 (by decide) (fun c => ?_) (fun c => ?_)
      · have h := it_p c h
        refine g_iinc (v := (a6 + (1 : Int32))) hC dX3_key_154 rfl rfl (by decide) rfl rfl ?_
        refine g_goto (tgt := 47) hC dX3_key_157 (by decide) ?_
        refine g_sub [true, true, true, true, true, true, true, false, false] rfl ?_
        exact hK47 J a1 a2 a3 a4 a5 (a6 + (1 : Int32)) h
      · have h := it_n c h
        refine g_aload_n hC dX3_key_65 rfl ?_
        refine gM_getA hC hM 38 dX3_key_66 q1541 (by decide) (by decide) rfl ?_
        refine g_iload hC dX3_key_69 rfl ?_
        refine gM_iald hC hM 38 20 dX3_key_71 rfl (by decide) h.1 ?_
        refine g_iload_n hC dX3_key_72 rfl ?_
        refine g_icmp_ne (tgt := 148) hC dX3_key_73 (by decide) (fun c => ?_) (fun c => ?_)
        · have h := it_n c h.2
          exact s_148 K47 hK47 (wm_key_56 Q K47 n) ih J a1 a2 a3 a4 a5 a6 a7 h
        · have h := it_p c h.2
          refine g_aload_n hC dX3_key_76 rfl ?_
          refine gM_getA hC hM 41 dX3_key_77 q1544 (by decide) (by decide) rfl ?_
          refine g_iload hC dX3_key_80 rfl ?_
          refine gM_iald hC hM 41 23 dX3_key_82 rfl (by decide) h.1 ?_
          refine g_iload hC dX3_key_83 rfl ?_
          refine g_icmp_ne (tgt := 148) hC dX3_key_85 (by decide) (fun c => ?_) (fun c => ?_)
          · have h := it_n c h.2
            exact s_148 K47 hK47 (wm_key_56 Q K47 n) ih J a1 a2 a3 a4 a5 a6 a7 h
          · have h := it_p c h.2
            refine g_iload hC dX3_key_88 rfl ?_
            refine g_ldc (v := -1000000) hC dX3_key_90 q1720 ?_
            refine g_icmp_eq (tgt := 107) hC dX3_key_92 (by decide) (fun c => ?_) (fun c => ?_)
            · have h := it_p c h
              exact s_107 K47 hK47 (wm_key_56 Q K47 n) ih J a1 a2 a3 a4 a5 a6 a7 h
            · have h := it_n c h
              refine g_aload_n hC dX3_key_95 rfl ?_
              refine gM_getA hC hM 39 dX3_key_96 q1542 (by decide) (by decide) rfl ?_
              refine g_iload hC dX3_key_99 rfl ?_
              refine gM_iald hC hM 39 21 dX3_key_101 rfl (by decide) h.1 ?_
              refine g_iload hC dX3_key_102 rfl ?_
              refine g_icmp_ne (tgt := 111) hC dX3_key_104 (by decide) (fun c => ?_) (fun c => ?_)
              · have h := it_n c h.2
                refine g_iconst (v := 0) hC dX3_key_111 (by decide) ?_
                exact s_112 K47 hK47 (wm_key_56 Q K47 n) ih J a1 a2 a3 a4 a5 a6 a7 (0 : Int32) h
              · have h := it_p c h.2
                exact s_107 K47 hK47 (wm_key_56 Q K47 n) ih J a1 a2 a3 a4 a5 a6 a7 h
  have s_47 : ∀ (n : Nat) (J : MS) (a1 : Int32) (a2 : Int32) (a3 : Int32) (a4 : Int32) (a5 : Int32) (a6 : Int32), wm_key_47 Q  n J a1 a2 a3 a4 a5 a6 → GM E C J 47 [some (.ref (me_a E 54)), some (.int a1), some (.int a2), some (.int a3), some (.int a4), some (.int a5), some (.int a6), none, none] [] := by
    intro  n
    induction n with
    | zero =>
      intro J a1 a2 a3 a4 a5 a6 h
      exact False.elim h
    | succ n ih =>
      intro J a1 a2 a3 a4 a5 a6 h
      refine g_iload hC dX3_key_47 rfl ?_
      refine g_iload_n hC dX3_key_49 rfl ?_
      refine g_icmp_gt (tgt := 160) hC dX3_key_50 (by decide) (fun c => ?_) (fun c => ?_)
      · have h := it_p c h
        refine g_iload_n hC dX3_key_160 rfl ?_
        refine g_if_ne (tgt := 169) hC dX3_key_161 (by decide) (fun c => ?_) (fun c => ?_)
        · have h := it_n c h
          refine g_iload hC dX3_key_169 rfl ?_
          refine gM_iret hC hM hQ rfl dX3_key_171 h
        · have h := it_p c h
          refine g_iload hC dX3_key_164 rfl ?_
          refine g_goto (tgt := 171) hC dX3_key_166 (by decide) ?_
          refine gM_iret hC hM hQ rfl dX3_key_171 h
      · have h := it_n c h
        refine g_iconst (v := 0) hC dX3_key_53 (by decide) ?_
        refine g_istore hC dX3_key_54 (by decide) rfl rfl ?_
        obtain ⟨n0, h0⟩ := h
        exact s_56 (wm_key_47 Q n) ih n0 J a1 a2 a3 a4 a5 a6 (0 : Int32) h0
  refine g_aload_n hC dX3_key_0 rfl ?_
  refine g_iconst (v := 0) hC dX3_key_1 (by decide) ?_
  refine gM_put hC hM 0 (ty := .int) dX3_key_2 q1503 (by decide) (by decide) rfl rfl rfl rfl rfl ?_
  refine g_iload_n hC dX3_key_5 rfl ?_
  refine g_i2l hC dX3_key_6 ?_
  refine g_lconst (v := 0) hC dX3_key_7 (by decide) ?_
  refine g_ldc2 (v := 3) hC dX3_key_8 q1787 ?_
  refine gM_Si (As := [.long (Int32.toInt64 x1), .long (0 : Int64), .long (3 : Int64)]) (rest := []) hC hM (mm_in (cx_l C) E hM.2.1 _ _ _ _ _ h) (lw_S q1675 q1676 q76 q1677) hd_in rfl rfl (Nat.le_of_ble_eq_true rfl) ⟨Nat.le_of_ble_eq_true rfl, Nat.le_of_ble_eq_true rfl⟩ dX3_key_11 ?_
  intro r2 J1 h
  refine g_if_eq (tgt := 34) hC dX3_key_14 (by decide) (fun c => ?_) (fun c => ?_)
  · have h := it_p c h
    refine g_ldc (v := -1000001) hC dX3_key_34 q1679 ?_
    refine gM_iret hC hM hQ rfl dX3_key_36 h
  · have h := it_n c h
    refine g_iload_n hC dX3_key_17 rfl ?_
    refine gM_Si (As := [.int x2]) (rest := []) hC hM (mm_isDay (cx_l C) E hM.2.1 _ _ _ h) (lw_S q1799 q1800 q76 q1801) hd_isDay rfl rfl (Nat.le_of_ble_eq_true rfl) ⟨Nat.le_of_ble_eq_true rfl, Nat.le_of_ble_eq_true rfl⟩ dX3_key_18 ?_
    intro r4 J3 h
    refine g_if_eq (tgt := 34) hC dX3_key_21 (by decide) (fun c => ?_) (fun c => ?_)
    · have h := it_p c h
      refine g_ldc (v := -1000001) hC dX3_key_34 q1679 ?_
      refine gM_iret hC hM hQ rfl dX3_key_36 h
    · have h := it_n c h
      refine g_iload_n hC dX3_key_24 rfl ?_
      refine g_i2l hC dX3_key_25 ?_
      refine g_lconst (v := 0) hC dX3_key_26 (by decide) ?_
      refine g_lconst (v := 1) hC dX3_key_27 (by decide) ?_
      refine gM_Si (As := [.long (Int32.toInt64 x3), .long (0 : Int64), .long (1 : Int64)]) (rest := []) hC hM (mm_in (cx_l C) E hM.2.1 _ _ _ _ _ h) (lw_S q1675 q1676 q76 q1677) hd_in rfl rfl (Nat.le_of_ble_eq_true rfl) ⟨Nat.le_of_ble_eq_true rfl, Nat.le_of_ble_eq_true rfl⟩ dX3_key_28 ?_
      intro r6 J5 h
      refine g_if_ne (tgt := 37) hC dX3_key_31 (by decide) (fun c => ?_) (fun c => ?_)
      · have h := it_n c h
        refine g_ldc (v := -1000000) hC dX3_key_37 q1720 ?_
        refine g_istore hC dX3_key_39 (by decide) rfl rfl ?_
        refine g_iconst (v := 0) hC dX3_key_41 (by decide) ?_
        refine g_istore hC dX3_key_42 (by decide) rfl rfl ?_
        refine g_iconst (v := 0) hC dX3_key_44 (by decide) ?_
        refine g_istore hC dX3_key_45 (by decide) rfl rfl ?_
        obtain ⟨n0, h0⟩ := h
        exact s_47 n0 J5 x1 x2 x3 (-1000000 : Int32) (0 : Int32) (0 : Int32) h0
      · have h := it_p c h
        refine g_ldc (v := -1000001) hC dX3_key_34 q1679 ?_
        refine gM_iret hC hM hQ rfl dX3_key_36 h
theorem mm_key (l : Launch) (E : ME) (hI : mInj E) (Q : Int32 → MS → Prop) (J : MS) (x1 : Int32) (x2 : Int32) (x3 : Int32) (h : wm_key Q J x1 x2 x3) : MMet E l yX3_key cX3_key 9 (some .int) ({ frames := 3, cells := 0, slots := 0, locals := 61 }) [.ref (me_a E 54), .int x1, .int x2, .int x3] J (va_Qi Q (BM E) (mA E)) :=
  MMet_of hI (by decide) rfl (Nat.le_of_ble_eq_true rfl) (L0 := [some (.ref (me_a E 54)), some (.int x1), some (.int x2), some (.int x3), none, none, none, none, none]) rfl (fun C hC hM hl hQ => bm_key E C Q J x1 x2 x3 hC hM hQ h)
/-! look -/
def wm_look (Q : Int32 → MS → Prop) (J : MS) (x1 : Int32) (x2 : Int32) (x3 : Int32) (x4 : Int32) : Prop :=
  wm_isHall (fun r2 J1 => (if r2 = 0 then Q (-1000001 : Int32) J1 else wm_isDay (fun r4 J3 => (if r4 = 0 then Q (-1000001 : Int32) J3 else wm_in (fun r6 J5 => (if r6 = 0 then Q (-1000001 : Int32) J5 else wm_in (fun r8 J7 => (if r8 = 0 then Q (-1000001 : Int32) J7 else (if (J7 42 0) = (40 : Int32) then Q (-1000003 : Int32) J7 else vp_in (J7 42 0) 40 ∧ vp_in ((mset J7 43 (Int32.toNatClampNeg (J7 42 0)) x1) 42 0) 40 ∧ vp_in ((mset (mset J7 43 (Int32.toNatClampNeg (J7 42 0)) x1) 44 (Int32.toNatClampNeg ((mset J7 43 (Int32.toNatClampNeg (J7 42 0)) x1) 42 0)) (((96 : Int32) * x2) + x3)) 42 0) 40 ∧ Q ((mset (mset (mset (mset J7 43 (Int32.toNatClampNeg (J7 42 0)) x1) 44 (Int32.toNatClampNeg ((mset J7 43 (Int32.toNatClampNeg (J7 42 0)) x1) 42 0)) (((96 : Int32) * x2) + x3)) 45 (Int32.toNatClampNeg ((mset (mset J7 43 (Int32.toNatClampNeg (J7 42 0)) x1) 44 (Int32.toNatClampNeg ((mset J7 43 (Int32.toNatClampNeg (J7 42 0)) x1) 42 0)) (((96 : Int32) * x2) + x3)) 42 0)) x4) 42 0 (((mset (mset (mset J7 43 (Int32.toNatClampNeg (J7 42 0)) x1) 44 (Int32.toNatClampNeg ((mset J7 43 (Int32.toNatClampNeg (J7 42 0)) x1) 42 0)) (((96 : Int32) * x2) + x3)) 45 (Int32.toNatClampNeg ((mset (mset J7 43 (Int32.toNatClampNeg (J7 42 0)) x1) 44 (Int32.toNatClampNeg ((mset J7 43 (Int32.toNatClampNeg (J7 42 0)) x1) 42 0)) (((96 : Int32) * x2) + x3)) 42 0)) x4) 42 0) + (1 : Int32))) 42 0) (mset (mset (mset (mset J7 43 (Int32.toNatClampNeg (J7 42 0)) x1) 44 (Int32.toNatClampNeg ((mset J7 43 (Int32.toNatClampNeg (J7 42 0)) x1) 42 0)) (((96 : Int32) * x2) + x3)) 45 (Int32.toNatClampNeg ((mset (mset J7 43 (Int32.toNatClampNeg (J7 42 0)) x1) 44 (Int32.toNatClampNeg ((mset J7 43 (Int32.toNatClampNeg (J7 42 0)) x1) 42 0)) (((96 : Int32) * x2) + x3)) 42 0)) x4) 42 0 (((mset (mset (mset J7 43 (Int32.toNatClampNeg (J7 42 0)) x1) 44 (Int32.toNatClampNeg ((mset J7 43 (Int32.toNatClampNeg (J7 42 0)) x1) 42 0)) (((96 : Int32) * x2) + x3)) 45 (Int32.toNatClampNeg ((mset (mset J7 43 (Int32.toNatClampNeg (J7 42 0)) x1) 44 (Int32.toNatClampNeg ((mset J7 43 (Int32.toNatClampNeg (J7 42 0)) x1) 42 0)) (((96 : Int32) * x2) + x3)) 42 0)) x4) 42 0) + (1 : Int32)))))) J5 (Int32.toInt64 x4) (0 : Int64) (255 : Int64))) J3 (Int32.toInt64 x3) (0 : Int64) (95 : Int64))) J1 x2)) (mset J 0 0 (0 : Int32)) x1
theorem hd_look : yX3_look.cls = RX3 ∧ yX3_look.cls ≠ "java/lang/invoke/MethodHandle" ∧ yX3_look.cls ≠ "java/lang/invoke/VarHandle" ∧ (parseMethodDescriptor yX3_look.desc).map (fun d => d.parameters.length) = some 4 := by decide +kernel
set_option maxHeartbeats 4000000 in
set_option maxRecDepth 100000 in
theorem bm_look (E : ME) (C : Cx) (Q : Int32 → MS → Prop) (J : MS) (x1 : Int32) (x2 : Int32) (x3 : Int32) (x4 : Int32) (hC : COk C cX3_look RX3 (some .int) 3 61 5) (hM : MOk E C) (hQ : cx_Q C = MQ (cx_b C) (va_Qi Q (BM E) (mA E)) (cx_a C) (cx_s C) (cx_MC C) (cx_MS C) (mA E)) (h : wm_look Q J x1 x2 x3 x4) : GM E C J 0 [some (.ref (me_a E 54)), some (.int x1), some (.int x2), some (.int x3), some (.int x4)] [] := by
  refine g_aload_n hC dX3_look_0 rfl ?_
  refine g_iconst (v := 0) hC dX3_look_1 (by decide) ?_
  refine gM_put hC hM 0 (ty := .int) dX3_look_2 q1503 (by decide) (by decide) rfl rfl rfl rfl rfl ?_
  refine g_iload_n hC dX3_look_5 rfl ?_
  refine gM_Si (As := [.int x1]) (rest := []) hC hM (mm_isHall (cx_l C) E hM.2.1 _ _ _ h) (lw_S q1784 q1785 q76 q1786) hd_isHall rfl rfl (Nat.le_of_ble_eq_true rfl) ⟨Nat.le_of_ble_eq_true rfl, Nat.le_of_ble_eq_true rfl⟩ dX3_look_6 ?_
  intro r2 J1 h
  refine g_if_eq (tgt := 44) hC dX3_look_9 (by decide) (fun c => ?_) (fun c => ?_)
  · have h := it_p c h
    refine g_ldc (v := -1000001) hC dX3_look_44 q1679 ?_
    refine gM_iret hC hM hQ rfl dX3_look_46 h
  · have h := it_n c h
    refine g_iload_n hC dX3_look_12 rfl ?_
    refine gM_Si (As := [.int x2]) (rest := []) hC hM (mm_isDay (cx_l C) E hM.2.1 _ _ _ h) (lw_S q1799 q1800 q76 q1801) hd_isDay rfl rfl (Nat.le_of_ble_eq_true rfl) ⟨Nat.le_of_ble_eq_true rfl, Nat.le_of_ble_eq_true rfl⟩ dX3_look_13 ?_
    intro r4 J3 h
    refine g_if_eq (tgt := 44) hC dX3_look_16 (by decide) (fun c => ?_) (fun c => ?_)
    · have h := it_p c h
      refine g_ldc (v := -1000001) hC dX3_look_44 q1679 ?_
      refine gM_iret hC hM hQ rfl dX3_look_46 h
    · have h := it_n c h
      refine g_iload_n hC dX3_look_19 rfl ?_
      refine g_i2l hC dX3_look_20 ?_
      refine g_lconst (v := 0) hC dX3_look_21 (by decide) ?_
      refine g_ldc2 (v := 95) hC dX3_look_22 q1803 ?_
      refine gM_Si (As := [.long (Int32.toInt64 x3), .long (0 : Int64), .long (95 : Int64)]) (rest := []) hC hM (mm_in (cx_l C) E hM.2.1 _ _ _ _ _ h) (lw_S q1675 q1676 q76 q1677) hd_in rfl rfl (Nat.le_of_ble_eq_true rfl) ⟨Nat.le_of_ble_eq_true rfl, Nat.le_of_ble_eq_true rfl⟩ dX3_look_25 ?_
      intro r6 J5 h
      refine g_if_eq (tgt := 44) hC dX3_look_28 (by decide) (fun c => ?_) (fun c => ?_)
      · have h := it_p c h
        refine g_ldc (v := -1000001) hC dX3_look_44 q1679 ?_
        refine gM_iret hC hM hQ rfl dX3_look_46 h
      · have h := it_n c h
        refine g_iload hC dX3_look_31 rfl ?_
        refine g_i2l hC dX3_look_33 ?_
        refine g_lconst (v := 0) hC dX3_look_34 (by decide) ?_
        refine g_ldc2 (v := 255) hC dX3_look_35 q1703 ?_
        refine gM_Si (As := [.long (Int32.toInt64 x4), .long (0 : Int64), .long (255 : Int64)]) (rest := []) hC hM (mm_in (cx_l C) E hM.2.1 _ _ _ _ _ h) (lw_S q1675 q1676 q76 q1677) hd_in rfl rfl (Nat.le_of_ble_eq_true rfl) ⟨Nat.le_of_ble_eq_true rfl, Nat.le_of_ble_eq_true rfl⟩ dX3_look_38 ?_
        intro r8 J7 h
        refine g_if_ne (tgt := 47) hC dX3_look_41 (by decide) (fun c => ?_) (fun c => ?_)
        · have h := it_n c h
          refine g_aload_n hC dX3_look_47 rfl ?_
          refine gM_getS hC hM 42 dX3_look_48 q1545 (by decide) (by decide) rfl ?_
          refine g_bipush (v := 40) hC dX3_look_51 (by decide) ?_
          refine g_icmp_ne (tgt := 59) hC dX3_look_53 (by decide) (fun c => ?_) (fun c => ?_)
          · have h := it_n c h
            refine g_aload_n hC dX3_look_59 rfl ?_
            refine gM_getA hC hM 43 dX3_look_60 q1546 (by decide) (by decide) rfl ?_
            refine g_aload_n hC dX3_look_63 rfl ?_
            refine gM_getS hC hM 42 dX3_look_64 q1545 (by decide) (by decide) rfl ?_
            refine g_iload_n hC dX3_look_67 rfl ?_
            refine gM_iast hC hM 43 24 dX3_look_68 rfl (by decide) h.1 ?_
            refine g_aload_n hC dX3_look_69 rfl ?_
            refine gM_getA hC hM 44 dX3_look_70 q1547 (by decide) (by decide) rfl ?_
            refine g_aload_n hC dX3_look_73 rfl ?_
            refine gM_getS hC hM 42 dX3_look_74 q1545 (by decide) (by decide) rfl ?_
            refine g_bipush (v := 96) hC dX3_look_77 (by decide) ?_
            refine g_iload_n hC dX3_look_79 rfl ?_
            refine g_imul hC dX3_look_80 ?_
            refine g_iload_n hC dX3_look_81 rfl ?_
            refine g_iadd hC dX3_look_82 ?_
            refine gM_iast hC hM 44 25 dX3_look_83 rfl (by decide) h.2.1 ?_
            refine g_aload_n hC dX3_look_84 rfl ?_
            refine gM_getA hC hM 45 dX3_look_85 q1548 (by decide) (by decide) rfl ?_
            refine g_aload_n hC dX3_look_88 rfl ?_
            refine gM_getS hC hM 42 dX3_look_89 q1545 (by decide) (by decide) rfl ?_
            refine g_iload hC dX3_look_92 rfl ?_
            refine gM_iast hC hM 45 26 dX3_look_94 rfl (by decide) h.2.2.1 ?_
            refine g_aload_n hC dX3_look_95 rfl ?_
            refine g_dup hC dX3_look_96 rfl ?_
            refine gM_getS hC hM 42 dX3_look_97 q1545 (by decide) (by decide) rfl ?_
            refine g_iconst (v := 1) hC dX3_look_100 (by decide) ?_
            refine g_iadd hC dX3_look_101 ?_
            refine gM_put hC hM 42 (ty := .int) dX3_look_102 q1545 (by decide) (by decide) rfl rfl rfl rfl rfl ?_
            refine g_aload_n hC dX3_look_105 rfl ?_
            refine gM_getS hC hM 42 dX3_look_106 q1545 (by decide) (by decide) rfl ?_
            refine gM_iret hC hM hQ rfl dX3_look_109 h.2.2.2
          · have h := it_p c h
            refine g_ldc (v := -1000003) hC dX3_look_56 q1702 ?_
            refine gM_iret hC hM hQ rfl dX3_look_58 h
        · have h := it_p c h
          refine g_ldc (v := -1000001) hC dX3_look_44 q1679 ?_
          refine gM_iret hC hM hQ rfl dX3_look_46 h
theorem mm_look (l : Launch) (E : ME) (hI : mInj E) (Q : Int32 → MS → Prop) (J : MS) (x1 : Int32) (x2 : Int32) (x3 : Int32) (x4 : Int32) (h : wm_look Q J x1 x2 x3 x4) : MMet E l yX3_look cX3_look 5 (some .int) ({ frames := 3, cells := 0, slots := 0, locals := 61 }) [.ref (me_a E 54), .int x1, .int x2, .int x3, .int x4] J (va_Qi Q (BM E) (mA E)) :=
  MMet_of hI (by decide) rfl (Nat.le_of_ble_eq_true rfl) (L0 := [some (.ref (me_a E 54)), some (.int x1), some (.int x2), some (.int x3), some (.int x4)]) rfl (fun C hC hM hl hQ => bm_look E C Q J x1 x2 x3 x4 hC hM hQ h)
/-! home -/
def wm_home_400 (Q : Int32 → MS → Prop) (K311 : MS → Int32 → Int32 → Int32 → Int32 → Int32 → Int32 → Int32 → Prop) (J : MS) (a1 : Int32) (a3 : Int32) (a4 : Int32) (a5 : Int32) (a6 : Int32) (a7 : Int32) (a8 : Int32) : Prop :=
  K311 J a1 a3 a4 a5 a6 a7 (a8 + (1 : Int32))
def wm_home_311 (Q : Int32 → MS → Prop) : Nat → MS → Int32 → Int32 → Int32 → Int32 → Int32 → Int32 → Int32 → Prop
  | 0, _, _, _, _, _, _, _, _ => False
  | n + 1, J, a1, a3, a4, a5, a6, a7, a8 => (if (J 24 0) ≤ a8 then (if a7 = (1 : Int32) then Q a6 J else Q (-1000000 : Int32) J) else wm_of (fun r8 J7 => (if ((a5 >>> (a8 &&& 31)) &&& (1 : Int32)) = (1 : Int32) then wm_of (fun r10 J9 => (if r10 = a1 then wm_of (fun r12 J11 => vp_in a3 40 ∧ (if (J11 44 (Int32.toNatClampNeg a3)) ≤ (((96 : Int32) * r8) + r12) then wm_home_400 Q (wm_home_311 Q n) J11 a1 a3 a4 a5 a6 a7 a8 else wm_of (fun r14 J13 => vp_in a4 40 ∧ (if (((96 : Int32) * r8) + r14) ≤ (J13 44 (Int32.toNatClampNeg a4)) then wm_home_400 Q (wm_home_311 Q n) J13 a1 a3 a4 a5 a6 a7 a8 else wm_home_400 Q (wm_home_311 Q n) J13 a1 a3 a4 a5 a8 (a7 + (1 : Int32)) a8)) J11 a8 (4 : Int32))) J9 a8 (3 : Int32) else wm_home_400 Q (wm_home_311 Q n) J9 a1 a3 a4 a5 a6 a7 a8)) J7 a8 (0 : Int32) else wm_home_400 Q (wm_home_311 Q n) J7 a1 a3 a4 a5 a6 a7 a8)) J a8 (2 : Int32))
def wm_home_258 (Q : Int32 → MS → Prop) (K131 : MS → Int32 → Int32 → Int32 → Int32 → Int32 → Prop) (J : MS) (a1 : Int32) (a2 : Int32) (a3 : Int32) (a5 : Int32) (s0 : Int32) : Prop :=
  K131 J a1 a2 a3 s0 (a5 + (1 : Int32))
def wm_home_256 (Q : Int32 → MS → Prop) (K131 : MS → Int32 → Int32 → Int32 → Int32 → Int32 → Prop) (J : MS) (a1 : Int32) (a2 : Int32) (a3 : Int32) (a4 : Int32) (a5 : Int32) : Prop :=
  wm_home_258 Q K131 J a1 a2 a3 a5 a4
def wm_home_251 (Q : Int32 → MS → Prop) (K131 : MS → Int32 → Int32 → Int32 → Int32 → Int32 → Prop) (J : MS) (a1 : Int32) (a2 : Int32) (a3 : Int32) (a5 : Int32) : Prop :=
  wm_home_258 Q K131 J a1 a2 a3 a5 a5
def wm_home_220 (Q : Int32 → MS → Prop) (K131 : MS → Int32 → Int32 → Int32 → Int32 → Int32 → Prop) (J : MS) (a1 : Int32) (a2 : Int32) (a3 : Int32) (a4 : Int32) (a5 : Int32) (s0 : Int32) : Prop :=
  (if s0 = 0 then wm_home_256 Q K131 J a1 a2 a3 a4 a5 else (if a4 = (-1000000 : Int32) then wm_home_251 Q K131 J a1 a2 a3 a5 else vp_in a5 40 ∧ vp_in a4 40 ∧ (if (J 44 (Int32.toNatClampNeg a5)) < (J 44 (Int32.toNatClampNeg a4)) then wm_home_256 Q K131 J a1 a2 a3 a4 a5 else wm_home_251 Q K131 J a1 a2 a3 a5)))
def wm_home_219 (Q : Int32 → MS → Prop) (K131 : MS → Int32 → Int32 → Int32 → Int32 → Int32 → Prop) (J : MS) (a1 : Int32) (a2 : Int32) (a3 : Int32) (a4 : Int32) (a5 : Int32) : Prop :=
  wm_home_220 Q K131 J a1 a2 a3 a4 a5 (0 : Int32)
def wm_home_183 (Q : Int32 → MS → Prop) (K131 : MS → Int32 → Int32 → Int32 → Int32 → Int32 → Prop) (J : MS) (a1 : Int32) (a2 : Int32) (a3 : Int32) (a4 : Int32) (a5 : Int32) (s0 : Int32) : Prop :=
  vp_in a5 40 ∧ (if (J 43 (Int32.toNatClampNeg a5)) = a1 then (if s0 = 0 then wm_home_219 Q K131 J a1 a2 a3 a4 a5 else vp_in a5 40 ∧ (if (((J 45 (Int32.toNatClampNeg a5)) >>> (a2 &&& 31)) &&& (1 : Int32)) = 0 then wm_home_220 Q K131 J a1 a2 a3 a4 a5 (1 : Int32) else wm_home_219 Q K131 J a1 a2 a3 a4 a5)) else wm_home_219 Q K131 J a1 a2 a3 a4 a5)
def wm_home_178 (Q : Int32 → MS → Prop) (K131 : MS → Int32 → Int32 → Int32 → Int32 → Int32 → Prop) (J : MS) (a1 : Int32) (a2 : Int32) (a3 : Int32) (a4 : Int32) (a5 : Int32) : Prop :=
  wm_home_183 Q K131 J a1 a2 a3 a4 a5 (1 : Int32)
def wm_home_182 (Q : Int32 → MS → Prop) (K131 : MS → Int32 → Int32 → Int32 → Int32 → Int32 → Prop) (J : MS) (a1 : Int32) (a2 : Int32) (a3 : Int32) (a4 : Int32) (a5 : Int32) : Prop :=
  wm_home_183 Q K131 J a1 a2 a3 a4 a5 (0 : Int32)
def wm_home_131 (Q : Int32 → MS → Prop) : Nat → MS → Int32 → Int32 → Int32 → Int32 → Int32 → Prop
  | 0, _, _, _, _, _, _ => False
  | n + 1, J, a1, a2, a3, a4, a5 => (if (J 42 0) ≤ a5 then (if a4 = (-1000000 : Int32) then Q (-1000000 : Int32) J else vp_in a4 40 ∧ vp_in a3 40 ∧ (if (J 44 (Int32.toNatClampNeg a4)) = (J 44 (Int32.toNatClampNeg a3)) then Q (-1000000 : Int32) J else wm_holdOn (fun r6 J5 => ∃ n15, wm_home_311 Q n15 J5 a1 a3 a4 r6 (-1000000 : Int32) (0 : Int32) (0 : Int32)) J (364 : Int32))) else vp_in a5 40 ∧ vp_in a3 40 ∧ (if (J 44 (Int32.toNatClampNeg a5)) < (J 44 (Int32.toNatClampNeg a3)) then wm_home_178 Q (wm_home_131 Q n) J a1 a2 a3 a4 a5 else vp_in a5 40 ∧ vp_in a3 40 ∧ (if (J 44 (Int32.toNatClampNeg a5)) = (J 44 (Int32.toNatClampNeg a3)) then (if a3 ≤ a5 then wm_home_182 Q (wm_home_131 Q n) J a1 a2 a3 a4 a5 else wm_home_178 Q (wm_home_131 Q n) J a1 a2 a3 a4 a5) else wm_home_182 Q (wm_home_131 Q n) J a1 a2 a3 a4 a5)))
def wm_home_108 (Q : Int32 → MS → Prop) (K33 : MS → Int32 → Int32 → Int32 → Int32 → Prop) (J : MS) (a1 : Int32) (a2 : Int32) (a4 : Int32) (s0 : Int32) : Prop :=
  K33 J a1 a2 s0 (a4 + (1 : Int32))
def wm_home_107 (Q : Int32 → MS → Prop) (K33 : MS → Int32 → Int32 → Int32 → Int32 → Prop) (J : MS) (a1 : Int32) (a2 : Int32) (a3 : Int32) (a4 : Int32) : Prop :=
  wm_home_108 Q K33 J a1 a2 a4 a3
def wm_home_102 (Q : Int32 → MS → Prop) (K33 : MS → Int32 → Int32 → Int32 → Int32 → Prop) (J : MS) (a1 : Int32) (a2 : Int32) (a4 : Int32) : Prop :=
  wm_home_108 Q K33 J a1 a2 a4 a4
def wm_home_73 (Q : Int32 → MS → Prop) (K33 : MS → Int32 → Int32 → Int32 → Int32 → Prop) (J : MS) (a1 : Int32) (a2 : Int32) (a3 : Int32) (a4 : Int32) (s0 : Int32) : Prop :=
  (if s0 = 0 then wm_home_107 Q K33 J a1 a2 a3 a4 else (if a3 = (-1000000 : Int32) then wm_home_102 Q K33 J a1 a2 a4 else vp_in a4 40 ∧ vp_in a3 40 ∧ (if (J 44 (Int32.toNatClampNeg a3)) ≤ (J 44 (Int32.toNatClampNeg a4)) then wm_home_107 Q K33 J a1 a2 a3 a4 else wm_home_102 Q K33 J a1 a2 a4)))
def wm_home_72 (Q : Int32 → MS → Prop) (K33 : MS → Int32 → Int32 → Int32 → Int32 → Prop) (J : MS) (a1 : Int32) (a2 : Int32) (a3 : Int32) (a4 : Int32) : Prop :=
  wm_home_73 Q K33 J a1 a2 a3 a4 (0 : Int32)
def wm_home_33 (Q : Int32 → MS → Prop) : Nat → MS → Int32 → Int32 → Int32 → Int32 → Prop
  | 0, _, _, _, _, _ => False
  | n + 1, J, a1, a2, a3, a4 => (if (J 42 0) ≤ a4 then (if a3 = (-1000000 : Int32) then Q (-1000000 : Int32) J else ∃ n16, wm_home_131 Q n16 J a1 a2 a3 (-1000000 : Int32) (0 : Int32)) else vp_in a4 40 ∧ (if (J 43 (Int32.toNatClampNeg a4)) = a1 then vp_in a4 40 ∧ (if (((J 45 (Int32.toNatClampNeg a4)) >>> (a2 &&& 31)) &&& (1 : Int32)) = (1 : Int32) then wm_home_73 Q (wm_home_33 Q n) J a1 a2 a3 a4 (1 : Int32) else wm_home_72 Q (wm_home_33 Q n) J a1 a2 a3 a4) else wm_home_72 Q (wm_home_33 Q n) J a1 a2 a3 a4))
def wm_home (Q : Int32 → MS → Prop) (J : MS) (x1 : Int32) (x2 : Int32) : Prop :=
  wm_isHall (fun r2 J1 => (if r2 = 0 then Q (-1000001 : Int32) J1 else wm_in (fun r4 J3 => (if r4 = 0 then Q (-1000001 : Int32) J3 else ∃ n17, wm_home_33 Q n17 J3 x1 x2 (-1000000 : Int32) (0 : Int32))) J1 (Int32.toInt64 x2) (0 : Int64) (7 : Int64))) (mset J 0 0 (0 : Int32)) x1
theorem hd_home : yX3_home.cls = RX3 ∧ yX3_home.cls ≠ "java/lang/invoke/MethodHandle" ∧ yX3_home.cls ≠ "java/lang/invoke/VarHandle" ∧ (parseMethodDescriptor yX3_home.desc).map (fun d => d.parameters.length) = some 2 := by decide +kernel
set_option maxHeartbeats 4000000 in
set_option maxRecDepth 100000 in
theorem bm_home (E : ME) (C : Cx) (Q : Int32 → MS → Prop) (J : MS) (x1 : Int32) (x2 : Int32) (hC : COk C cX3_home RX3 (some .int) 5 110 10) (hM : MOk E C) (hQ : cx_Q C = MQ (cx_b C) (va_Qi Q (BM E) (mA E)) (cx_a C) (cx_s C) (cx_MC C) (cx_MS C) (mA E)) (h : wm_home Q J x1 x2) : GM E C J 0 [some (.ref (me_a E 54)), some (.int x1), some (.int x2), none, none, none, none, none, none, none] [] := by
  have s_400 : ∀ (K311 : MS → Int32 → Int32 → Int32 → Int32 → Int32 → Int32 → Int32 → Prop) (hK311 : ∀ (J : MS) (b1 : Int32) (b3 : Int32) (b4 : Int32) (b5 : Int32) (b6 : Int32) (b7 : Int32) (b8 : Int32), K311 J b1 b3 b4 b5 b6 b7 b8 → GM E C J 311 [some (.ref (me_a E 54)), some (.int b1), none, some (.int b3), some (.int b4), some (.int b5), some (.int b6), some (.int b7), some (.int b8), none] []) (J : MS) (a1 : Int32) (a3 : Int32) (a4 : Int32) (a5 : Int32) (a6 : Int32) (a7 : Int32) (a8 : Int32), wm_home_400 Q K311 J a1 a3 a4 a5 a6 a7 a8 → GM E C J 400 [some (.ref (me_a E 54)), some (.int a1), none, some (.int a3), some (.int a4), some (.int a5), some (.int a6), some (.int a7), some (.int a8), none] [] := by
    intro K311 hK311 J a1 a3 a4 a5 a6 a7 a8 h
    refine g_iinc (v := (a8 + (1 : Int32))) hC dX3_home_400 rfl rfl (by decide) rfl rfl ?_
    refine g_goto (tgt := 311) hC dX3_home_403 (by decide) ?_
    exact hK311 J a1 a3 a4 a5 a6 a7 (a8 + (1 : Int32)) h
  have s_311 : ∀ (n : Nat) (J : MS) (a1 : Int32) (a3 : Int32) (a4 : Int32) (a5 : Int32) (a6 : Int32) (a7 : Int32) (a8 : Int32), wm_home_311 Q  n J a1 a3 a4 a5 a6 a7 a8 → GM E C J 311 [some (.ref (me_a E 54)), some (.int a1), none, some (.int a3), some (.int a4), some (.int a5), some (.int a6), some (.int a7), some (.int a8), none] [] := by
    intro  n
    induction n with
    | zero =>
      intro J a1 a3 a4 a5 a6 a7 a8 h
      exact False.elim h
    | succ n ih =>
      intro J a1 a3 a4 a5 a6 a7 a8 h
      refine g_iload hC dX3_home_311 rfl ?_
      refine g_aload_n hC dX3_home_313 rfl ?_
      refine gM_getS hC hM 24 dX3_home_314 q1527 (by decide) (by decide) rfl ?_
      refine g_icmp_ge (tgt := 406) hC dX3_home_317 (by decide) (fun c => ?_) (fun c => ?_)
      · have h := it_p c h
        refine g_iload hC dX3_home_406 rfl ?_
        refine g_iconst (v := 1) hC dX3_home_408 (by decide) ?_
        refine g_icmp_ne (tgt := 417) hC dX3_home_409 (by decide) (fun c => ?_) (fun c => ?_)
        · have h := it_n c h
          refine g_ldc (v := -1000000) hC dX3_home_417 q1720 ?_
          refine gM_iret hC hM hQ rfl dX3_home_419 h
        · have h := it_p c h
          refine g_iload hC dX3_home_412 rfl ?_
          refine g_goto (tgt := 419) hC dX3_home_414 (by decide) ?_
          refine gM_iret hC hM hQ rfl dX3_home_419 h
      · have h := it_n c h
        refine g_bipush (v := 96) hC dX3_home_320 (by decide) ?_
        refine g_aload_n hC dX3_home_322 rfl ?_
        refine g_iload hC dX3_home_323 rfl ?_
        refine g_iconst (v := 2) hC dX3_home_325 (by decide) ?_
        refine gM_Vi (As := [.int a8, .int (2 : Int32)]) (rest := [.int (96 : Int32)]) hC hM (mm_of (cx_l C) E hM.2.1 _ _ _ _ h) (lw_V q1814 q1816 qs51 q76 q1817) hd_of rfl rfl (Nat.le_of_ble_eq_true rfl) ⟨Nat.le_of_ble_eq_true rfl, Nat.le_of_ble_eq_true rfl⟩ dX3_home_326 ?_
        intro r8 J7 h
        refine g_imul hC dX3_home_329 ?_
        refine g_istore hC dX3_home_330 (by decide) rfl rfl ?_
        refine g_iload hC dX3_home_332 rfl ?_
        refine g_iload hC dX3_home_334 rfl ?_
        refine g_ishr hC dX3_home_336 ?_
        refine g_iconst (v := 1) hC dX3_home_337 (by decide) ?_
        refine g_iand hC dX3_home_338 ?_
        refine g_iconst (v := 1) hC dX3_home_339 (by decide) ?_
        refine g_icmp_ne (tgt := 400) hC dX3_home_340 (by decide) (fun c => ?_) (fun c => ?_)
        · have h := it_n c h
          refine g_sub [true, true, false, true, true, true, true, true, true, false] rfl ?_
          exact s_400 (wm_home_311 Q n) ih J7 a1 a3 a4 a5 a6 a7 a8 h
        · have h := it_p c h
          refine g_aload_n hC dX3_home_343 rfl ?_
          refine g_iload hC dX3_home_344 rfl ?_
          refine g_iconst (v := 0) hC dX3_home_346 (by decide) ?_
          refine gM_Vi (As := [.int a8, .int (0 : Int32)]) (rest := []) hC hM (mm_of (cx_l C) E hM.2.1 _ _ _ _ h) (lw_V q1814 q1816 qs51 q76 q1817) hd_of rfl rfl (Nat.le_of_ble_eq_true rfl) ⟨Nat.le_of_ble_eq_true rfl, Nat.le_of_ble_eq_true rfl⟩ dX3_home_347 ?_
          intro r10 J9 h
          refine g_iload_n hC dX3_home_350 rfl ?_
          refine g_icmp_ne (tgt := 400) hC dX3_home_351 (by decide) (fun c => ?_) (fun c => ?_)
          · have h := it_n c h
            refine g_sub [true, true, false, true, true, true, true, true, true, false] rfl ?_
            exact s_400 (wm_home_311 Q n) ih J9 a1 a3 a4 a5 a6 a7 a8 h
          · have h := it_p c h
            refine g_iload hC dX3_home_354 rfl ?_
            refine g_aload_n hC dX3_home_356 rfl ?_
            refine g_iload hC dX3_home_357 rfl ?_
            refine g_iconst (v := 3) hC dX3_home_359 (by decide) ?_
            refine gM_Vi (As := [.int a8, .int (3 : Int32)]) (rest := [.int ((96 : Int32) * r8)]) hC hM (mm_of (cx_l C) E hM.2.1 _ _ _ _ h) (lw_V q1814 q1816 qs51 q76 q1817) hd_of rfl rfl (Nat.le_of_ble_eq_true rfl) ⟨Nat.le_of_ble_eq_true rfl, Nat.le_of_ble_eq_true rfl⟩ dX3_home_360 ?_
            intro r12 J11 h
            refine g_iadd hC dX3_home_363 ?_
            refine g_aload_n hC dX3_home_364 rfl ?_
            refine gM_getA hC hM 44 dX3_home_365 q1547 (by decide) (by decide) rfl ?_
            refine g_iload_n hC dX3_home_368 rfl ?_
            refine gM_iald hC hM 44 25 dX3_home_369 rfl (by decide) h.1 ?_
            refine g_icmp_ge (tgt := 400) hC dX3_home_370 (by decide) (fun c => ?_) (fun c => ?_)
            · have h := it_p c h.2
              refine g_sub [true, true, false, true, true, true, true, true, true, false] rfl ?_
              exact s_400 (wm_home_311 Q n) ih J11 a1 a3 a4 a5 a6 a7 a8 h
            · have h := it_n c h.2
              refine g_iload hC dX3_home_373 rfl ?_
              refine g_aload_n hC dX3_home_375 rfl ?_
              refine g_iload hC dX3_home_376 rfl ?_
              refine g_iconst (v := 4) hC dX3_home_378 (by decide) ?_
              refine gM_Vi (As := [.int a8, .int (4 : Int32)]) (rest := [.int ((96 : Int32) * r8)]) hC hM (mm_of (cx_l C) E hM.2.1 _ _ _ _ h) (lw_V q1814 q1816 qs51 q76 q1817) hd_of rfl rfl (Nat.le_of_ble_eq_true rfl) ⟨Nat.le_of_ble_eq_true rfl, Nat.le_of_ble_eq_true rfl⟩ dX3_home_379 ?_
              intro r14 J13 h
              refine g_iadd hC dX3_home_382 ?_
              refine g_aload_n hC dX3_home_383 rfl ?_
              refine gM_getA hC hM 44 dX3_home_384 q1547 (by decide) (by decide) rfl ?_
              refine g_iload hC dX3_home_387 rfl ?_
              refine gM_iald hC hM 44 25 dX3_home_389 rfl (by decide) h.1 ?_
              refine g_icmp_le (tgt := 400) hC dX3_home_390 (by decide) (fun c => ?_) (fun c => ?_)
              · have h := it_p c h.2
                refine g_sub [true, true, false, true, true, true, true, true, true, false] rfl ?_
                exact s_400 (wm_home_311 Q n) ih J13 a1 a3 a4 a5 a6 a7 a8 h
              · have h := it_n c h.2
                refine g_iload hC dX3_home_393 rfl ?_
                refine g_istore hC dX3_home_395 (by decide) rfl rfl ?_
                refine g_sub [true, true, false, true, true, true, true, true, true, false] rfl ?_
                refine g_iinc (v := (a7 + (1 : Int32))) hC dX3_home_397 rfl rfl (by decide) rfl rfl ?_
                exact s_400 (wm_home_311 Q n) ih J13 a1 a3 a4 a5 a8 (a7 + (1 : Int32)) a8 h
  have s_258 : ∀ (K131 : MS → Int32 → Int32 → Int32 → Int32 → Int32 → Prop) (hK131 : ∀ (J : MS) (b1 : Int32) (b2 : Int32) (b3 : Int32) (b4 : Int32) (b5 : Int32), K131 J b1 b2 b3 b4 b5 → GM E C J 131 [some (.ref (me_a E 54)), some (.int b1), some (.int b2), some (.int b3), some (.int b4), some (.int b5), none, none, none, none] []) (J : MS) (a1 : Int32) (a2 : Int32) (a3 : Int32) (a5 : Int32) (s0 : Int32), wm_home_258 Q K131 J a1 a2 a3 a5 s0 → GM E C J 258 [some (.ref (me_a E 54)), some (.int a1), some (.int a2), some (.int a3), none, some (.int a5), none, none, none, none] [.int s0] := by
    intro K131 hK131 J a1 a2 a3 a5 s0 h
    refine g_istore hC dX3_home_258 (by decide) rfl rfl ?_
    refine g_iinc (v := (a5 + (1 : Int32))) hC dX3_home_260 rfl rfl (by decide) rfl rfl ?_
    refine g_goto (tgt := 131) hC dX3_home_263 (by decide) ?_
    exact hK131 J a1 a2 a3 s0 (a5 + (1 : Int32)) h
  have s_256 : ∀ (K131 : MS → Int32 → Int32 → Int32 → Int32 → Int32 → Prop) (hK131 : ∀ (J : MS) (b1 : Int32) (b2 : Int32) (b3 : Int32) (b4 : Int32) (b5 : Int32), K131 J b1 b2 b3 b4 b5 → GM E C J 131 [some (.ref (me_a E 54)), some (.int b1), some (.int b2), some (.int b3), some (.int b4), some (.int b5), none, none, none, none] []) (J : MS) (a1 : Int32) (a2 : Int32) (a3 : Int32) (a4 : Int32) (a5 : Int32), wm_home_256 Q K131 J a1 a2 a3 a4 a5 → GM E C J 256 [some (.ref (me_a E 54)), some (.int a1), some (.int a2), some (.int a3), some (.int a4), some (.int a5), none, none, none, none] [] := by
    intro K131 hK131 J a1 a2 a3 a4 a5 h
    refine g_iload hC dX3_home_256 rfl ?_
    refine g_sub [true, true, true, true, false, true, false, false, false, false] rfl ?_
    exact s_258 K131 hK131 J a1 a2 a3 a5 a4 h
  have s_251 : ∀ (K131 : MS → Int32 → Int32 → Int32 → Int32 → Int32 → Prop) (hK131 : ∀ (J : MS) (b1 : Int32) (b2 : Int32) (b3 : Int32) (b4 : Int32) (b5 : Int32), K131 J b1 b2 b3 b4 b5 → GM E C J 131 [some (.ref (me_a E 54)), some (.int b1), some (.int b2), some (.int b3), some (.int b4), some (.int b5), none, none, none, none] []) (J : MS) (a1 : Int32) (a2 : Int32) (a3 : Int32) (a5 : Int32), wm_home_251 Q K131 J a1 a2 a3 a5 → GM E C J 251 [some (.ref (me_a E 54)), some (.int a1), some (.int a2), some (.int a3), none, some (.int a5), none, none, none, none] [] := by
    intro K131 hK131 J a1 a2 a3 a5 h
    refine g_iload hC dX3_home_251 rfl ?_
    refine g_goto (tgt := 258) hC dX3_home_253 (by decide) ?_
    exact s_258 K131 hK131 J a1 a2 a3 a5 a5 h
  have s_220 : ∀ (K131 : MS → Int32 → Int32 → Int32 → Int32 → Int32 → Prop) (hK131 : ∀ (J : MS) (b1 : Int32) (b2 : Int32) (b3 : Int32) (b4 : Int32) (b5 : Int32), K131 J b1 b2 b3 b4 b5 → GM E C J 131 [some (.ref (me_a E 54)), some (.int b1), some (.int b2), some (.int b3), some (.int b4), some (.int b5), none, none, none, none] []) (J : MS) (a1 : Int32) (a2 : Int32) (a3 : Int32) (a4 : Int32) (a5 : Int32) (s0 : Int32), wm_home_220 Q K131 J a1 a2 a3 a4 a5 s0 → GM E C J 220 [some (.ref (me_a E 54)), some (.int a1), some (.int a2), some (.int a3), some (.int a4), some (.int a5), none, none, none, none] [.int s0] := by
    intro K131 hK131 J a1 a2 a3 a4 a5 s0 h
    refine g_istore hC dX3_home_220 (by decide) rfl rfl ?_
    refine g_iload hC dX3_home_222 rfl ?_
    refine g_if_eq (tgt := 256) hC dX3_home_224 (by decide) (fun c => ?_) (fun c => ?_)
    · have h := it_p c h
      refine g_sub [true, true, true, true, true, true, false, false, false, false] rfl ?_
      exact s_256 K131 hK131 J a1 a2 a3 a4 a5 h
    · have h := it_n c h
      refine g_iload hC dX3_home_227 rfl ?_
      refine g_ldc (v := -1000000) hC dX3_home_229 q1720 ?_
      refine g_icmp_eq (tgt := 251) hC dX3_home_231 (by decide) (fun c => ?_) (fun c => ?_)
      · have h := it_p c h
        refine g_sub [true, true, true, true, false, true, false, false, false, false] rfl ?_
        exact s_251 K131 hK131 J a1 a2 a3 a5 h
      · have h := it_n c h
        refine g_aload_n hC dX3_home_234 rfl ?_
        refine gM_getA hC hM 44 dX3_home_235 q1547 (by decide) (by decide) rfl ?_
        refine g_iload hC dX3_home_238 rfl ?_
        refine gM_iald hC hM 44 25 dX3_home_240 rfl (by decide) h.1 ?_
        refine g_aload_n hC dX3_home_241 rfl ?_
        refine gM_getA hC hM 44 dX3_home_242 q1547 (by decide) (by decide) rfl ?_
        refine g_iload hC dX3_home_245 rfl ?_
        refine gM_iald hC hM 44 25 dX3_home_247 rfl (by decide) h.2.1 ?_
        refine g_icmp_lt (tgt := 256) hC dX3_home_248 (by decide) (fun c => ?_) (fun c => ?_)
        · have h := it_p c h.2.2
          refine g_sub [true, true, true, true, true, true, false, false, false, false] rfl ?_
          exact s_256 K131 hK131 J a1 a2 a3 a4 a5 h
        · have h := it_n c h.2.2
          refine g_sub [true, true, true, true, false, true, false, false, false, false] rfl ?_
          exact s_251 K131 hK131 J a1 a2 a3 a5 h
  have s_219 : ∀ (K131 : MS → Int32 → Int32 → Int32 → Int32 → Int32 → Prop) (hK131 : ∀ (J : MS) (b1 : Int32) (b2 : Int32) (b3 : Int32) (b4 : Int32) (b5 : Int32), K131 J b1 b2 b3 b4 b5 → GM E C J 131 [some (.ref (me_a E 54)), some (.int b1), some (.int b2), some (.int b3), some (.int b4), some (.int b5), none, none, none, none] []) (J : MS) (a1 : Int32) (a2 : Int32) (a3 : Int32) (a4 : Int32) (a5 : Int32), wm_home_219 Q K131 J a1 a2 a3 a4 a5 → GM E C J 219 [some (.ref (me_a E 54)), some (.int a1), some (.int a2), some (.int a3), some (.int a4), some (.int a5), none, none, none, none] [] := by
    intro K131 hK131 J a1 a2 a3 a4 a5 h
    refine g_iconst (v := 0) hC dX3_home_219 (by decide) ?_
    exact s_220 K131 hK131 J a1 a2 a3 a4 a5 (0 : Int32) h
  have s_183 : ∀ (K131 : MS → Int32 → Int32 → Int32 → Int32 → Int32 → Prop) (hK131 : ∀ (J : MS) (b1 : Int32) (b2 : Int32) (b3 : Int32) (b4 : Int32) (b5 : Int32), K131 J b1 b2 b3 b4 b5 → GM E C J 131 [some (.ref (me_a E 54)), some (.int b1), some (.int b2), some (.int b3), some (.int b4), some (.int b5), none, none, none, none] []) (J : MS) (a1 : Int32) (a2 : Int32) (a3 : Int32) (a4 : Int32) (a5 : Int32) (s0 : Int32), wm_home_183 Q K131 J a1 a2 a3 a4 a5 s0 → GM E C J 183 [some (.ref (me_a E 54)), some (.int a1), some (.int a2), some (.int a3), some (.int a4), some (.int a5), none, none, none, none] [.int s0] := by
    intro K131 hK131 J a1 a2 a3 a4 a5 s0 h
    refine g_istore hC dX3_home_183 (by decide) rfl rfl ?_
    refine g_aload_n hC dX3_home_185 rfl ?_
    refine gM_getA hC hM 43 dX3_home_186 q1546 (by decide) (by decide) rfl ?_
    refine g_iload hC dX3_home_189 rfl ?_
    refine gM_iald hC hM 43 24 dX3_home_191 rfl (by decide) h.1 ?_
    refine g_iload_n hC dX3_home_192 rfl ?_
    refine g_icmp_ne (tgt := 219) hC dX3_home_193 (by decide) (fun c => ?_) (fun c => ?_)
    · have h := it_n c h.2
      refine g_sub [true, true, true, true, true, true, false, false, false, false] rfl ?_
      exact s_219 K131 hK131 J a1 a2 a3 a4 a5 h
    · have h := it_p c h.2
      refine g_iload hC dX3_home_196 rfl ?_
      refine g_if_eq (tgt := 219) hC dX3_home_198 (by decide) (fun c => ?_) (fun c => ?_)
      · have h := it_p c h
        refine g_sub [true, true, true, true, true, true, false, false, false, false] rfl ?_
        exact s_219 K131 hK131 J a1 a2 a3 a4 a5 h
      · have h := it_n c h
        refine g_aload_n hC dX3_home_201 rfl ?_
        refine gM_getA hC hM 45 dX3_home_202 q1548 (by decide) (by decide) rfl ?_
        refine g_iload hC dX3_home_205 rfl ?_
        refine gM_iald hC hM 45 26 dX3_home_207 rfl (by decide) h.1 ?_
        refine g_iload_n hC dX3_home_208 rfl ?_
        refine g_ishr hC dX3_home_209 ?_
        refine g_iconst (v := 1) hC dX3_home_210 (by decide) ?_
        refine g_iand hC dX3_home_211 ?_
        refine g_if_ne (tgt := 219) hC dX3_home_212 (by decide) (fun c => ?_) (fun c => ?_)
        · have h := it_n c h.2
          refine g_sub [true, true, true, true, true, true, false, false, false, false] rfl ?_
          exact s_219 K131 hK131 J a1 a2 a3 a4 a5 h
        · have h := it_p c h.2
          refine g_iconst (v := 1) hC dX3_home_215 (by decide) ?_
          refine g_goto (tgt := 220) hC dX3_home_216 (by decide) ?_
          refine g_sub [true, true, true, true, true, true, false, false, false, false] rfl ?_
          exact s_220 K131 hK131 J a1 a2 a3 a4 a5 (1 : Int32) h
  have s_178 : ∀ (K131 : MS → Int32 → Int32 → Int32 → Int32 → Int32 → Prop) (hK131 : ∀ (J : MS) (b1 : Int32) (b2 : Int32) (b3 : Int32) (b4 : Int32) (b5 : Int32), K131 J b1 b2 b3 b4 b5 → GM E C J 131 [some (.ref (me_a E 54)), some (.int b1), some (.int b2), some (.int b3), some (.int b4), some (.int b5), none, none, none, none] []) (J : MS) (a1 : Int32) (a2 : Int32) (a3 : Int32) (a4 : Int32) (a5 : Int32), wm_home_178 Q K131 J a1 a2 a3 a4 a5 → GM E C J 178 [some (.ref (me_a E 54)), some (.int a1), some (.int a2), some (.int a3), some (.int a4), some (.int a5), none, none, none, none] [] := by
    intro K131 hK131 J a1 a2 a3 a4 a5 h
    refine g_iconst (v := 1) hC dX3_home_178 (by decide) ?_
    refine g_goto (tgt := 183) hC dX3_home_179 (by decide) ?_
    exact s_183 K131 hK131 J a1 a2 a3 a4 a5 (1 : Int32) h
  have s_182 : ∀ (K131 : MS → Int32 → Int32 → Int32 → Int32 → Int32 → Prop) (hK131 : ∀ (J : MS) (b1 : Int32) (b2 : Int32) (b3 : Int32) (b4 : Int32) (b5 : Int32), K131 J b1 b2 b3 b4 b5 → GM E C J 131 [some (.ref (me_a E 54)), some (.int b1), some (.int b2), some (.int b3), some (.int b4), some (.int b5), none, none, none, none] []) (J : MS) (a1 : Int32) (a2 : Int32) (a3 : Int32) (a4 : Int32) (a5 : Int32), wm_home_182 Q K131 J a1 a2 a3 a4 a5 → GM E C J 182 [some (.ref (me_a E 54)), some (.int a1), some (.int a2), some (.int a3), some (.int a4), some (.int a5), none, none, none, none] [] := by
    intro K131 hK131 J a1 a2 a3 a4 a5 h
    refine g_iconst (v := 0) hC dX3_home_182 (by decide) ?_
    exact s_183 K131 hK131 J a1 a2 a3 a4 a5 (0 : Int32) h
  have s_131 : ∀ (n : Nat) (J : MS) (a1 : Int32) (a2 : Int32) (a3 : Int32) (a4 : Int32) (a5 : Int32), wm_home_131 Q  n J a1 a2 a3 a4 a5 → GM E C J 131 [some (.ref (me_a E 54)), some (.int a1), some (.int a2), some (.int a3), some (.int a4), some (.int a5), none, none, none, none] [] := by
    intro  n
    induction n with
    | zero =>
      intro J a1 a2 a3 a4 a5 h
      exact False.elim h
    | succ n ih =>
      intro J a1 a2 a3 a4 a5 h
      refine g_iload hC dX3_home_131 rfl ?_
      refine g_aload_n hC dX3_home_133 rfl ?_
      refine gM_getS hC hM 42 dX3_home_134 q1545 (by decide) (by decide) rfl ?_
      refine g_icmp_ge (tgt := 266) hC dX3_home_137 (by decide) (fun c => ?_) (fun c => ?_)
      · have h := it_p c h
        refine g_iload hC dX3_home_266 rfl ?_
        refine g_ldc (v := -1000000) hC dX3_home_268 q1720 ?_
        refine g_icmp_eq (tgt := 289) hC dX3_home_270 (by decide) (fun c => ?_) (fun c => ?_)
        · have h := it_p c h
          refine g_ldc (v := -1000000) hC dX3_home_289 q1720 ?_
          refine gM_iret hC hM hQ rfl dX3_home_291 h
        · have h := it_n c h
          refine g_aload_n hC dX3_home_273 rfl ?_
          refine gM_getA hC hM 44 dX3_home_274 q1547 (by decide) (by decide) rfl ?_
          refine g_iload hC dX3_home_277 rfl ?_
          refine gM_iald hC hM 44 25 dX3_home_279 rfl (by decide) h.1 ?_
          refine g_aload_n hC dX3_home_280 rfl ?_
          refine gM_getA hC hM 44 dX3_home_281 q1547 (by decide) (by decide) rfl ?_
          refine g_iload_n hC dX3_home_284 rfl ?_
          refine gM_iald hC hM 44 25 dX3_home_285 rfl (by decide) h.2.1 ?_
          refine g_icmp_ne (tgt := 292) hC dX3_home_286 (by decide) (fun c => ?_) (fun c => ?_)
          · have h := it_n c h.2.2
            refine g_aload_n hC dX3_home_292 rfl ?_
            refine g_sipush (v := 364) hC dX3_home_293 (by decide) ?_
            refine gM_Vi (As := [.int (364 : Int32)]) (rest := []) hC hM (mm_holdOn (cx_l C) E hM.2.1 _ _ _ h) (lw_V q1843 q1845 qs55 q76 q1846) hd_holdOn rfl rfl (Nat.le_of_ble_eq_true rfl) ⟨Nat.le_of_ble_eq_true rfl, Nat.le_of_ble_eq_true rfl⟩ dX3_home_296 ?_
            intro r6 J5 h
            refine g_istore hC dX3_home_299 (by decide) rfl rfl ?_
            refine g_sub [true, true, false, true, true, true, false, false, false, false] rfl ?_
            refine g_ldc (v := -1000000) hC dX3_home_301 q1720 ?_
            refine g_istore hC dX3_home_303 (by decide) rfl rfl ?_
            refine g_iconst (v := 0) hC dX3_home_305 (by decide) ?_
            refine g_istore hC dX3_home_306 (by decide) rfl rfl ?_
            refine g_iconst (v := 0) hC dX3_home_308 (by decide) ?_
            refine g_istore hC dX3_home_309 (by decide) rfl rfl ?_
            obtain ⟨n0, h0⟩ := h
            exact s_311 n0 J5 a1 a3 a4 r6 (-1000000 : Int32) (0 : Int32) (0 : Int32) h0
          · have h := it_p c h.2.2
            refine g_ldc (v := -1000000) hC dX3_home_289 q1720 ?_
            refine gM_iret hC hM hQ rfl dX3_home_291 h
      · have h := it_n c h
        refine g_aload_n hC dX3_home_140 rfl ?_
        refine gM_getA hC hM 44 dX3_home_141 q1547 (by decide) (by decide) rfl ?_
        refine g_iload hC dX3_home_144 rfl ?_
        refine gM_iald hC hM 44 25 dX3_home_146 rfl (by decide) h.1 ?_
        refine g_aload_n hC dX3_home_147 rfl ?_
        refine gM_getA hC hM 44 dX3_home_148 q1547 (by decide) (by decide) rfl ?_
        refine g_iload_n hC dX3_home_151 rfl ?_
        refine gM_iald hC hM 44 25 dX3_home_152 rfl (by decide) h.2.1 ?_
        refine g_icmp_lt (tgt := 178) hC dX3_home_153 (by decide) (fun c => ?_) (fun c => ?_)
        · have h := it_p c h.2.2
          exact s_178 (wm_home_131 Q n) ih J a1 a2 a3 a4 a5 h
        · have h := it_n c h.2.2
          refine g_aload_n hC dX3_home_156 rfl ?_
          refine gM_getA hC hM 44 dX3_home_157 q1547 (by decide) (by decide) rfl ?_
          refine g_iload hC dX3_home_160 rfl ?_
          refine gM_iald hC hM 44 25 dX3_home_162 rfl (by decide) h.1 ?_
          refine g_aload_n hC dX3_home_163 rfl ?_
          refine gM_getA hC hM 44 dX3_home_164 q1547 (by decide) (by decide) rfl ?_
          refine g_iload_n hC dX3_home_167 rfl ?_
          refine gM_iald hC hM 44 25 dX3_home_168 rfl (by decide) h.2.1 ?_
          refine g_icmp_ne (tgt := 182) hC dX3_home_169 (by decide) (fun c => ?_) (fun c => ?_)
          · have h := it_n c h.2.2
            exact s_182 (wm_home_131 Q n) ih J a1 a2 a3 a4 a5 h
          · have h := it_p c h.2.2
            refine g_iload hC dX3_home_172 rfl ?_
            refine g_iload_n hC dX3_home_174 rfl ?_
            refine g_icmp_ge (tgt := 182) hC dX3_home_175 (by decide) (fun c => ?_) (fun c => ?_)
            · have h := it_p c h
              exact s_182 (wm_home_131 Q n) ih J a1 a2 a3 a4 a5 h
            · have h := it_n c h
              exact s_178 (wm_home_131 Q n) ih J a1 a2 a3 a4 a5 h
  have s_108 : ∀ (K33 : MS → Int32 → Int32 → Int32 → Int32 → Prop) (hK33 : ∀ (J : MS) (b1 : Int32) (b2 : Int32) (b3 : Int32) (b4 : Int32), K33 J b1 b2 b3 b4 → GM E C J 33 [some (.ref (me_a E 54)), some (.int b1), some (.int b2), some (.int b3), some (.int b4), none, none, none, none, none] []) (J : MS) (a1 : Int32) (a2 : Int32) (a4 : Int32) (s0 : Int32), wm_home_108 Q K33 J a1 a2 a4 s0 → GM E C J 108 [some (.ref (me_a E 54)), some (.int a1), some (.int a2), none, some (.int a4), none, none, none, none, none] [.int s0] := by
    intro K33 hK33 J a1 a2 a4 s0 h
    refine g_istore_n hC dX3_home_108 rfl (by decide) rfl rfl ?_
    refine g_iinc (v := (a4 + (1 : Int32))) hC dX3_home_109 rfl rfl (by decide) rfl rfl ?_
    refine g_goto (tgt := 33) hC dX3_home_112 (by decide) ?_
    exact hK33 J a1 a2 s0 (a4 + (1 : Int32)) h
  have s_107 : ∀ (K33 : MS → Int32 → Int32 → Int32 → Int32 → Prop) (hK33 : ∀ (J : MS) (b1 : Int32) (b2 : Int32) (b3 : Int32) (b4 : Int32), K33 J b1 b2 b3 b4 → GM E C J 33 [some (.ref (me_a E 54)), some (.int b1), some (.int b2), some (.int b3), some (.int b4), none, none, none, none, none] []) (J : MS) (a1 : Int32) (a2 : Int32) (a3 : Int32) (a4 : Int32), wm_home_107 Q K33 J a1 a2 a3 a4 → GM E C J 107 [some (.ref (me_a E 54)), some (.int a1), some (.int a2), some (.int a3), some (.int a4), none, none, none, none, none] [] := by
    intro K33 hK33 J a1 a2 a3 a4 h
    refine g_iload_n hC dX3_home_107 rfl ?_
    refine g_sub [true, true, true, false, true, false, false, false, false, false] rfl ?_
    exact s_108 K33 hK33 J a1 a2 a4 a3 h
  have s_102 : ∀ (K33 : MS → Int32 → Int32 → Int32 → Int32 → Prop) (hK33 : ∀ (J : MS) (b1 : Int32) (b2 : Int32) (b3 : Int32) (b4 : Int32), K33 J b1 b2 b3 b4 → GM E C J 33 [some (.ref (me_a E 54)), some (.int b1), some (.int b2), some (.int b3), some (.int b4), none, none, none, none, none] []) (J : MS) (a1 : Int32) (a2 : Int32) (a4 : Int32), wm_home_102 Q K33 J a1 a2 a4 → GM E C J 102 [some (.ref (me_a E 54)), some (.int a1), some (.int a2), none, some (.int a4), none, none, none, none, none] [] := by
    intro K33 hK33 J a1 a2 a4 h
    refine g_iload hC dX3_home_102 rfl ?_
    refine g_goto (tgt := 108) hC dX3_home_104 (by decide) ?_
    exact s_108 K33 hK33 J a1 a2 a4 a4 h
  have s_73 : ∀ (K33 : MS → Int32 → Int32 → Int32 → Int32 → Prop) (hK33 : ∀ (J : MS) (b1 : Int32) (b2 : Int32) (b3 : Int32) (b4 : Int32), K33 J b1 b2 b3 b4 → GM E C J 33 [some (.ref (me_a E 54)), some (.int b1), some (.int b2), some (.int b3), some (.int b4), none, none, none, none, none] []) (J : MS) (a1 : Int32) (a2 : Int32) (a3 : Int32) (a4 : Int32) (s0 : Int32), wm_home_73 Q K33 J a1 a2 a3 a4 s0 → GM E C J 73 [some (.ref (me_a E 54)), some (.int a1), some (.int a2), some (.int a3), some (.int a4), none, none, none, none, none] [.int s0] := by
    intro K33 hK33 J a1 a2 a3 a4 s0 h
    refine g_istore hC dX3_home_73 (by decide) rfl rfl ?_
    refine g_iload hC dX3_home_75 rfl ?_
    refine g_if_eq (tgt := 107) hC dX3_home_77 (by decide) (fun c => ?_) (fun c => ?_)
    · have h := it_p c h
      refine g_sub [true, true, true, true, true, false, false, false, false, false] rfl ?_
      exact s_107 K33 hK33 J a1 a2 a3 a4 h
    · have h := it_n c h
      refine g_iload_n hC dX3_home_80 rfl ?_
      refine g_ldc (v := -1000000) hC dX3_home_81 q1720 ?_
      refine g_icmp_eq (tgt := 102) hC dX3_home_83 (by decide) (fun c => ?_) (fun c => ?_)
      · have h := it_p c h
        refine g_sub [true, true, true, false, true, false, false, false, false, false] rfl ?_
        exact s_102 K33 hK33 J a1 a2 a4 h
      · have h := it_n c h
        refine g_aload_n hC dX3_home_86 rfl ?_
        refine gM_getA hC hM 44 dX3_home_87 q1547 (by decide) (by decide) rfl ?_
        refine g_iload hC dX3_home_90 rfl ?_
        refine gM_iald hC hM 44 25 dX3_home_92 rfl (by decide) h.1 ?_
        refine g_aload_n hC dX3_home_93 rfl ?_
        refine gM_getA hC hM 44 dX3_home_94 q1547 (by decide) (by decide) rfl ?_
        refine g_iload_n hC dX3_home_97 rfl ?_
        refine gM_iald hC hM 44 25 dX3_home_98 rfl (by decide) h.2.1 ?_
        refine g_icmp_ge (tgt := 107) hC dX3_home_99 (by decide) (fun c => ?_) (fun c => ?_)
        · have h := it_p c h.2.2
          refine g_sub [true, true, true, true, true, false, false, false, false, false] rfl ?_
          exact s_107 K33 hK33 J a1 a2 a3 a4 h
        · have h := it_n c h.2.2
          refine g_sub [true, true, true, false, true, false, false, false, false, false] rfl ?_
          exact s_102 K33 hK33 J a1 a2 a4 h
  have s_72 : ∀ (K33 : MS → Int32 → Int32 → Int32 → Int32 → Prop) (hK33 : ∀ (J : MS) (b1 : Int32) (b2 : Int32) (b3 : Int32) (b4 : Int32), K33 J b1 b2 b3 b4 → GM E C J 33 [some (.ref (me_a E 54)), some (.int b1), some (.int b2), some (.int b3), some (.int b4), none, none, none, none, none] []) (J : MS) (a1 : Int32) (a2 : Int32) (a3 : Int32) (a4 : Int32), wm_home_72 Q K33 J a1 a2 a3 a4 → GM E C J 72 [some (.ref (me_a E 54)), some (.int a1), some (.int a2), some (.int a3), some (.int a4), none, none, none, none, none] [] := by
    intro K33 hK33 J a1 a2 a3 a4 h
    refine g_iconst (v := 0) hC dX3_home_72 (by decide) ?_
    exact s_73 K33 hK33 J a1 a2 a3 a4 (0 : Int32) h
  have s_33 : ∀ (n : Nat) (J : MS) (a1 : Int32) (a2 : Int32) (a3 : Int32) (a4 : Int32), wm_home_33 Q  n J a1 a2 a3 a4 → GM E C J 33 [some (.ref (me_a E 54)), some (.int a1), some (.int a2), some (.int a3), some (.int a4), none, none, none, none, none] [] := by
    intro  n
    induction n with
    | zero =>
      intro J a1 a2 a3 a4 h
      exact False.elim h
    | succ n ih =>
      intro J a1 a2 a3 a4 h
      refine g_iload hC dX3_home_33 rfl ?_
      refine g_aload_n hC dX3_home_35 rfl ?_
      refine gM_getS hC hM 42 dX3_home_36 q1545 (by decide) (by decide) rfl ?_
      refine g_icmp_ge (tgt := 115) hC dX3_home_39 (by decide) (fun c => ?_) (fun c => ?_)
      · have h := it_p c h
        refine g_iload_n hC dX3_home_115 rfl ?_
        refine g_ldc (v := -1000000) hC dX3_home_116 q1720 ?_
        refine g_icmp_ne (tgt := 124) hC dX3_home_118 (by decide) (fun c => ?_) (fun c => ?_)
        · have h := it_n c h
          refine g_ldc (v := -1000000) hC dX3_home_124 q1720 ?_
          refine g_istore hC dX3_home_126 (by decide) rfl rfl ?_
          refine g_iconst (v := 0) hC dX3_home_128 (by decide) ?_
          refine g_istore hC dX3_home_129 (by decide) rfl rfl ?_
          obtain ⟨n0, h0⟩ := h
          exact s_131 n0 J a1 a2 a3 (-1000000 : Int32) (0 : Int32) h0
        · have h := it_p c h
          refine g_ldc (v := -1000000) hC dX3_home_121 q1720 ?_
          refine gM_iret hC hM hQ rfl dX3_home_123 h
      · have h := it_n c h
        refine g_aload_n hC dX3_home_42 rfl ?_
        refine gM_getA hC hM 43 dX3_home_43 q1546 (by decide) (by decide) rfl ?_
        refine g_iload hC dX3_home_46 rfl ?_
        refine gM_iald hC hM 43 24 dX3_home_48 rfl (by decide) h.1 ?_
        refine g_iload_n hC dX3_home_49 rfl ?_
        refine g_icmp_ne (tgt := 72) hC dX3_home_50 (by decide) (fun c => ?_) (fun c => ?_)
        · have h := it_n c h.2
          exact s_72 (wm_home_33 Q n) ih J a1 a2 a3 a4 h
        · have h := it_p c h.2
          refine g_aload_n hC dX3_home_53 rfl ?_
          refine gM_getA hC hM 45 dX3_home_54 q1548 (by decide) (by decide) rfl ?_
          refine g_iload hC dX3_home_57 rfl ?_
          refine gM_iald hC hM 45 26 dX3_home_59 rfl (by decide) h.1 ?_
          refine g_iload_n hC dX3_home_60 rfl ?_
          refine g_ishr hC dX3_home_61 ?_
          refine g_iconst (v := 1) hC dX3_home_62 (by decide) ?_
          refine g_iand hC dX3_home_63 ?_
          refine g_iconst (v := 1) hC dX3_home_64 (by decide) ?_
          refine g_icmp_ne (tgt := 72) hC dX3_home_65 (by decide) (fun c => ?_) (fun c => ?_)
          · have h := it_n c h.2
            exact s_72 (wm_home_33 Q n) ih J a1 a2 a3 a4 h
          · have h := it_p c h.2
            refine g_iconst (v := 1) hC dX3_home_68 (by decide) ?_
            refine g_goto (tgt := 73) hC dX3_home_69 (by decide) ?_
            exact s_73 (wm_home_33 Q n) ih J a1 a2 a3 a4 (1 : Int32) h
  refine g_aload_n hC dX3_home_0 rfl ?_
  refine g_iconst (v := 0) hC dX3_home_1 (by decide) ?_
  refine gM_put hC hM 0 (ty := .int) dX3_home_2 q1503 (by decide) (by decide) rfl rfl rfl rfl rfl ?_
  refine g_iload_n hC dX3_home_5 rfl ?_
  refine gM_Si (As := [.int x1]) (rest := []) hC hM (mm_isHall (cx_l C) E hM.2.1 _ _ _ h) (lw_S q1784 q1785 q76 q1786) hd_isHall rfl rfl (Nat.le_of_ble_eq_true rfl) ⟨Nat.le_of_ble_eq_true rfl, Nat.le_of_ble_eq_true rfl⟩ dX3_home_6 ?_
  intro r2 J1 h
  refine g_if_eq (tgt := 24) hC dX3_home_9 (by decide) (fun c => ?_) (fun c => ?_)
  · have h := it_p c h
    refine g_ldc (v := -1000001) hC dX3_home_24 q1679 ?_
    refine gM_iret hC hM hQ rfl dX3_home_26 h
  · have h := it_n c h
    refine g_iload_n hC dX3_home_12 rfl ?_
    refine g_i2l hC dX3_home_13 ?_
    refine g_lconst (v := 0) hC dX3_home_14 (by decide) ?_
    refine g_ldc2 (v := 7) hC dX3_home_15 q1674 ?_
    refine gM_Si (As := [.long (Int32.toInt64 x2), .long (0 : Int64), .long (7 : Int64)]) (rest := []) hC hM (mm_in (cx_l C) E hM.2.1 _ _ _ _ _ h) (lw_S q1675 q1676 q76 q1677) hd_in rfl rfl (Nat.le_of_ble_eq_true rfl) ⟨Nat.le_of_ble_eq_true rfl, Nat.le_of_ble_eq_true rfl⟩ dX3_home_18 ?_
    intro r4 J3 h
    refine g_if_ne (tgt := 27) hC dX3_home_21 (by decide) (fun c => ?_) (fun c => ?_)
    · have h := it_n c h
      refine g_ldc (v := -1000000) hC dX3_home_27 q1720 ?_
      refine g_istore_n hC dX3_home_29 rfl (by decide) rfl rfl ?_
      refine g_iconst (v := 0) hC dX3_home_30 (by decide) ?_
      refine g_istore hC dX3_home_31 (by decide) rfl rfl ?_
      obtain ⟨n0, h0⟩ := h
      exact s_33 n0 J3 x1 x2 (-1000000 : Int32) (0 : Int32) h0
    · have h := it_p c h
      refine g_ldc (v := -1000001) hC dX3_home_24 q1679 ?_
      refine gM_iret hC hM hQ rfl dX3_home_26 h
theorem mm_home (l : Launch) (E : ME) (hI : mInj E) (Q : Int32 → MS → Prop) (J : MS) (x1 : Int32) (x2 : Int32) (h : wm_home Q J x1 x2) : MMet E l yX3_home cX3_home 10 (some .int) ({ frames := 5, cells := 0, slots := 0, locals := 110 }) [.ref (me_a E 54), .int x1, .int x2] J (va_Qi Q (BM E) (mA E)) :=
  MMet_of hI (by decide) rfl (Nat.le_of_ble_eq_true rfl) (L0 := [some (.ref (me_a E 54)), some (.int x1), some (.int x2), none, none, none, none, none, none, none]) rfl (fun C hC hM hl hQ => bm_home E C Q J x1 x2 hC hM hQ h)
/-! meeting -/
def wm_meeting_88 (Q : Int32 → MS → Prop) (J : MS) (a1 : Int32) (a2 : Int32) (a3 : Int32) (a4 : Int32) (a5 : Int32) : Prop :=
  (if (J 46 0) = (10 : Int32) then Q (-1000003 : Int32) J else vp_in (J 46 0) 10 ∧ vp_in ((mset J 47 (Int32.toNatClampNeg (J 46 0)) a1) 46 0) 10 ∧ vp_in ((mset (mset J 47 (Int32.toNatClampNeg (J 46 0)) a1) 48 (Int32.toNatClampNeg ((mset J 47 (Int32.toNatClampNeg (J 46 0)) a1) 46 0)) a2) 46 0) 10 ∧ vp_in ((mset (mset (mset J 47 (Int32.toNatClampNeg (J 46 0)) a1) 48 (Int32.toNatClampNeg ((mset J 47 (Int32.toNatClampNeg (J 46 0)) a1) 46 0)) a2) 49 (Int32.toNatClampNeg ((mset (mset J 47 (Int32.toNatClampNeg (J 46 0)) a1) 48 (Int32.toNatClampNeg ((mset J 47 (Int32.toNatClampNeg (J 46 0)) a1) 46 0)) a2) 46 0)) a3) 46 0) 10 ∧ vp_in ((mset (mset (mset (mset J 47 (Int32.toNatClampNeg (J 46 0)) a1) 48 (Int32.toNatClampNeg ((mset J 47 (Int32.toNatClampNeg (J 46 0)) a1) 46 0)) a2) 49 (Int32.toNatClampNeg ((mset (mset J 47 (Int32.toNatClampNeg (J 46 0)) a1) 48 (Int32.toNatClampNeg ((mset J 47 (Int32.toNatClampNeg (J 46 0)) a1) 46 0)) a2) 46 0)) a3) 50 (Int32.toNatClampNeg ((mset (mset (mset J 47 (Int32.toNatClampNeg (J 46 0)) a1) 48 (Int32.toNatClampNeg ((mset J 47 (Int32.toNatClampNeg (J 46 0)) a1) 46 0)) a2) 49 (Int32.toNatClampNeg ((mset (mset J 47 (Int32.toNatClampNeg (J 46 0)) a1) 48 (Int32.toNatClampNeg ((mset J 47 (Int32.toNatClampNeg (J 46 0)) a1) 46 0)) a2) 46 0)) a3) 46 0)) a4) 46 0) 10 ∧ Q (((mset (mset (mset (mset (mset (mset J 47 (Int32.toNatClampNeg (J 46 0)) a1) 48 (Int32.toNatClampNeg ((mset J 47 (Int32.toNatClampNeg (J 46 0)) a1) 46 0)) a2) 49 (Int32.toNatClampNeg ((mset (mset J 47 (Int32.toNatClampNeg (J 46 0)) a1) 48 (Int32.toNatClampNeg ((mset J 47 (Int32.toNatClampNeg (J 46 0)) a1) 46 0)) a2) 46 0)) a3) 50 (Int32.toNatClampNeg ((mset (mset (mset J 47 (Int32.toNatClampNeg (J 46 0)) a1) 48 (Int32.toNatClampNeg ((mset J 47 (Int32.toNatClampNeg (J 46 0)) a1) 46 0)) a2) 49 (Int32.toNatClampNeg ((mset (mset J 47 (Int32.toNatClampNeg (J 46 0)) a1) 48 (Int32.toNatClampNeg ((mset J 47 (Int32.toNatClampNeg (J 46 0)) a1) 46 0)) a2) 46 0)) a3) 46 0)) a4) 51 (Int32.toNatClampNeg ((mset (mset (mset (mset J 47 (Int32.toNatClampNeg (J 46 0)) a1) 48 (Int32.toNatClampNeg ((mset J 47 (Int32.toNatClampNeg (J 46 0)) a1) 46 0)) a2) 49 (Int32.toNatClampNeg ((mset (mset J 47 (Int32.toNatClampNeg (J 46 0)) a1) 48 (Int32.toNatClampNeg ((mset J 47 (Int32.toNatClampNeg (J 46 0)) a1) 46 0)) a2) 46 0)) a3) 50 (Int32.toNatClampNeg ((mset (mset (mset J 47 (Int32.toNatClampNeg (J 46 0)) a1) 48 (Int32.toNatClampNeg ((mset J 47 (Int32.toNatClampNeg (J 46 0)) a1) 46 0)) a2) 49 (Int32.toNatClampNeg ((mset (mset J 47 (Int32.toNatClampNeg (J 46 0)) a1) 48 (Int32.toNatClampNeg ((mset J 47 (Int32.toNatClampNeg (J 46 0)) a1) 46 0)) a2) 46 0)) a3) 46 0)) a4) 46 0)) a5) 46 0 (((mset (mset (mset (mset (mset J 47 (Int32.toNatClampNeg (J 46 0)) a1) 48 (Int32.toNatClampNeg ((mset J 47 (Int32.toNatClampNeg (J 46 0)) a1) 46 0)) a2) 49 (Int32.toNatClampNeg ((mset (mset J 47 (Int32.toNatClampNeg (J 46 0)) a1) 48 (Int32.toNatClampNeg ((mset J 47 (Int32.toNatClampNeg (J 46 0)) a1) 46 0)) a2) 46 0)) a3) 50 (Int32.toNatClampNeg ((mset (mset (mset J 47 (Int32.toNatClampNeg (J 46 0)) a1) 48 (Int32.toNatClampNeg ((mset J 47 (Int32.toNatClampNeg (J 46 0)) a1) 46 0)) a2) 49 (Int32.toNatClampNeg ((mset (mset J 47 (Int32.toNatClampNeg (J 46 0)) a1) 48 (Int32.toNatClampNeg ((mset J 47 (Int32.toNatClampNeg (J 46 0)) a1) 46 0)) a2) 46 0)) a3) 46 0)) a4) 51 (Int32.toNatClampNeg ((mset (mset (mset (mset J 47 (Int32.toNatClampNeg (J 46 0)) a1) 48 (Int32.toNatClampNeg ((mset J 47 (Int32.toNatClampNeg (J 46 0)) a1) 46 0)) a2) 49 (Int32.toNatClampNeg ((mset (mset J 47 (Int32.toNatClampNeg (J 46 0)) a1) 48 (Int32.toNatClampNeg ((mset J 47 (Int32.toNatClampNeg (J 46 0)) a1) 46 0)) a2) 46 0)) a3) 50 (Int32.toNatClampNeg ((mset (mset (mset J 47 (Int32.toNatClampNeg (J 46 0)) a1) 48 (Int32.toNatClampNeg ((mset J 47 (Int32.toNatClampNeg (J 46 0)) a1) 46 0)) a2) 49 (Int32.toNatClampNeg ((mset (mset J 47 (Int32.toNatClampNeg (J 46 0)) a1) 48 (Int32.toNatClampNeg ((mset J 47 (Int32.toNatClampNeg (J 46 0)) a1) 46 0)) a2) 46 0)) a3) 46 0)) a4) 46 0)) a5) 46 0) + (1 : Int32))) 46 0) - (1 : Int32)) (mset (mset (mset (mset (mset (mset J 47 (Int32.toNatClampNeg (J 46 0)) a1) 48 (Int32.toNatClampNeg ((mset J 47 (Int32.toNatClampNeg (J 46 0)) a1) 46 0)) a2) 49 (Int32.toNatClampNeg ((mset (mset J 47 (Int32.toNatClampNeg (J 46 0)) a1) 48 (Int32.toNatClampNeg ((mset J 47 (Int32.toNatClampNeg (J 46 0)) a1) 46 0)) a2) 46 0)) a3) 50 (Int32.toNatClampNeg ((mset (mset (mset J 47 (Int32.toNatClampNeg (J 46 0)) a1) 48 (Int32.toNatClampNeg ((mset J 47 (Int32.toNatClampNeg (J 46 0)) a1) 46 0)) a2) 49 (Int32.toNatClampNeg ((mset (mset J 47 (Int32.toNatClampNeg (J 46 0)) a1) 48 (Int32.toNatClampNeg ((mset J 47 (Int32.toNatClampNeg (J 46 0)) a1) 46 0)) a2) 46 0)) a3) 46 0)) a4) 51 (Int32.toNatClampNeg ((mset (mset (mset (mset J 47 (Int32.toNatClampNeg (J 46 0)) a1) 48 (Int32.toNatClampNeg ((mset J 47 (Int32.toNatClampNeg (J 46 0)) a1) 46 0)) a2) 49 (Int32.toNatClampNeg ((mset (mset J 47 (Int32.toNatClampNeg (J 46 0)) a1) 48 (Int32.toNatClampNeg ((mset J 47 (Int32.toNatClampNeg (J 46 0)) a1) 46 0)) a2) 46 0)) a3) 50 (Int32.toNatClampNeg ((mset (mset (mset J 47 (Int32.toNatClampNeg (J 46 0)) a1) 48 (Int32.toNatClampNeg ((mset J 47 (Int32.toNatClampNeg (J 46 0)) a1) 46 0)) a2) 49 (Int32.toNatClampNeg ((mset (mset J 47 (Int32.toNatClampNeg (J 46 0)) a1) 48 (Int32.toNatClampNeg ((mset J 47 (Int32.toNatClampNeg (J 46 0)) a1) 46 0)) a2) 46 0)) a3) 46 0)) a4) 46 0)) a5) 46 0 (((mset (mset (mset (mset (mset J 47 (Int32.toNatClampNeg (J 46 0)) a1) 48 (Int32.toNatClampNeg ((mset J 47 (Int32.toNatClampNeg (J 46 0)) a1) 46 0)) a2) 49 (Int32.toNatClampNeg ((mset (mset J 47 (Int32.toNatClampNeg (J 46 0)) a1) 48 (Int32.toNatClampNeg ((mset J 47 (Int32.toNatClampNeg (J 46 0)) a1) 46 0)) a2) 46 0)) a3) 50 (Int32.toNatClampNeg ((mset (mset (mset J 47 (Int32.toNatClampNeg (J 46 0)) a1) 48 (Int32.toNatClampNeg ((mset J 47 (Int32.toNatClampNeg (J 46 0)) a1) 46 0)) a2) 49 (Int32.toNatClampNeg ((mset (mset J 47 (Int32.toNatClampNeg (J 46 0)) a1) 48 (Int32.toNatClampNeg ((mset J 47 (Int32.toNatClampNeg (J 46 0)) a1) 46 0)) a2) 46 0)) a3) 46 0)) a4) 51 (Int32.toNatClampNeg ((mset (mset (mset (mset J 47 (Int32.toNatClampNeg (J 46 0)) a1) 48 (Int32.toNatClampNeg ((mset J 47 (Int32.toNatClampNeg (J 46 0)) a1) 46 0)) a2) 49 (Int32.toNatClampNeg ((mset (mset J 47 (Int32.toNatClampNeg (J 46 0)) a1) 48 (Int32.toNatClampNeg ((mset J 47 (Int32.toNatClampNeg (J 46 0)) a1) 46 0)) a2) 46 0)) a3) 50 (Int32.toNatClampNeg ((mset (mset (mset J 47 (Int32.toNatClampNeg (J 46 0)) a1) 48 (Int32.toNatClampNeg ((mset J 47 (Int32.toNatClampNeg (J 46 0)) a1) 46 0)) a2) 49 (Int32.toNatClampNeg ((mset (mset J 47 (Int32.toNatClampNeg (J 46 0)) a1) 48 (Int32.toNatClampNeg ((mset J 47 (Int32.toNatClampNeg (J 46 0)) a1) 46 0)) a2) 46 0)) a3) 46 0)) a4) 46 0)) a5) 46 0) + (1 : Int32))))
def wm_meeting (Q : Int32 → MS → Prop) (J : MS) (x1 : Int32) (x2 : Int32) (x3 : Int32) (x4 : Int32) (x5 : Int32) : Prop :=
  wm_in (fun r2 J1 => (if r2 = 0 then Q (-1000001 : Int32) J1 else wm_in (fun r4 J3 => (if r4 = 0 then Q (-1000001 : Int32) J3 else wm_in (fun r6 J5 => (if r6 = 0 then Q (-1000001 : Int32) J5 else (if x1 < (x2 + x3) then Q (-1000001 : Int32) J5 else wm_in (fun r8 J7 => (if r8 = 0 then Q (-1000001 : Int32) J7 else (if x5 = (-1000000 : Int32) then wm_meeting_88 Q J7 x1 x2 x3 x4 x5 else wm_in (fun r10 J9 => (if r10 = 0 then Q (-1000001 : Int32) J9 else wm_meeting_88 Q J9 x1 x2 x3 x4 x5)) J7 (Int32.toInt64 x5) (0 : Int64) (Int32.toInt64 ((J7 46 0) - (1 : Int32)))))) J5 (Int32.toInt64 x4) (0 : Int64) (99 : Int64)))) J3 (Int32.toInt64 x3) (0 : Int64) (99 : Int64))) J1 (Int32.toInt64 x2) (0 : Int64) (99 : Int64))) (mset J 0 0 (0 : Int32)) (Int32.toInt64 x1) (1 : Int64) (99 : Int64)
theorem hd_meeting : yX3_meeting.cls = RX3 ∧ yX3_meeting.cls ≠ "java/lang/invoke/MethodHandle" ∧ yX3_meeting.cls ≠ "java/lang/invoke/VarHandle" ∧ (parseMethodDescriptor yX3_meeting.desc).map (fun d => d.parameters.length) = some 5 := by decide +kernel
set_option maxHeartbeats 4000000 in
set_option maxRecDepth 100000 in
theorem bm_meeting (E : ME) (C : Cx) (Q : Int32 → MS → Prop) (J : MS) (x1 : Int32) (x2 : Int32) (x3 : Int32) (x4 : Int32) (x5 : Int32) (hC : COk C cX3_meeting RX3 (some .int) 2 41 6) (hM : MOk E C) (hQ : cx_Q C = MQ (cx_b C) (va_Qi Q (BM E) (mA E)) (cx_a C) (cx_s C) (cx_MC C) (cx_MS C) (mA E)) (h : wm_meeting Q J x1 x2 x3 x4 x5) : GM E C J 0 [some (.ref (me_a E 54)), some (.int x1), some (.int x2), some (.int x3), some (.int x4), some (.int x5)] [] := by
  have s_88 : ∀ (J : MS) (a1 : Int32) (a2 : Int32) (a3 : Int32) (a4 : Int32) (a5 : Int32), wm_meeting_88 Q  J a1 a2 a3 a4 a5 → GM E C J 88 [some (.ref (me_a E 54)), some (.int a1), some (.int a2), some (.int a3), some (.int a4), some (.int a5)] [] := by
    intro  J a1 a2 a3 a4 a5 h
    refine g_aload_n hC dX3_meeting_88 rfl ?_
    refine gM_getS hC hM 46 dX3_meeting_89 q1549 (by decide) (by decide) rfl ?_
    refine g_bipush (v := 10) hC dX3_meeting_92 (by decide) ?_
    refine g_icmp_ne (tgt := 100) hC dX3_meeting_94 (by decide) (fun c => ?_) (fun c => ?_)
    · have h := it_n c h
      refine g_aload_n hC dX3_meeting_100 rfl ?_
      refine gM_getA hC hM 47 dX3_meeting_101 q1550 (by decide) (by decide) rfl ?_
      refine g_aload_n hC dX3_meeting_104 rfl ?_
      refine gM_getS hC hM 46 dX3_meeting_105 q1549 (by decide) (by decide) rfl ?_
      refine g_iload_n hC dX3_meeting_108 rfl ?_
      refine gM_iast hC hM 47 27 dX3_meeting_109 rfl (by decide) h.1 ?_
      refine g_aload_n hC dX3_meeting_110 rfl ?_
      refine gM_getA hC hM 48 dX3_meeting_111 q1551 (by decide) (by decide) rfl ?_
      refine g_aload_n hC dX3_meeting_114 rfl ?_
      refine gM_getS hC hM 46 dX3_meeting_115 q1549 (by decide) (by decide) rfl ?_
      refine g_iload_n hC dX3_meeting_118 rfl ?_
      refine gM_iast hC hM 48 28 dX3_meeting_119 rfl (by decide) h.2.1 ?_
      refine g_aload_n hC dX3_meeting_120 rfl ?_
      refine gM_getA hC hM 49 dX3_meeting_121 q1552 (by decide) (by decide) rfl ?_
      refine g_aload_n hC dX3_meeting_124 rfl ?_
      refine gM_getS hC hM 46 dX3_meeting_125 q1549 (by decide) (by decide) rfl ?_
      refine g_iload_n hC dX3_meeting_128 rfl ?_
      refine gM_iast hC hM 49 29 dX3_meeting_129 rfl (by decide) h.2.2.1 ?_
      refine g_aload_n hC dX3_meeting_130 rfl ?_
      refine gM_getA hC hM 50 dX3_meeting_131 q1553 (by decide) (by decide) rfl ?_
      refine g_aload_n hC dX3_meeting_134 rfl ?_
      refine gM_getS hC hM 46 dX3_meeting_135 q1549 (by decide) (by decide) rfl ?_
      refine g_iload hC dX3_meeting_138 rfl ?_
      refine gM_iast hC hM 50 30 dX3_meeting_140 rfl (by decide) h.2.2.2.1 ?_
      refine g_aload_n hC dX3_meeting_141 rfl ?_
      refine gM_getA hC hM 51 dX3_meeting_142 q1554 (by decide) (by decide) rfl ?_
      refine g_aload_n hC dX3_meeting_145 rfl ?_
      refine gM_getS hC hM 46 dX3_meeting_146 q1549 (by decide) (by decide) rfl ?_
      refine g_iload hC dX3_meeting_149 rfl ?_
      refine gM_iast hC hM 51 31 dX3_meeting_151 rfl (by decide) h.2.2.2.2.1 ?_
      refine g_aload_n hC dX3_meeting_152 rfl ?_
      refine g_dup hC dX3_meeting_153 rfl ?_
      refine gM_getS hC hM 46 dX3_meeting_154 q1549 (by decide) (by decide) rfl ?_
      refine g_iconst (v := 1) hC dX3_meeting_157 (by decide) ?_
      refine g_iadd hC dX3_meeting_158 ?_
      refine gM_put hC hM 46 (ty := .int) dX3_meeting_159 q1549 (by decide) (by decide) rfl rfl rfl rfl rfl ?_
      refine g_aload_n hC dX3_meeting_162 rfl ?_
      refine gM_getS hC hM 46 dX3_meeting_163 q1549 (by decide) (by decide) rfl ?_
      refine g_iconst (v := 1) hC dX3_meeting_166 (by decide) ?_
      refine g_isub hC dX3_meeting_167 ?_
      refine gM_iret hC hM hQ rfl dX3_meeting_168 h.2.2.2.2.2
    · have h := it_p c h
      refine g_ldc (v := -1000003) hC dX3_meeting_97 q1702 ?_
      refine gM_iret hC hM hQ rfl dX3_meeting_99 h
  refine g_aload_n hC dX3_meeting_0 rfl ?_
  refine g_iconst (v := 0) hC dX3_meeting_1 (by decide) ?_
  refine gM_put hC hM 0 (ty := .int) dX3_meeting_2 q1503 (by decide) (by decide) rfl rfl rfl rfl rfl ?_
  refine g_iload_n hC dX3_meeting_5 rfl ?_
  refine g_i2l hC dX3_meeting_6 ?_
  refine g_lconst (v := 1) hC dX3_meeting_7 (by decide) ?_
  refine g_ldc2 (v := 99) hC dX3_meeting_8 q1927 ?_
  refine gM_Si (As := [.long (Int32.toInt64 x1), .long (1 : Int64), .long (99 : Int64)]) (rest := []) hC hM (mm_in (cx_l C) E hM.2.1 _ _ _ _ _ h) (lw_S q1675 q1676 q76 q1677) hd_in rfl rfl (Nat.le_of_ble_eq_true rfl) ⟨Nat.le_of_ble_eq_true rfl, Nat.le_of_ble_eq_true rfl⟩ dX3_meeting_11 ?_
  intro r2 J1 h
  refine g_if_eq (tgt := 85) hC dX3_meeting_14 (by decide) (fun c => ?_) (fun c => ?_)
  · have h := it_p c h
    refine g_ldc (v := -1000001) hC dX3_meeting_85 q1679 ?_
    refine gM_iret hC hM hQ rfl dX3_meeting_87 h
  · have h := it_n c h
    refine g_iload_n hC dX3_meeting_17 rfl ?_
    refine g_i2l hC dX3_meeting_18 ?_
    refine g_lconst (v := 0) hC dX3_meeting_19 (by decide) ?_
    refine g_ldc2 (v := 99) hC dX3_meeting_20 q1927 ?_
    refine gM_Si (As := [.long (Int32.toInt64 x2), .long (0 : Int64), .long (99 : Int64)]) (rest := []) hC hM (mm_in (cx_l C) E hM.2.1 _ _ _ _ _ h) (lw_S q1675 q1676 q76 q1677) hd_in rfl rfl (Nat.le_of_ble_eq_true rfl) ⟨Nat.le_of_ble_eq_true rfl, Nat.le_of_ble_eq_true rfl⟩ dX3_meeting_23 ?_
    intro r4 J3 h
    refine g_if_eq (tgt := 85) hC dX3_meeting_26 (by decide) (fun c => ?_) (fun c => ?_)
    · have h := it_p c h
      refine g_ldc (v := -1000001) hC dX3_meeting_85 q1679 ?_
      refine gM_iret hC hM hQ rfl dX3_meeting_87 h
    · have h := it_n c h
      refine g_iload_n hC dX3_meeting_29 rfl ?_
      refine g_i2l hC dX3_meeting_30 ?_
      refine g_lconst (v := 0) hC dX3_meeting_31 (by decide) ?_
      refine g_ldc2 (v := 99) hC dX3_meeting_32 q1927 ?_
      refine gM_Si (As := [.long (Int32.toInt64 x3), .long (0 : Int64), .long (99 : Int64)]) (rest := []) hC hM (mm_in (cx_l C) E hM.2.1 _ _ _ _ _ h) (lw_S q1675 q1676 q76 q1677) hd_in rfl rfl (Nat.le_of_ble_eq_true rfl) ⟨Nat.le_of_ble_eq_true rfl, Nat.le_of_ble_eq_true rfl⟩ dX3_meeting_35 ?_
      intro r6 J5 h
      refine g_if_eq (tgt := 85) hC dX3_meeting_38 (by decide) (fun c => ?_) (fun c => ?_)
      · have h := it_p c h
        refine g_ldc (v := -1000001) hC dX3_meeting_85 q1679 ?_
        refine gM_iret hC hM hQ rfl dX3_meeting_87 h
      · have h := it_n c h
        refine g_iload_n hC dX3_meeting_41 rfl ?_
        refine g_iload_n hC dX3_meeting_42 rfl ?_
        refine g_iadd hC dX3_meeting_43 ?_
        refine g_iload_n hC dX3_meeting_44 rfl ?_
        refine g_icmp_gt (tgt := 85) hC dX3_meeting_45 (by decide) (fun c => ?_) (fun c => ?_)
        · have h := it_p c h
          refine g_ldc (v := -1000001) hC dX3_meeting_85 q1679 ?_
          refine gM_iret hC hM hQ rfl dX3_meeting_87 h
        · have h := it_n c h
          refine g_iload hC dX3_meeting_48 rfl ?_
          refine g_i2l hC dX3_meeting_50 ?_
          refine g_lconst (v := 0) hC dX3_meeting_51 (by decide) ?_
          refine g_ldc2 (v := 99) hC dX3_meeting_52 q1927 ?_
          refine gM_Si (As := [.long (Int32.toInt64 x4), .long (0 : Int64), .long (99 : Int64)]) (rest := []) hC hM (mm_in (cx_l C) E hM.2.1 _ _ _ _ _ h) (lw_S q1675 q1676 q76 q1677) hd_in rfl rfl (Nat.le_of_ble_eq_true rfl) ⟨Nat.le_of_ble_eq_true rfl, Nat.le_of_ble_eq_true rfl⟩ dX3_meeting_55 ?_
          intro r8 J7 h
          refine g_if_eq (tgt := 85) hC dX3_meeting_58 (by decide) (fun c => ?_) (fun c => ?_)
          · have h := it_p c h
            refine g_ldc (v := -1000001) hC dX3_meeting_85 q1679 ?_
            refine gM_iret hC hM hQ rfl dX3_meeting_87 h
          · have h := it_n c h
            refine g_iload hC dX3_meeting_61 rfl ?_
            refine g_ldc (v := -1000000) hC dX3_meeting_63 q1720 ?_
            refine g_icmp_eq (tgt := 88) hC dX3_meeting_65 (by decide) (fun c => ?_) (fun c => ?_)
            · have h := it_p c h
              exact s_88 J7 x1 x2 x3 x4 x5 h
            · have h := it_n c h
              refine g_iload hC dX3_meeting_68 rfl ?_
              refine g_i2l hC dX3_meeting_70 ?_
              refine g_lconst (v := 0) hC dX3_meeting_71 (by decide) ?_
              refine g_aload_n hC dX3_meeting_72 rfl ?_
              refine gM_getS hC hM 46 dX3_meeting_73 q1549 (by decide) (by decide) rfl ?_
              refine g_iconst (v := 1) hC dX3_meeting_76 (by decide) ?_
              refine g_isub hC dX3_meeting_77 ?_
              refine g_i2l hC dX3_meeting_78 ?_
              refine gM_Si (As := [.long (Int32.toInt64 x5), .long (0 : Int64), .long (Int32.toInt64 ((J7 46 0) - (1 : Int32)))]) (rest := []) hC hM (mm_in (cx_l C) E hM.2.1 _ _ _ _ _ h) (lw_S q1675 q1676 q76 q1677) hd_in rfl rfl (Nat.le_of_ble_eq_true rfl) ⟨Nat.le_of_ble_eq_true rfl, Nat.le_of_ble_eq_true rfl⟩ dX3_meeting_79 ?_
              intro r10 J9 h
              refine g_if_ne (tgt := 88) hC dX3_meeting_82 (by decide) (fun c => ?_) (fun c => ?_)
              · have h := it_n c h
                exact s_88 J9 x1 x2 x3 x4 x5 h
              · have h := it_p c h
                refine g_ldc (v := -1000001) hC dX3_meeting_85 q1679 ?_
                refine gM_iret hC hM hQ rfl dX3_meeting_87 h
theorem mm_meeting (l : Launch) (E : ME) (hI : mInj E) (Q : Int32 → MS → Prop) (J : MS) (x1 : Int32) (x2 : Int32) (x3 : Int32) (x4 : Int32) (x5 : Int32) (h : wm_meeting Q J x1 x2 x3 x4 x5) : MMet E l yX3_meeting cX3_meeting 6 (some .int) ({ frames := 2, cells := 0, slots := 0, locals := 41 }) [.ref (me_a E 54), .int x1, .int x2, .int x3, .int x4, .int x5] J (va_Qi Q (BM E) (mA E)) :=
  MMet_of hI (by decide) rfl (Nat.le_of_ble_eq_true rfl) (L0 := [some (.ref (me_a E 54)), some (.int x1), some (.int x2), some (.int x3), some (.int x4), some (.int x5)]) rfl (fun C hC hM hl hQ => bm_meeting E C Q J x1 x2 x3 x4 x5 hC hM hQ h)
/-! isValid -/
def wm_isValid_61 (Q : Int32 → MS → Prop) (K4 : MS → Int32 → Int32 → Int32 → Prop) (J : MS) (a1 : Int32) (a3 : Int32) (s0 : Int32) : Prop :=
  vp_in a3 10 ∧ K4 J a1 s0 (J 51 (Int32.toNatClampNeg a3))
def wm_isValid_60 (Q : Int32 → MS → Prop) (K4 : MS → Int32 → Int32 → Int32 → Prop) (J : MS) (a1 : Int32) (a3 : Int32) : Prop :=
  wm_isValid_61 Q K4 J a1 a3 (0 : Int32)
def wm_isValid_56 (Q : Int32 → MS → Prop) (K4 : MS → Int32 → Int32 → Int32 → Prop) (J : MS) (a1 : Int32) (a3 : Int32) : Prop :=
  wm_isValid_61 Q K4 J a1 a3 (1 : Int32)
def wm_isValid_4 (Q : Int32 → MS → Prop) : Nat → MS → Int32 → Int32 → Int32 → Prop
  | 0, _, _, _, _ => False
  | n + 1, J, a1, a2, a3 => (if a3 = (-1000000 : Int32) then narrow .boolean (.int a2) = .int a2 ∧ Q a2 J else (if a2 = 0 then wm_isValid_60 Q (wm_isValid_4 Q n) J a1 a3 else vp_in a3 10 ∧ vp_in a3 10 ∧ vp_in a3 10 ∧ (if ((J 48 (Int32.toNatClampNeg a3)) + (J 49 (Int32.toNatClampNeg a3))) < (J 50 (Int32.toNatClampNeg a3)) then wm_isValid_60 Q (wm_isValid_4 Q n) J a1 a3 else (if a3 = a1 then wm_isValid_56 Q (wm_isValid_4 Q n) J a1 a3 else vp_in a3 10 ∧ vp_in a3 10 ∧ (if (J 48 (Int32.toNatClampNeg a3)) ≤ (J 49 (Int32.toNatClampNeg a3)) then wm_isValid_60 Q (wm_isValid_4 Q n) J a1 a3 else wm_isValid_56 Q (wm_isValid_4 Q n) J a1 a3)))))
def wm_isValid (Q : Int32 → MS → Prop) (J : MS) (x1 : Int32) : Prop :=
  ∃ n1, wm_isValid_4 Q n1 J x1 (1 : Int32) x1
theorem hd_isValid : yX3_isValid.cls = RX3 ∧ yX3_isValid.cls ≠ "java/lang/invoke/MethodHandle" ∧ yX3_isValid.cls ≠ "java/lang/invoke/VarHandle" ∧ (parseMethodDescriptor yX3_isValid.desc).map (fun d => d.parameters.length) = some 1 := by decide +kernel
set_option maxHeartbeats 4000000 in
set_option maxRecDepth 100000 in
theorem bm_isValid (E : ME) (C : Cx) (Q : Int32 → MS → Prop) (J : MS) (x1 : Int32) (hC : COk C cX3_isValid RX3 (some .boolean) 1 16 4) (hM : MOk E C) (hQ : cx_Q C = MQ (cx_b C) (va_Qi Q (BM E) (mA E)) (cx_a C) (cx_s C) (cx_MC C) (cx_MS C) (mA E)) (h : wm_isValid Q J x1) : GM E C J 0 [some (.ref (me_a E 54)), some (.int x1), none, none] [] := by
  have s_61 : ∀ (K4 : MS → Int32 → Int32 → Int32 → Prop) (hK4 : ∀ (J : MS) (b1 : Int32) (b2 : Int32) (b3 : Int32), K4 J b1 b2 b3 → GM E C J 4 [some (.ref (me_a E 54)), some (.int b1), some (.int b2), some (.int b3)] []) (J : MS) (a1 : Int32) (a3 : Int32) (s0 : Int32), wm_isValid_61 Q K4 J a1 a3 s0 → GM E C J 61 [some (.ref (me_a E 54)), some (.int a1), none, some (.int a3)] [.int s0] := by
    intro K4 hK4 J a1 a3 s0 h
    refine g_istore_n hC dX3_isValid_61 rfl (by decide) rfl rfl ?_
    refine g_aload_n hC dX3_isValid_62 rfl ?_
    refine gM_getA hC hM 51 dX3_isValid_63 q1554 (by decide) (by decide) rfl ?_
    refine g_iload_n hC dX3_isValid_66 rfl ?_
    refine gM_iald hC hM 51 31 dX3_isValid_67 rfl (by decide) h.1 ?_
    refine g_istore_n hC dX3_isValid_68 rfl (by decide) rfl rfl ?_
    refine g_goto (tgt := 4) hC dX3_isValid_69 (by decide) ?_
    exact hK4 J a1 s0 (J 51 (Int32.toNatClampNeg a3)) h.2
  have s_60 : ∀ (K4 : MS → Int32 → Int32 → Int32 → Prop) (hK4 : ∀ (J : MS) (b1 : Int32) (b2 : Int32) (b3 : Int32), K4 J b1 b2 b3 → GM E C J 4 [some (.ref (me_a E 54)), some (.int b1), some (.int b2), some (.int b3)] []) (J : MS) (a1 : Int32) (a3 : Int32), wm_isValid_60 Q K4 J a1 a3 → GM E C J 60 [some (.ref (me_a E 54)), some (.int a1), none, some (.int a3)] [] := by
    intro K4 hK4 J a1 a3 h
    refine g_iconst (v := 0) hC dX3_isValid_60 (by decide) ?_
    exact s_61 K4 hK4 J a1 a3 (0 : Int32) h
  have s_56 : ∀ (K4 : MS → Int32 → Int32 → Int32 → Prop) (hK4 : ∀ (J : MS) (b1 : Int32) (b2 : Int32) (b3 : Int32), K4 J b1 b2 b3 → GM E C J 4 [some (.ref (me_a E 54)), some (.int b1), some (.int b2), some (.int b3)] []) (J : MS) (a1 : Int32) (a3 : Int32), wm_isValid_56 Q K4 J a1 a3 → GM E C J 56 [some (.ref (me_a E 54)), some (.int a1), none, some (.int a3)] [] := by
    intro K4 hK4 J a1 a3 h
    refine g_iconst (v := 1) hC dX3_isValid_56 (by decide) ?_
    refine g_goto (tgt := 61) hC dX3_isValid_57 (by decide) ?_
    exact s_61 K4 hK4 J a1 a3 (1 : Int32) h
  have s_4 : ∀ (n : Nat) (J : MS) (a1 : Int32) (a2 : Int32) (a3 : Int32), wm_isValid_4 Q  n J a1 a2 a3 → GM E C J 4 [some (.ref (me_a E 54)), some (.int a1), some (.int a2), some (.int a3)] [] := by
    intro  n
    induction n with
    | zero =>
      intro J a1 a2 a3 h
      exact False.elim h
    | succ n ih =>
      intro J a1 a2 a3 h
      refine g_iload_n hC dX3_isValid_4 rfl ?_
      refine g_ldc (v := -1000000) hC dX3_isValid_5 q1720 ?_
      refine g_icmp_eq (tgt := 72) hC dX3_isValid_7 (by decide) (fun c => ?_) (fun c => ?_)
      · have h := it_p c h
        refine g_iload_n hC dX3_isValid_72 rfl ?_
        refine gM_zret hC hM hQ rfl h.1 dX3_isValid_73 h.2
      · have h := it_n c h
        refine g_iload_n hC dX3_isValid_10 rfl ?_
        refine g_if_eq (tgt := 60) hC dX3_isValid_11 (by decide) (fun c => ?_) (fun c => ?_)
        · have h := it_p c h
          refine g_sub [true, true, false, true] rfl ?_
          exact s_60 (wm_isValid_4 Q n) ih J a1 a3 h
        · have h := it_n c h
          refine g_aload_n hC dX3_isValid_14 rfl ?_
          refine gM_getA hC hM 48 dX3_isValid_15 q1551 (by decide) (by decide) rfl ?_
          refine g_iload_n hC dX3_isValid_18 rfl ?_
          refine gM_iald hC hM 48 28 dX3_isValid_19 rfl (by decide) h.1 ?_
          refine g_aload_n hC dX3_isValid_20 rfl ?_
          refine gM_getA hC hM 49 dX3_isValid_21 q1552 (by decide) (by decide) rfl ?_
          refine g_iload_n hC dX3_isValid_24 rfl ?_
          refine gM_iald hC hM 49 29 dX3_isValid_25 rfl (by decide) h.2.1 ?_
          refine g_iadd hC dX3_isValid_26 ?_
          refine g_aload_n hC dX3_isValid_27 rfl ?_
          refine gM_getA hC hM 50 dX3_isValid_28 q1553 (by decide) (by decide) rfl ?_
          refine g_iload_n hC dX3_isValid_31 rfl ?_
          refine gM_iald hC hM 50 30 dX3_isValid_32 rfl (by decide) h.2.2.1 ?_
          refine g_icmp_lt (tgt := 60) hC dX3_isValid_33 (by decide) (fun c => ?_) (fun c => ?_)
          · have h := it_p c h.2.2.2
            refine g_sub [true, true, false, true] rfl ?_
            exact s_60 (wm_isValid_4 Q n) ih J a1 a3 h
          · have h := it_n c h.2.2.2
            refine g_iload_n hC dX3_isValid_36 rfl ?_
            refine g_iload_n hC dX3_isValid_37 rfl ?_
            refine g_icmp_eq (tgt := 56) hC dX3_isValid_38 (by decide) (fun c => ?_) (fun c => ?_)
            · have h := it_p c h
              refine g_sub [true, true, false, true] rfl ?_
              exact s_56 (wm_isValid_4 Q n) ih J a1 a3 h
            · have h := it_n c h
              refine g_aload_n hC dX3_isValid_41 rfl ?_
              refine gM_getA hC hM 48 dX3_isValid_42 q1551 (by decide) (by decide) rfl ?_
              refine g_iload_n hC dX3_isValid_45 rfl ?_
              refine gM_iald hC hM 48 28 dX3_isValid_46 rfl (by decide) h.1 ?_
              refine g_aload_n hC dX3_isValid_47 rfl ?_
              refine gM_getA hC hM 49 dX3_isValid_48 q1552 (by decide) (by decide) rfl ?_
              refine g_iload_n hC dX3_isValid_51 rfl ?_
              refine gM_iald hC hM 49 29 dX3_isValid_52 rfl (by decide) h.2.1 ?_
              refine g_icmp_le (tgt := 60) hC dX3_isValid_53 (by decide) (fun c => ?_) (fun c => ?_)
              · have h := it_p c h.2.2
                refine g_sub [true, true, false, true] rfl ?_
                exact s_60 (wm_isValid_4 Q n) ih J a1 a3 h
              · have h := it_n c h.2.2
                refine g_sub [true, true, false, true] rfl ?_
                exact s_56 (wm_isValid_4 Q n) ih J a1 a3 h
  refine g_iconst (v := 1) hC dX3_isValid_0 (by decide) ?_
  refine g_istore_n hC dX3_isValid_1 rfl (by decide) rfl rfl ?_
  refine g_iload_n hC dX3_isValid_2 rfl ?_
  refine g_istore_n hC dX3_isValid_3 rfl (by decide) rfl rfl ?_
  obtain ⟨n0, h0⟩ := h
  exact s_4 n0 J x1 (1 : Int32) x1 h0
theorem mm_isValid (l : Launch) (E : ME) (hI : mInj E) (Q : Int32 → MS → Prop) (J : MS) (x1 : Int32) (h : wm_isValid Q J x1) : MMet E l yX3_isValid cX3_isValid 4 (some .boolean) ({ frames := 1, cells := 0, slots := 0, locals := 16 }) [.ref (me_a E 54), .int x1] J (va_Qi Q (BM E) (mA E)) :=
  MMet_of hI (by decide) rfl (Nat.le_of_ble_eq_true rfl) (L0 := [some (.ref (me_a E 54)), some (.int x1), none, none]) rfl (fun C hC hM hl hQ => bm_isValid E C Q J x1 hC hM hQ h)
/-! met -/
def wm_met_136 (Q : Int32 → MS → Prop) (K81 : MS → Int32 → Int32 → Int32 → Prop) (J : MS) (a1 : Int32) (a4 : Int32) (s0 : Int32) (s1 : Int32) : Prop :=
  K81 J a1 (s0 + s1) (a4 + (1 : Int32))
def wm_met_124 (Q : Int32 → MS → Prop) (K81 : MS → Int32 → Int32 → Int32 → Prop) (J : MS) (a1 : Int32) (a3 : Int32) (a4 : Int32) (a5 : Int32) : Prop :=
  (if a5 = a1 then wm_met_136 Q K81 J a1 a4 a3 (1 : Int32) else wm_met_136 Q K81 J a1 a4 a3 (0 : Int32))
def wm_met_99 (Q : Int32 → MS → Prop) (K81 : MS → Int32 → Int32 → Int32 → Prop) : Nat → MS → Int32 → Int32 → Int32 → Int32 → Prop
  | 0, _, _, _, _, _ => False
  | n + 1, J, a1, a3, a4, a5 => (if a5 = (-1000000 : Int32) then wm_met_124 Q K81 J a1 a3 a4 a5 else (if a5 = a1 then wm_met_124 Q K81 J a1 a3 a4 a5 else vp_in a5 10 ∧ wm_met_99 Q K81 n J a1 a3 a4 (J 51 (Int32.toNatClampNeg a5))))
def wm_met_81 (Q : Int32 → MS → Prop) : Nat → MS → Int32 → Int32 → Int32 → Prop
  | 0, _, _, _, _ => False
  | n + 1, J, a1, a3, a4 => (if (J 46 0) ≤ a4 then Q a3 J else vp_in a4 10 ∧ ∃ n5, wm_met_99 Q (wm_met_81 Q n) n5 J a1 a3 a4 (J 51 (Int32.toNatClampNeg a4)))
def wm_met (Q : Int32 → MS → Prop) (J : MS) (x1 : Int32) (x2 : Int32) : Prop :=
  wm_in (fun r2 J1 => (if r2 = 0 then Q (-1000001 : Int32) J1 else wm_in (fun r4 J3 => (if r4 = 0 then Q (-1000001 : Int32) J3 else (if (2 : Int32) ≤ x2 then ∃ n6, wm_met_81 Q n6 J3 x1 (0 : Int32) (x1 + (1 : Int32)) else wm_isValid (fun r8 J7 => (if r8 = 0 then Q (0 : Int32) J7 else (if x2 = 0 then Q (1 : Int32) J7 else vp_in x1 10 ∧ vp_in x1 10 ∧ (if (J7 48 (Int32.toNatClampNeg x1)) ≤ (J7 49 (Int32.toNatClampNeg x1)) then Q (0 : Int32) J7 else Q (1 : Int32) J7)))) J3 x1))) J1 (Int32.toInt64 x2) (0 : Int64) (2 : Int64))) (mset J 0 0 (0 : Int32)) (Int32.toInt64 x1) (0 : Int64) (Int32.toInt64 (((mset J 0 0 (0 : Int32)) 46 0) - (1 : Int32)))
theorem hd_met : yX3_met.cls = RX3 ∧ yX3_met.cls ≠ "java/lang/invoke/MethodHandle" ∧ yX3_met.cls ≠ "java/lang/invoke/VarHandle" ∧ (parseMethodDescriptor yX3_met.desc).map (fun d => d.parameters.length) = some 2 := by decide +kernel
set_option maxHeartbeats 4000000 in
set_option maxRecDepth 100000 in
theorem bm_met (E : ME) (C : Cx) (Q : Int32 → MS → Prop) (J : MS) (x1 : Int32) (x2 : Int32) (hC : COk C cX3_met RX3 (some .int) 2 41 6) (hM : MOk E C) (hQ : cx_Q C = MQ (cx_b C) (va_Qi Q (BM E) (mA E)) (cx_a C) (cx_s C) (cx_MC C) (cx_MS C) (mA E)) (h : wm_met Q J x1 x2) : GM E C J 0 [some (.ref (me_a E 54)), some (.int x1), some (.int x2), none, none, none] [] := by
  have s_136 : ∀ (K81 : MS → Int32 → Int32 → Int32 → Prop) (hK81 : ∀ (J : MS) (b1 : Int32) (b3 : Int32) (b4 : Int32), K81 J b1 b3 b4 → GM E C J 81 [some (.ref (me_a E 54)), some (.int b1), none, some (.int b3), some (.int b4), none] []) (J : MS) (a1 : Int32) (a4 : Int32) (s0 : Int32) (s1 : Int32), wm_met_136 Q K81 J a1 a4 s0 s1 → GM E C J 136 [some (.ref (me_a E 54)), some (.int a1), none, none, some (.int a4), none] [.int s1, .int s0] := by
    intro K81 hK81 J a1 a4 s0 s1 h
    refine g_iadd hC dX3_met_136 ?_
    refine g_istore_n hC dX3_met_137 rfl (by decide) rfl rfl ?_
    refine g_iinc (v := (a4 + (1 : Int32))) hC dX3_met_138 rfl rfl (by decide) rfl rfl ?_
    refine g_goto (tgt := 81) hC dX3_met_141 (by decide) ?_
    exact hK81 J a1 (s0 + s1) (a4 + (1 : Int32)) h
  have s_124 : ∀ (K81 : MS → Int32 → Int32 → Int32 → Prop) (hK81 : ∀ (J : MS) (b1 : Int32) (b3 : Int32) (b4 : Int32), K81 J b1 b3 b4 → GM E C J 81 [some (.ref (me_a E 54)), some (.int b1), none, some (.int b3), some (.int b4), none] []) (J : MS) (a1 : Int32) (a3 : Int32) (a4 : Int32) (a5 : Int32), wm_met_124 Q K81 J a1 a3 a4 a5 → GM E C J 124 [some (.ref (me_a E 54)), some (.int a1), none, some (.int a3), some (.int a4), some (.int a5)] [] := by
    intro K81 hK81 J a1 a3 a4 a5 h
    refine g_iload_n hC dX3_met_124 rfl ?_
    refine g_iload hC dX3_met_125 rfl ?_
    refine g_iload_n hC dX3_met_127 rfl ?_
    refine g_icmp_ne (tgt := 135) hC dX3_met_128 (by decide) (fun c => ?_) (fun c => ?_)
    · have h := it_n c h
      refine g_iconst (v := 0) hC dX3_met_135 (by decide) ?_
      refine g_sub [true, true, false, false, true, false] rfl ?_
      exact s_136 K81 hK81 J a1 a4 a3 (0 : Int32) h
    · have h := it_p c h
      refine g_iconst (v := 1) hC dX3_met_131 (by decide) ?_
      refine g_goto (tgt := 136) hC dX3_met_132 (by decide) ?_
      refine g_sub [true, true, false, false, true, false] rfl ?_
      exact s_136 K81 hK81 J a1 a4 a3 (1 : Int32) h
  have s_99 : ∀ (K81 : MS → Int32 → Int32 → Int32 → Prop) (hK81 : ∀ (J : MS) (b1 : Int32) (b3 : Int32) (b4 : Int32), K81 J b1 b3 b4 → GM E C J 81 [some (.ref (me_a E 54)), some (.int b1), none, some (.int b3), some (.int b4), none] []) (n : Nat) (J : MS) (a1 : Int32) (a3 : Int32) (a4 : Int32) (a5 : Int32), wm_met_99 Q K81 n J a1 a3 a4 a5 → GM E C J 99 [some (.ref (me_a E 54)), some (.int a1), none, some (.int a3), some (.int a4), some (.int a5)] [] := by
    intro K81 hK81 n
    induction n with
    | zero =>
      intro J a1 a3 a4 a5 h
      exact False.elim h
    | succ n ih =>
      intro J a1 a3 a4 a5 h
      refine g_iload hC dX3_met_99 rfl ?_
      refine g_ldc (v := -1000000) hC dX3_met_101 q1720 ?_
      refine g_icmp_eq (tgt := 124) hC dX3_met_103 (by decide) (fun c => ?_) (fun c => ?_)
      · have h := it_p c h
        exact s_124 K81 hK81 J a1 a3 a4 a5 h
      · have h := it_n c h
        refine g_iload hC dX3_met_106 rfl ?_
        refine g_iload_n hC dX3_met_108 rfl ?_
        refine g_icmp_eq (tgt := 124) hC dX3_met_109 (by decide) (fun c => ?_) (fun c => ?_)
        · have h := it_p c h
          exact s_124 K81 hK81 J a1 a3 a4 a5 h
        · have h := it_n c h
          refine g_aload_n hC dX3_met_112 rfl ?_
          refine gM_getA hC hM 51 dX3_met_113 q1554 (by decide) (by decide) rfl ?_
          refine g_iload hC dX3_met_116 rfl ?_
          refine gM_iald hC hM 51 31 dX3_met_118 rfl (by decide) h.1 ?_
          refine g_istore hC dX3_met_119 (by decide) rfl rfl ?_
          refine g_goto (tgt := 99) hC dX3_met_121 (by decide) ?_
          exact ih J a1 a3 a4 (J 51 (Int32.toNatClampNeg a5)) h.2
  have s_81 : ∀ (n : Nat) (J : MS) (a1 : Int32) (a3 : Int32) (a4 : Int32), wm_met_81 Q  n J a1 a3 a4 → GM E C J 81 [some (.ref (me_a E 54)), some (.int a1), none, some (.int a3), some (.int a4), none] [] := by
    intro  n
    induction n with
    | zero =>
      intro J a1 a3 a4 h
      exact False.elim h
    | succ n ih =>
      intro J a1 a3 a4 h
      refine g_iload hC dX3_met_81 rfl ?_
      refine g_aload_n hC dX3_met_83 rfl ?_
      refine gM_getS hC hM 46 dX3_met_84 q1549 (by decide) (by decide) rfl ?_
      refine g_icmp_ge (tgt := 144) hC dX3_met_87 (by decide) (fun c => ?_) (fun c => ?_)
      · have h := it_p c h
        refine g_iload_n hC dX3_met_144 rfl ?_
        refine gM_iret hC hM hQ rfl dX3_met_145 h
      · have h := it_n c h
        refine g_aload_n hC dX3_met_90 rfl ?_
        refine gM_getA hC hM 51 dX3_met_91 q1554 (by decide) (by decide) rfl ?_
        refine g_iload hC dX3_met_94 rfl ?_
        refine gM_iald hC hM 51 31 dX3_met_96 rfl (by decide) h.1 ?_
        refine g_istore hC dX3_met_97 (by decide) rfl rfl ?_
        obtain ⟨n0, h0⟩ := h.2
        exact s_99 (wm_met_81 Q n) ih n0 J a1 a3 a4 (J 51 (Int32.toNatClampNeg a4)) h0
  refine g_aload_n hC dX3_met_0 rfl ?_
  refine g_iconst (v := 0) hC dX3_met_1 (by decide) ?_
  refine gM_put hC hM 0 (ty := .int) dX3_met_2 q1503 (by decide) (by decide) rfl rfl rfl rfl rfl ?_
  refine g_iload_n hC dX3_met_5 rfl ?_
  refine g_i2l hC dX3_met_6 ?_
  refine g_lconst (v := 0) hC dX3_met_7 (by decide) ?_
  refine g_aload_n hC dX3_met_8 rfl ?_
  refine gM_getS hC hM 46 dX3_met_9 q1549 (by decide) (by decide) rfl ?_
  refine g_iconst (v := 1) hC dX3_met_12 (by decide) ?_
  refine g_isub hC dX3_met_13 ?_
  refine g_i2l hC dX3_met_14 ?_
  refine gM_Si (As := [.long (Int32.toInt64 x1), .long (0 : Int64), .long (Int32.toInt64 (((mset J 0 0 (0 : Int32)) 46 0) - (1 : Int32)))]) (rest := []) hC hM (mm_in (cx_l C) E hM.2.1 _ _ _ _ _ h) (lw_S q1675 q1676 q76 q1677) hd_in rfl rfl (Nat.le_of_ble_eq_true rfl) ⟨Nat.le_of_ble_eq_true rfl, Nat.le_of_ble_eq_true rfl⟩ dX3_met_15 ?_
  intro r2 J1 h
  refine g_if_eq (tgt := 33) hC dX3_met_18 (by decide) (fun c => ?_) (fun c => ?_)
  · have h := it_p c h
    refine g_ldc (v := -1000001) hC dX3_met_33 q1679 ?_
    refine gM_iret hC hM hQ rfl dX3_met_35 h
  · have h := it_n c h
    refine g_iload_n hC dX3_met_21 rfl ?_
    refine g_i2l hC dX3_met_22 ?_
    refine g_lconst (v := 0) hC dX3_met_23 (by decide) ?_
    refine g_ldc2 (v := 2) hC dX3_met_24 q1678 ?_
    refine gM_Si (As := [.long (Int32.toInt64 x2), .long (0 : Int64), .long (2 : Int64)]) (rest := []) hC hM (mm_in (cx_l C) E hM.2.1 _ _ _ _ _ h) (lw_S q1675 q1676 q76 q1677) hd_in rfl rfl (Nat.le_of_ble_eq_true rfl) ⟨Nat.le_of_ble_eq_true rfl, Nat.le_of_ble_eq_true rfl⟩ dX3_met_27 ?_
    intro r4 J3 h
    refine g_if_ne (tgt := 36) hC dX3_met_30 (by decide) (fun c => ?_) (fun c => ?_)
    · have h := it_n c h
      refine g_iload_n hC dX3_met_36 rfl ?_
      refine g_iconst (v := 2) hC dX3_met_37 (by decide) ?_
      refine g_icmp_ge (tgt := 74) hC dX3_met_38 (by decide) (fun c => ?_) (fun c => ?_)
      · have h := it_p c h
        refine g_iconst (v := 0) hC dX3_met_74 (by decide) ?_
        refine g_istore_n hC dX3_met_75 rfl (by decide) rfl rfl ?_
        refine g_sub [true, true, false, true, false, false] rfl ?_
        refine g_iload_n hC dX3_met_76 rfl ?_
        refine g_iconst (v := 1) hC dX3_met_77 (by decide) ?_
        refine g_iadd hC dX3_met_78 ?_
        refine g_istore hC dX3_met_79 (by decide) rfl rfl ?_
        obtain ⟨n0, h0⟩ := h
        exact s_81 n0 J3 x1 (0 : Int32) (x1 + (1 : Int32)) h0
      · have h := it_n c h
        refine g_aload_n hC dX3_met_41 rfl ?_
        refine g_iload_n hC dX3_met_42 rfl ?_
        refine gM_Vi (As := [.int x1]) (rest := []) hC hM (mm_isValid (cx_l C) E hM.2.1 _ _ _ h) (lw_V q1932 q1934 qs63 q76 q1935) hd_isValid rfl rfl (Nat.le_of_ble_eq_true rfl) ⟨Nat.le_of_ble_eq_true rfl, Nat.le_of_ble_eq_true rfl⟩ dX3_met_43 ?_
        intro r8 J7 h
        refine g_if_eq (tgt := 72) hC dX3_met_46 (by decide) (fun c => ?_) (fun c => ?_)
        · have h := it_p c h
          refine g_iconst (v := 0) hC dX3_met_72 (by decide) ?_
          refine gM_iret hC hM hQ rfl dX3_met_73 h
        · have h := it_n c h
          refine g_iload_n hC dX3_met_49 rfl ?_
          refine g_if_eq (tgt := 68) hC dX3_met_50 (by decide) (fun c => ?_) (fun c => ?_)
          · have h := it_p c h
            refine g_iconst (v := 1) hC dX3_met_68 (by decide) ?_
            refine g_goto (tgt := 73) hC dX3_met_69 (by decide) ?_
            refine gM_iret hC hM hQ rfl dX3_met_73 h
          · have h := it_n c h
            refine g_aload_n hC dX3_met_53 rfl ?_
            refine gM_getA hC hM 48 dX3_met_54 q1551 (by decide) (by decide) rfl ?_
            refine g_iload_n hC dX3_met_57 rfl ?_
            refine gM_iald hC hM 48 28 dX3_met_58 rfl (by decide) h.1 ?_
            refine g_aload_n hC dX3_met_59 rfl ?_
            refine gM_getA hC hM 49 dX3_met_60 q1552 (by decide) (by decide) rfl ?_
            refine g_iload_n hC dX3_met_63 rfl ?_
            refine gM_iald hC hM 49 29 dX3_met_64 rfl (by decide) h.2.1 ?_
            refine g_icmp_le (tgt := 72) hC dX3_met_65 (by decide) (fun c => ?_) (fun c => ?_)
            · have h := it_p c h.2.2
              refine g_iconst (v := 0) hC dX3_met_72 (by decide) ?_
              refine gM_iret hC hM hQ rfl dX3_met_73 h
            · have h := it_n c h.2.2
              refine g_iconst (v := 1) hC dX3_met_68 (by decide) ?_
              refine g_goto (tgt := 73) hC dX3_met_69 (by decide) ?_
              refine gM_iret hC hM hQ rfl dX3_met_73 h
    · have h := it_p c h
      refine g_ldc (v := -1000001) hC dX3_met_33 q1679 ?_
      refine gM_iret hC hM hQ rfl dX3_met_35 h
theorem mm_met (l : Launch) (E : ME) (hI : mInj E) (Q : Int32 → MS → Prop) (J : MS) (x1 : Int32) (x2 : Int32) (h : wm_met Q J x1 x2) : MMet E l yX3_met cX3_met 6 (some .int) ({ frames := 2, cells := 0, slots := 0, locals := 41 }) [.ref (me_a E 54), .int x1, .int x2] J (va_Qi Q (BM E) (mA E)) :=
  MMet_of hI (by decide) rfl (Nat.le_of_ble_eq_true rfl) (L0 := [some (.ref (me_a E 54)), some (.int x1), some (.int x2), none, none, none]) rfl (fun C hC hM hl hQ => bm_met E C Q J x1 x2 hC hM hQ h)
/-! day -/
def wm_day (Q : Int32 → MS → Prop) (J : MS) (x1 : Int32) : Prop :=
  wm_isDay (fun r2 J1 => (if r2 = 0 then Q (-1000001 : Int32) J1 else Q (J1 27 0) (mset J1 27 0 x1))) (mset J 0 0 (0 : Int32)) x1
theorem hd_day : yX3_day.cls = RX3 ∧ yX3_day.cls ≠ "java/lang/invoke/MethodHandle" ∧ yX3_day.cls ≠ "java/lang/invoke/VarHandle" ∧ (parseMethodDescriptor yX3_day.desc).map (fun d => d.parameters.length) = some 1 := by decide +kernel
set_option maxHeartbeats 4000000 in
set_option maxRecDepth 100000 in
theorem bm_day (E : ME) (C : Cx) (Q : Int32 → MS → Prop) (J : MS) (x1 : Int32) (hC : COk C cX3_day RX3 (some .int) 3 61 3) (hM : MOk E C) (hQ : cx_Q C = MQ (cx_b C) (va_Qi Q (BM E) (mA E)) (cx_a C) (cx_s C) (cx_MC C) (cx_MS C) (mA E)) (h : wm_day Q J x1) : GM E C J 0 [some (.ref (me_a E 54)), some (.int x1), none] [] := by
  refine g_aload_n hC dX3_day_0 rfl ?_
  refine g_iconst (v := 0) hC dX3_day_1 (by decide) ?_
  refine gM_put hC hM 0 (ty := .int) dX3_day_2 q1503 (by decide) (by decide) rfl rfl rfl rfl rfl ?_
  refine g_iload_n hC dX3_day_5 rfl ?_
  refine gM_Si (As := [.int x1]) (rest := []) hC hM (mm_isDay (cx_l C) E hM.2.1 _ _ _ h) (lw_S q1799 q1800 q76 q1801) hd_isDay rfl rfl (Nat.le_of_ble_eq_true rfl) ⟨Nat.le_of_ble_eq_true rfl, Nat.le_of_ble_eq_true rfl⟩ dX3_day_6 ?_
  intro r2 J1 h
  refine g_if_ne (tgt := 15) hC dX3_day_9 (by decide) (fun c => ?_) (fun c => ?_)
  · have h := it_n c h
    refine g_aload_n hC dX3_day_15 rfl ?_
    refine gM_getS hC hM 27 dX3_day_16 q1530 (by decide) (by decide) rfl ?_
    refine g_istore_n hC dX3_day_19 rfl (by decide) rfl rfl ?_
    refine g_aload_n hC dX3_day_20 rfl ?_
    refine g_iload_n hC dX3_day_21 rfl ?_
    refine gM_put hC hM 27 (ty := .int) dX3_day_22 q1530 (by decide) (by decide) rfl rfl rfl rfl rfl ?_
    refine g_iload_n hC dX3_day_25 rfl ?_
    refine gM_iret hC hM hQ rfl dX3_day_26 h
  · have h := it_p c h
    refine g_ldc (v := -1000001) hC dX3_day_12 q1679 ?_
    refine gM_iret hC hM hQ rfl dX3_day_14 h
theorem mm_day (l : Launch) (E : ME) (hI : mInj E) (Q : Int32 → MS → Prop) (J : MS) (x1 : Int32) (h : wm_day Q J x1) : MMet E l yX3_day cX3_day 3 (some .int) ({ frames := 3, cells := 0, slots := 0, locals := 61 }) [.ref (me_a E 54), .int x1] J (va_Qi Q (BM E) (mA E)) :=
  MMet_of hI (by decide) rfl (Nat.le_of_ble_eq_true rfl) (L0 := [some (.ref (me_a E 54)), some (.int x1), none]) rfl (fun C hC hM hl hQ => bm_day E C Q J x1 hC hM hQ h)
/-! kindOf -/
def wm_kindOf_26 (Q : Int32 → MS → Prop) (J : MS) (a1 : Int32) : Prop :=
  wm_holdOn (fun r2 J1 => (if ((r2 >>> (a1 &&& 31)) &&& (1 : Int32)) = (1 : Int32) then wm_rankOf (fun r6 J5 => (if r6 = 0 then Q (2 : Int32) J5 else Q (1 : Int32) J5)) J1 a1 else wm_isThere (fun r4 J3 => (if r4 = 0 then Q (0 : Int32) J3 else Q (4 : Int32) J3)) J1 a1 (J1 27 0))) J (J 27 0)
def wm_kindOf (Q : Int32 → MS → Prop) (J : MS) (x1 : Int32) : Prop :=
  vp_in x1 16 ∧ (if (J 26 (Int32.toNatClampNeg x1)) = (-1000000 : Int32) then wm_kindOf_26 Q J x1 else vp_in x1 16 ∧ (if (J 27 0) < (J 26 (Int32.toNatClampNeg x1)) then wm_kindOf_26 Q J x1 else Q (3 : Int32) J))
theorem hd_kindOf : yX3_kindOf.cls = RX3 ∧ yX3_kindOf.cls ≠ "java/lang/invoke/MethodHandle" ∧ yX3_kindOf.cls ≠ "java/lang/invoke/VarHandle" ∧ (parseMethodDescriptor yX3_kindOf.desc).map (fun d => d.parameters.length) = some 1 := by decide +kernel
set_option maxHeartbeats 4000000 in
set_option maxRecDepth 100000 in
theorem bm_kindOf (E : ME) (C : Cx) (Q : Int32 → MS → Prop) (J : MS) (x1 : Int32) (hC : COk C cX3_kindOf RX3 (some .int) 5 110 2) (hM : MOk E C) (hQ : cx_Q C = MQ (cx_b C) (va_Qi Q (BM E) (mA E)) (cx_a C) (cx_s C) (cx_MC C) (cx_MS C) (mA E)) (h : wm_kindOf Q J x1) : GM E C J 0 [some (.ref (me_a E 54)), some (.int x1)] [] := by
  have s_26 : ∀ (J : MS) (a1 : Int32), wm_kindOf_26 Q  J a1 → GM E C J 26 [some (.ref (me_a E 54)), some (.int a1)] [] := by
    intro  J a1 h
    refine g_aload_n hC dX3_kindOf_26 rfl ?_
    refine g_aload_n hC dX3_kindOf_27 rfl ?_
    refine gM_getS hC hM 27 dX3_kindOf_28 q1530 (by decide) (by decide) rfl ?_
    refine gM_Vi (As := [.int (J 27 0)]) (rest := []) hC hM (mm_holdOn (cx_l C) E hM.2.1 _ _ _ h) (lw_V q1843 q1845 qs55 q76 q1846) hd_holdOn rfl rfl (Nat.le_of_ble_eq_true rfl) ⟨Nat.le_of_ble_eq_true rfl, Nat.le_of_ble_eq_true rfl⟩ dX3_kindOf_31 ?_
    intro r2 J1 h
    refine g_iload_n hC dX3_kindOf_34 rfl ?_
    refine g_ishr hC dX3_kindOf_35 ?_
    refine g_iconst (v := 1) hC dX3_kindOf_36 (by decide) ?_
    refine g_iand hC dX3_kindOf_37 ?_
    refine g_iconst (v := 1) hC dX3_kindOf_38 (by decide) ?_
    refine g_icmp_ne (tgt := 56) hC dX3_kindOf_39 (by decide) (fun c => ?_) (fun c => ?_)
    · have h := it_n c h
      refine g_aload_n hC dX3_kindOf_56 rfl ?_
      refine g_iload_n hC dX3_kindOf_57 rfl ?_
      refine g_aload_n hC dX3_kindOf_58 rfl ?_
      refine gM_getS hC hM 27 dX3_kindOf_59 q1530 (by decide) (by decide) rfl ?_
      refine gM_Vi (As := [.int a1, .int (J1 27 0)]) (rest := []) hC hM (mm_isThere (cx_l C) E hM.2.1 _ _ _ _ h) (lw_V q1847 q1849 qs56 q76 q1850) hd_isThere rfl rfl (Nat.le_of_ble_eq_true rfl) ⟨Nat.le_of_ble_eq_true rfl, Nat.le_of_ble_eq_true rfl⟩ dX3_kindOf_62 ?_
      intro r4 J3 h
      refine g_if_eq (tgt := 72) hC dX3_kindOf_65 (by decide) (fun c => ?_) (fun c => ?_)
      · have h := it_p c h
        refine g_iconst (v := 0) hC dX3_kindOf_72 (by decide) ?_
        refine gM_iret hC hM hQ rfl dX3_kindOf_73 h
      · have h := it_n c h
        refine g_iconst (v := 4) hC dX3_kindOf_68 (by decide) ?_
        refine g_goto (tgt := 73) hC dX3_kindOf_69 (by decide) ?_
        refine gM_iret hC hM hQ rfl dX3_kindOf_73 h
    · have h := it_p c h
      refine g_aload_n hC dX3_kindOf_42 rfl ?_
      refine g_iload_n hC dX3_kindOf_43 rfl ?_
      refine gM_Vi (As := [.int a1]) (rest := []) hC hM (mm_rankOf (cx_l C) E hM.2.1 _ _ _ h) (lw_V q1855 q1857 qs58 q76 q1858) hd_rankOf rfl rfl (Nat.le_of_ble_eq_true rfl) ⟨Nat.le_of_ble_eq_true rfl, Nat.le_of_ble_eq_true rfl⟩ dX3_kindOf_44 ?_
      intro r6 J5 h
      refine g_if_ne (tgt := 54) hC dX3_kindOf_47 (by decide) (fun c => ?_) (fun c => ?_)
      · have h := it_n c h
        refine g_iconst (v := 1) hC dX3_kindOf_54 (by decide) ?_
        refine gM_iret hC hM hQ rfl dX3_kindOf_55 h
      · have h := it_p c h
        refine g_iconst (v := 2) hC dX3_kindOf_50 (by decide) ?_
        refine g_goto (tgt := 55) hC dX3_kindOf_51 (by decide) ?_
        refine gM_iret hC hM hQ rfl dX3_kindOf_55 h
  refine g_aload_n hC dX3_kindOf_0 rfl ?_
  refine gM_getA hC hM 26 dX3_kindOf_1 q1529 (by decide) (by decide) rfl ?_
  refine g_iload_n hC dX3_kindOf_4 rfl ?_
  refine gM_iald hC hM 26 12 dX3_kindOf_5 rfl (by decide) h.1 ?_
  refine g_ldc (v := -1000000) hC dX3_kindOf_6 q1720 ?_
  refine g_icmp_eq (tgt := 26) hC dX3_kindOf_8 (by decide) (fun c => ?_) (fun c => ?_)
  · have h := it_p c h.2
    exact s_26 J x1 h
  · have h := it_n c h.2
    refine g_aload_n hC dX3_kindOf_11 rfl ?_
    refine gM_getA hC hM 26 dX3_kindOf_12 q1529 (by decide) (by decide) rfl ?_
    refine g_iload_n hC dX3_kindOf_15 rfl ?_
    refine gM_iald hC hM 26 12 dX3_kindOf_16 rfl (by decide) h.1 ?_
    refine g_aload_n hC dX3_kindOf_17 rfl ?_
    refine gM_getS hC hM 27 dX3_kindOf_18 q1530 (by decide) (by decide) rfl ?_
    refine g_icmp_gt (tgt := 26) hC dX3_kindOf_21 (by decide) (fun c => ?_) (fun c => ?_)
    · have h := it_p c h.2
      exact s_26 J x1 h
    · have h := it_n c h.2
      refine g_iconst (v := 3) hC dX3_kindOf_24 (by decide) ?_
      refine gM_iret hC hM hQ rfl dX3_kindOf_25 h
theorem mm_kindOf (l : Launch) (E : ME) (hI : mInj E) (Q : Int32 → MS → Prop) (J : MS) (x1 : Int32) (h : wm_kindOf Q J x1) : MMet E l yX3_kindOf cX3_kindOf 2 (some .int) ({ frames := 5, cells := 0, slots := 0, locals := 110 }) [.ref (me_a E 54), .int x1] J (va_Qi Q (BM E) (mA E)) :=
  MMet_of hI (by decide) rfl (Nat.le_of_ble_eq_true rfl) (L0 := [some (.ref (me_a E 54)), some (.int x1)]) rfl (fun C hC hM hl hQ => bm_kindOf E C Q J x1 hC hM hQ h)
/-! kind -/
def wm_kind (Q : Int32 → MS → Prop) (J : MS) (x1 : Int32) : Prop :=
  wm_isBooking (fun r2 J1 => (if r2 = 0 then Q (-1000001 : Int32) J1 else wm_kindOf (fun r4 J3 => Q r4 J3) J1 x1)) (mset J 0 0 (0 : Int32)) x1
theorem hd_kind : yX3_kind.cls = RX3 ∧ yX3_kind.cls ≠ "java/lang/invoke/MethodHandle" ∧ yX3_kind.cls ≠ "java/lang/invoke/VarHandle" ∧ (parseMethodDescriptor yX3_kind.desc).map (fun d => d.parameters.length) = some 1 := by decide +kernel
set_option maxHeartbeats 4000000 in
set_option maxRecDepth 100000 in
theorem bm_kind (E : ME) (C : Cx) (Q : Int32 → MS → Prop) (J : MS) (x1 : Int32) (hC : COk C cX3_kind RX3 (some .int) 6 131 2) (hM : MOk E C) (hQ : cx_Q C = MQ (cx_b C) (va_Qi Q (BM E) (mA E)) (cx_a C) (cx_s C) (cx_MC C) (cx_MS C) (mA E)) (h : wm_kind Q J x1) : GM E C J 0 [some (.ref (me_a E 54)), some (.int x1)] [] := by
  refine g_aload_n hC dX3_kind_0 rfl ?_
  refine g_iconst (v := 0) hC dX3_kind_1 (by decide) ?_
  refine gM_put hC hM 0 (ty := .int) dX3_kind_2 q1503 (by decide) (by decide) rfl rfl rfl rfl rfl ?_
  refine g_aload_n hC dX3_kind_5 rfl ?_
  refine g_iload_n hC dX3_kind_6 rfl ?_
  refine gM_Vi (As := [.int x1]) (rest := []) hC hM (mm_isBooking (cx_l C) E hM.2.1 _ _ _ h) (lw_V q1810 q1812 qs50 q76 q1813) hd_isBooking rfl rfl (Nat.le_of_ble_eq_true rfl) ⟨Nat.le_of_ble_eq_true rfl, Nat.le_of_ble_eq_true rfl⟩ dX3_kind_7 ?_
  intro r2 J1 h
  refine g_if_eq (tgt := 21) hC dX3_kind_10 (by decide) (fun c => ?_) (fun c => ?_)
  · have h := it_p c h
    refine g_ldc (v := -1000001) hC dX3_kind_21 q1679 ?_
    refine gM_iret hC hM hQ rfl dX3_kind_23 h
  · have h := it_n c h
    refine g_aload_n hC dX3_kind_13 rfl ?_
    refine g_iload_n hC dX3_kind_14 rfl ?_
    refine gM_Vi (As := [.int x1]) (rest := []) hC hM (mm_kindOf (cx_l C) E hM.2.1 _ _ _ h) (lw_V q1944 q1946 qs64 q76 q1947) hd_kindOf rfl rfl (Nat.le_of_ble_eq_true rfl) ⟨Nat.le_of_ble_eq_true rfl, Nat.le_of_ble_eq_true rfl⟩ dX3_kind_15 ?_
    intro r4 J3 h
    refine g_goto (tgt := 23) hC dX3_kind_18 (by decide) ?_
    refine gM_iret hC hM hQ rfl dX3_kind_23 h
theorem mm_kind (l : Launch) (E : ME) (hI : mInj E) (Q : Int32 → MS → Prop) (J : MS) (x1 : Int32) (h : wm_kind Q J x1) : MMet E l yX3_kind cX3_kind 2 (some .int) ({ frames := 6, cells := 0, slots := 0, locals := 131 }) [.ref (me_a E 54), .int x1] J (va_Qi Q (BM E) (mA E)) :=
  MMet_of hI (by decide) rfl (Nat.le_of_ble_eq_true rfl) (L0 := [some (.ref (me_a E 54)), some (.int x1)]) rfl (fun C hC hM hl hQ => bm_kind E C Q J x1 hC hM hQ h)
/-! isOf -/
def wm_isOf (Q : Int32 → MS → Prop) (J : MS) (x0 : Int32) (x1 : Int32) : Prop :=
  (if x1 = 0 then Q (1 : Int32) J else (if x0 = x1 then Q (1 : Int32) J else (if x1 = (1 : Int32) then (if x0 = (2 : Int32) then Q (1 : Int32) J else Q (0 : Int32) J) else Q (0 : Int32) J)))
theorem hd_isOf : yX3_isOf.cls = RX3 ∧ yX3_isOf.cls ≠ "java/lang/invoke/MethodHandle" ∧ yX3_isOf.cls ≠ "java/lang/invoke/VarHandle" ∧ (parseMethodDescriptor yX3_isOf.desc).map (fun d => d.parameters.length) = some 2 := by decide +kernel
set_option maxHeartbeats 4000000 in
set_option maxRecDepth 100000 in
theorem bm_isOf (E : ME) (C : Cx) (Q : Int32 → MS → Prop) (J : MS) (x0 : Int32) (x1 : Int32) (hC : COk C cX3_isOf RX3 (some .boolean) 1 16 2) (hM : MOk E C) (hQ : cx_Q C = MQ (cx_b C) (va_Qi Q (BM E) (mA E)) (cx_a C) (cx_s C) (cx_MC C) (cx_MS C) (mA E)) (h : wm_isOf Q J x0 x1) : GM E C J 0 [some (.int x0), some (.int x1)] [] := by
  refine g_iload_n hC dX3_isOf_0 rfl ?_
  refine g_if_eq (tgt := 19) hC dX3_isOf_1 (by decide) (fun c => ?_) (fun c => ?_)
  · have h := it_p c h
    refine g_iconst (v := 1) hC dX3_isOf_19 (by decide) ?_
    refine g_goto (tgt := 24) hC dX3_isOf_20 (by decide) ?_
    refine gM_zret hC hM hQ rfl rfl dX3_isOf_24 h
  · have h := it_n c h
    refine g_iload_n hC dX3_isOf_4 rfl ?_
    refine g_iload_n hC dX3_isOf_5 rfl ?_
    refine g_icmp_eq (tgt := 19) hC dX3_isOf_6 (by decide) (fun c => ?_) (fun c => ?_)
    · have h := it_p c h
      refine g_iconst (v := 1) hC dX3_isOf_19 (by decide) ?_
      refine g_goto (tgt := 24) hC dX3_isOf_20 (by decide) ?_
      refine gM_zret hC hM hQ rfl rfl dX3_isOf_24 h
    · have h := it_n c h
      refine g_iload_n hC dX3_isOf_9 rfl ?_
      refine g_iconst (v := 1) hC dX3_isOf_10 (by decide) ?_
      refine g_icmp_ne (tgt := 23) hC dX3_isOf_11 (by decide) (fun c => ?_) (fun c => ?_)
      · have h := it_n c h
        refine g_iconst (v := 0) hC dX3_isOf_23 (by decide) ?_
        refine gM_zret hC hM hQ rfl rfl dX3_isOf_24 h
      · have h := it_p c h
        refine g_iload_n hC dX3_isOf_14 rfl ?_
        refine g_iconst (v := 2) hC dX3_isOf_15 (by decide) ?_
        refine g_icmp_ne (tgt := 23) hC dX3_isOf_16 (by decide) (fun c => ?_) (fun c => ?_)
        · have h := it_n c h
          refine g_iconst (v := 0) hC dX3_isOf_23 (by decide) ?_
          refine gM_zret hC hM hQ rfl rfl dX3_isOf_24 h
        · have h := it_p c h
          refine g_iconst (v := 1) hC dX3_isOf_19 (by decide) ?_
          refine g_goto (tgt := 24) hC dX3_isOf_20 (by decide) ?_
          refine gM_zret hC hM hQ rfl rfl dX3_isOf_24 h
theorem mm_isOf (l : Launch) (E : ME) (hI : mInj E) (Q : Int32 → MS → Prop) (J : MS) (x0 : Int32) (x1 : Int32) (h : wm_isOf Q J x0 x1) : MMet E l yX3_isOf cX3_isOf 2 (some .boolean) ({ frames := 1, cells := 0, slots := 0, locals := 16 }) [.int x0, .int x1] J (va_Qi Q (BM E) (mA E)) :=
  MMet_of hI (by decide) rfl (Nat.le_of_ble_eq_true rfl) (L0 := [some (.int x0), some (.int x1)]) rfl (fun C hC hM hl hQ => bm_isOf E C Q J x0 x1 hC hM hQ h)
/-! as -/
def wm_as (Q : Int32 → MS → Prop) (J : MS) (x1 : Int32) (x2 : Int32) : Prop :=
  wm_isBooking (fun r2 J1 => (if r2 = 0 then Q (-1000001 : Int32) J1 else wm_in (fun r4 J3 => (if r4 = 0 then Q (-1000001 : Int32) J3 else wm_kindOf (fun r6 J5 => wm_isOf (fun r8 J7 => (if r8 = 0 then wm_finding (fun r10 J9 => Q r10 J9) J7 (3 : Int32) else wm_of (fun r12 J11 => Q r12 J11) J7 x1 (2 : Int32))) J5 r6 x2) (mset J3 1 0 (0 : Int32)) x1)) J1 (Int32.toInt64 x2) (0 : Int64) (4 : Int64))) (mset J 0 0 (0 : Int32)) x1
theorem hd_as : yX3_as.cls = RX3 ∧ yX3_as.cls ≠ "java/lang/invoke/MethodHandle" ∧ yX3_as.cls ≠ "java/lang/invoke/VarHandle" ∧ (parseMethodDescriptor yX3_as.desc).map (fun d => d.parameters.length) = some 2 := by decide +kernel
set_option maxHeartbeats 4000000 in
set_option maxRecDepth 100000 in
theorem bm_as (E : ME) (C : Cx) (Q : Int32 → MS → Prop) (J : MS) (x1 : Int32) (x2 : Int32) (hC : COk C cX3_as RX3 (some .int) 6 131 3) (hM : MOk E C) (hQ : cx_Q C = MQ (cx_b C) (va_Qi Q (BM E) (mA E)) (cx_a C) (cx_s C) (cx_MC C) (cx_MS C) (mA E)) (h : wm_as Q J x1 x2) : GM E C J 0 [some (.ref (me_a E 54)), some (.int x1), some (.int x2)] [] := by
  refine g_aload_n hC dX3_as_0 rfl ?_
  refine g_iconst (v := 0) hC dX3_as_1 (by decide) ?_
  refine gM_put hC hM 0 (ty := .int) dX3_as_2 q1503 (by decide) (by decide) rfl rfl rfl rfl rfl ?_
  refine g_aload_n hC dX3_as_5 rfl ?_
  refine g_iload_n hC dX3_as_6 rfl ?_
  refine gM_Vi (As := [.int x1]) (rest := []) hC hM (mm_isBooking (cx_l C) E hM.2.1 _ _ _ h) (lw_V q1810 q1812 qs50 q76 q1813) hd_isBooking rfl rfl (Nat.le_of_ble_eq_true rfl) ⟨Nat.le_of_ble_eq_true rfl, Nat.le_of_ble_eq_true rfl⟩ dX3_as_7 ?_
  intro r2 J1 h
  refine g_if_eq (tgt := 25) hC dX3_as_10 (by decide) (fun c => ?_) (fun c => ?_)
  · have h := it_p c h
    refine g_ldc (v := -1000001) hC dX3_as_25 q1679 ?_
    refine gM_iret hC hM hQ rfl dX3_as_27 h
  · have h := it_n c h
    refine g_iload_n hC dX3_as_13 rfl ?_
    refine g_i2l hC dX3_as_14 ?_
    refine g_lconst (v := 0) hC dX3_as_15 (by decide) ?_
    refine g_ldc2 (v := 4) hC dX3_as_16 q1788 ?_
    refine gM_Si (As := [.long (Int32.toInt64 x2), .long (0 : Int64), .long (4 : Int64)]) (rest := []) hC hM (mm_in (cx_l C) E hM.2.1 _ _ _ _ _ h) (lw_S q1675 q1676 q76 q1677) hd_in rfl rfl (Nat.le_of_ble_eq_true rfl) ⟨Nat.le_of_ble_eq_true rfl, Nat.le_of_ble_eq_true rfl⟩ dX3_as_19 ?_
    intro r4 J3 h
    refine g_if_ne (tgt := 28) hC dX3_as_22 (by decide) (fun c => ?_) (fun c => ?_)
    · have h := it_n c h
      refine g_aload_n hC dX3_as_28 rfl ?_
      refine g_iconst (v := 0) hC dX3_as_29 (by decide) ?_
      refine gM_put hC hM 1 (ty := .int) dX3_as_30 q1504 (by decide) (by decide) rfl rfl rfl rfl rfl ?_
      refine g_aload_n hC dX3_as_33 rfl ?_
      refine g_iload_n hC dX3_as_34 rfl ?_
      refine gM_Vi (As := [.int x1]) (rest := []) hC hM (mm_kindOf (cx_l C) E hM.2.1 _ _ _ h) (lw_V q1944 q1946 qs64 q76 q1947) hd_kindOf rfl rfl (Nat.le_of_ble_eq_true rfl) ⟨Nat.le_of_ble_eq_true rfl, Nat.le_of_ble_eq_true rfl⟩ dX3_as_35 ?_
      intro r6 J5 h
      refine g_iload_n hC dX3_as_38 rfl ?_
      refine gM_Si (As := [.int r6, .int x2]) (rest := []) hC hM (mm_isOf (cx_l C) E hM.2.1 _ _ _ _ h) (lw_S q1952 q1953 q76 q1954) hd_isOf rfl rfl (Nat.le_of_ble_eq_true rfl) ⟨Nat.le_of_ble_eq_true rfl, Nat.le_of_ble_eq_true rfl⟩ dX3_as_39 ?_
      intro r8 J7 h
      refine g_if_eq (tgt := 54) hC dX3_as_42 (by decide) (fun c => ?_) (fun c => ?_)
      · have h := it_p c h
        refine g_aload_n hC dX3_as_54 rfl ?_
        refine g_iconst (v := 3) hC dX3_as_55 (by decide) ?_
        refine gM_Vi (As := [.int (3 : Int32)]) (rest := []) hC hM (mm_finding (cx_l C) E hM.2.1 _ _ _ h) (lw_V q1680 q1682 qs37 q76 q1683) hd_finding rfl rfl (Nat.le_of_ble_eq_true rfl) ⟨Nat.le_of_ble_eq_true rfl, Nat.le_of_ble_eq_true rfl⟩ dX3_as_56 ?_
        intro r10 J9 h
        refine gM_iret hC hM hQ rfl dX3_as_59 h
      · have h := it_n c h
        refine g_aload_n hC dX3_as_45 rfl ?_
        refine g_iload_n hC dX3_as_46 rfl ?_
        refine g_iconst (v := 2) hC dX3_as_47 (by decide) ?_
        refine gM_Vi (As := [.int x1, .int (2 : Int32)]) (rest := []) hC hM (mm_of (cx_l C) E hM.2.1 _ _ _ _ h) (lw_V q1814 q1816 qs51 q76 q1817) hd_of rfl rfl (Nat.le_of_ble_eq_true rfl) ⟨Nat.le_of_ble_eq_true rfl, Nat.le_of_ble_eq_true rfl⟩ dX3_as_48 ?_
        intro r12 J11 h
        refine g_goto (tgt := 59) hC dX3_as_51 (by decide) ?_
        refine gM_iret hC hM hQ rfl dX3_as_59 h
    · have h := it_p c h
      refine g_ldc (v := -1000001) hC dX3_as_25 q1679 ?_
      refine gM_iret hC hM hQ rfl dX3_as_27 h
theorem mm_as (l : Launch) (E : ME) (hI : mInj E) (Q : Int32 → MS → Prop) (J : MS) (x1 : Int32) (x2 : Int32) (h : wm_as Q J x1 x2) : MMet E l yX3_as cX3_as 3 (some .int) ({ frames := 6, cells := 0, slots := 0, locals := 131 }) [.ref (me_a E 54), .int x1, .int x2] J (va_Qi Q (BM E) (mA E)) :=
  MMet_of hI (by decide) rfl (Nat.le_of_ble_eq_true rfl) (L0 := [some (.ref (me_a E 54)), some (.int x1), some (.int x2)]) rfl (fun C hC hM hl hQ => bm_as E C Q J x1 x2 hC hM hQ h)
