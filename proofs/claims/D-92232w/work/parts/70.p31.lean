/-! PLAIN SIDE 31: meetings asked -/
def vB (J : MS) : Nat → Nat → Bool
  | 0, _ => false
  | d + 1, m => decide (J 50 m ≤ J 48 m + J 49 m) && (decide (J 51 m = -1000000) || (vB J d (J 51 m).toNatClampNeg && decide (J 49 (J 51 m).toNatClampNeg < J 48 (J 51 m).toNatClampNeg)))
def hitB (J : MS) (m : Nat) : Nat → Nat → Bool
  | 0, _ => false
  | d + 1, k => decide (k = m) || (!(decide (J 51 k = -1000000)) && hitB J m d (J 51 k).toNatClampNeg)
def mtF (J : MS) (m : Nat) : Nat → Int32
  | 0 => 0
  | i + 1 => mtF J m i + bI (hitB J m 17 (m + 1 + i) = true)
section
variable {ad : Nat → Nat} {J : MS} {S : XS} {x : Nat}
theorem ex_valid (g : XA ad J S) : ∀ d m, m < d → m < nM J → ∀ Q : Int32 → XS → Prop, Q (bI (vB J d m = true)) S → wx_X0_isValidN d Q S (some (ad 0)) (nI m) := by
  obtain ⟨L, l, hl⟩ := g.me
  have n2 := g.ji.nm.2
  intro d
  induction d with
  | zero => intro m h; exact absurd h (Nat.not_lt_zero m)
  | succ d ih =>
    intro m hd hm Q k1
    obtain ⟨q0, q⟩ := hl m hm
    have q1 : xFI S 1001 (L m) = J 48 m := q 1 (by decide)
    have q2 : xFI S 1002 (L m) = J 49 m := q 2 (by decide)
    have q3 : xFI S 1003 (L m) = J 50 m := q 3 (by decide)
    have q4 : xFI S 1004 (L m) = J 51 m := q 4 (by decide)
    show wx_X0_isValid (wx_X0_isValidN d) Q S (some (ad 0)) (nI m)
    unfold wx_X0_isValid
    simp only [dr_some, g.k0, g.r6, l.1, l.get hm, q0, q1, q2, q3, q4, true_and]
    unfold vB at k1
    by_cases z : J 48 m + J 49 m < J 50 m
    · rw [if_pos z]
      rw [bI_f (by
        intro w
        rw [Bool.and_eq_true, decide_eq_true_iff] at w
        have := w.1
        grind)] at k1
      exact k1
    · rw [if_neg z]
      have z' : J 50 m ≤ J 48 m + J 49 m := by grind
      rw [decide_eq_true z', Bool.true_and] at k1
      by_cases y : J 51 m = -1000000
      · rw [if_pos y]
        rw [decide_eq_true y, Bool.true_or] at k1
        exact k1
      · rw [if_neg y]
        rw [decide_eq_false y, Bool.false_or] at k1
        rcases (g.ji.mee m hm).2.2.2.2 with w | ⟨j, j1, j2⟩
        · exact absurd w y
        · rw [j2] at k1 ⊢
          rw [p_tn (by omega)] at k1
          have hj : j < nM J := by omega
          obtain ⟨e0, e⟩ := hl j hj
          have e1 : xFI S 1001 (L j) = J 48 j := e 1 (by decide)
          have e2 : xFI S 1002 (L j) = J 49 j := e 2 (by decide)
          unfold wx_X0_isCarried
          simp only [dr_some, g.k0, true_and]
          refine ih j (by omega) hj _ ?_
          simp only [dr_some, g.k0, g.r6, l.1, l.get hj, e0, e1, e2, true_and, bI_ite]
          by_cases v : vB J d j = true
          · rw [if_pos v]
            rw [v, Bool.true_and] at k1
            by_cases u : J 49 j < J 48 j
            · rw [if_neg (by grind)]
              rw [bI_t (decide_eq_true u)] at k1
              rw [if_neg (by decide)]
              exact k1
            · rw [if_pos (by grind)]
              rw [bI_f (by rw [decide_eq_false u]; decide)] at k1
              rw [if_pos trivial]
              exact k1
          · rw [if_neg v]
            rw [Bool.not_eq_true] at v
            rw [v, Bool.false_and, bI_f (by decide)] at k1
            rw [if_pos trivial]
            exact k1
theorem em_valid (g : JI J) {m0 : Nat} (h0 : m0 < nM J) (Q : Int32 → MS → Prop) : ∀ d m, m < d → m ≤ m0 → ∀ p : Bool, Q (bI ((p && (vB J d m && (decide (m = m0) || decide (J 49 m < J 48 m)))) = true)) J → wm_isValid_4 Q (d + 1) J (nI m0) (bI (p = true)) (nI m) := by
  have n2 := g.nm.2
  intro d
  induction d with
  | zero => intro m h; exact absurd h (Nat.not_lt_zero m)
  | succ d ih =>
    intro m hd hm p k1
    have hm' : m < nM J := by omega
    have vm : vp_in (nI m) 10 := p_vpn (by omega) (by decide)
    unfold wm_isValid_4 wm_isValid_60 wm_isValid_56 wm_isValid_61
    rw [if_neg (enc_ne (by omega))]
    simp only [vm, true_and, p_tn (show m < 2 ^ 31 by omega), bI_ite]
    -- the next step, with what is known by now
    have nx : ∀ p' : Bool, Q (bI ((p' && (decide (J 51 m = -1000000) || (vB J d (J 51 m).toNatClampNeg && decide (J 49 (J 51 m).toNatClampNeg < J 48 (J 51 m).toNatClampNeg)))) = true)) J → wm_isValid_4 Q (d + 1) J (nI m0) (bI (p' = true)) (J 51 m) := by
      intro p' kk
      rcases (g.mee m hm').2.2.2.2 with w | ⟨j, j1, j2⟩
      · rw [w]
        rw [decide_eq_true w, Bool.true_or, Bool.and_true] at kk
        unfold wm_isValid_4
        rw [if_pos rfl, bI_nar, true_and]
        exact kk
      · rw [j2]
        rw [j2, p_tn (by omega), decide_eq_false (enc_ne (by omega)), Bool.false_or] at kk
        refine ih j (by omega) (by omega) p' ?_
        rw [decide_eq_false (show ¬ j = m0 by omega), Bool.false_or]
        exact kk
    have f0 : ∀ c : Bool, (p && (vB J (d + 1) m && c)) = ((p && (decide (J 50 m ≤ J 48 m + J 49 m) && c)) && (decide (J 51 m = -1000000) || (vB J d (J 51 m).toNatClampNeg && decide (J 49 (J 51 m).toNatClampNeg < J 48 (J 51 m).toNatClampNeg)))) := by
      intro c
      show (p && ((decide (J 50 m ≤ J 48 m + J 49 m) && _) && c)) = _
      generalize (decide (J 51 m = -1000000) || (vB J d (J 51 m).toNatClampNeg && decide (J 49 (J 51 m).toNatClampNeg < J 48 (J 51 m).toNatClampNeg))) = y
      generalize decide (J 50 m ≤ J 48 m + J 49 m) = z
      cases p <;> cases c <;> cases y <;> cases z <;> rfl
    rw [f0] at k1
    have k2 := nx _ k1
    have s0 : bI ((false : Bool) = true) = 0 := rfl
    have s1 : bI ((true : Bool) = true) = 1 := rfl
    cases p with
    | false =>
      rw [if_neg (by decide)]
      rw [Bool.false_and, s0] at k2
      exact k2
    | true =>
      rw [if_pos rfl]
      rw [Bool.true_and] at k2
      by_cases z : J 48 m + J 49 m < J 50 m
      · rw [if_pos z]
        rw [decide_eq_false (show ¬ J 50 m ≤ J 48 m + J 49 m by grind), Bool.false_and, s0] at k2
        exact k2
      · rw [if_neg z]
        rw [decide_eq_true (show J 50 m ≤ J 48 m + J 49 m by grind), Bool.true_and] at k2
        by_cases w : m = m0
        · rw [if_pos (by rw [w])]
          rw [decide_eq_true w, Bool.true_or, s1] at k2
          exact k2
        · rw [if_neg (show ¬ nI m = nI m0 from nI_ne (by omega) (by omega) w)]
          rw [decide_eq_false w, Bool.false_or] at k2
          by_cases y : J 48 m ≤ J 49 m
          · rw [if_pos y]
            rw [decide_eq_false (show ¬ J 49 m < J 48 m by grind), s0] at k2
            exact k2
          · rw [if_neg y]
            rw [decide_eq_true (show J 49 m < J 48 m by grind), s1] at k2
            exact k2
theorem em_hit (g : JI J) {m : Nat} (hm : m < nM J) (Q : Int32 → MS → Prop) (K81 : MS → Int32 → Int32 → Int32 → Prop) (n k4 : Int32) : ∀ d k, k < d → k < nM J → K81 J (nI m) (n + bI (hitB J m d k = true)) (k4 + 1) → wm_met_99 Q K81 (d + 1) J (nI m) n k4 (nI k) := by
  have n2 := g.nm.2
  intro d
  induction d with
  | zero => intro k h; exact absurd h (Nat.not_lt_zero k)
  | succ d ih =>
    intro k hd hk k1
    unfold wm_met_99 wm_met_124 wm_met_136
    rw [if_neg (enc_ne (by omega))]
    unfold hitB at k1
    by_cases z : k = m
    · rw [if_pos (by rw [z]), if_pos (by rw [z])]
      rw [decide_eq_true z, Bool.true_or] at k1
      exact k1
    · rw [if_neg (show ¬ nI k = nI m from nI_ne (by omega) (by omega) z)]
      rw [decide_eq_false z, Bool.false_or] at k1
      refine ⟨p_vpn (by omega) (by decide), ?_⟩
      rw [p_tn (by omega)]
      rcases (g.mee k hk).2.2.2.2 with w | ⟨j, j1, j2⟩
      · rw [w]
        rw [decide_eq_true w] at k1
        unfold wm_met_99 wm_met_124 wm_met_136
        rw [if_pos rfl, if_neg (show ¬ (-1000000 : Int32) = nI m from fun y => enc_ne (show m < 2 ^ 31 by omega) y.symm)]
        exact k1
      · rw [j2]
        rw [j2, p_tn (by omega), decide_eq_false (enc_ne (by omega))] at k1
        exact ih j (by omega) (by omega) k1
theorem ex_hit (g : XA ad J S) {m : Nat} (hm : m < nM J) (Q : Int32 → XS → Prop) (K64 : XS → Option Nat → Int32 → Int32 → Int32 → Prop) (n k4 : Int32) : ∀ d k, k < d → k < nM J → K64 S (some (ad 0)) (nI m) (n + bI (hitB J m d k = true)) (k4 + 1) → wx_X0_met_82 Q K64 (d + 1) S (some (ad 0)) (nI m) n k4 (nI k) := by
  obtain ⟨L, l, hl⟩ := g.me
  have n2 := g.ji.nm.2
  intro d
  induction d with
  | zero => intro k h; exact absurd h (Nat.not_lt_zero k)
  | succ d ih =>
    intro k hd hk k1
    obtain ⟨q0, q⟩ := hl k hk
    have q4 : xFI S 1004 (L k) = J 51 k := q 4 (by decide)
    unfold wx_X0_met_82 wx_X0_met_117 wx_X0_met_129
    rw [if_neg (enc_ne (by omega))]
    unfold hitB at k1
    by_cases z : k = m
    · rw [if_pos (by rw [z]), if_pos (by rw [z])]
      rw [decide_eq_true z, Bool.true_or] at k1
      exact k1
    · rw [if_neg (show ¬ nI k = nI m from nI_ne (by omega) (by omega) z)]
      rw [decide_eq_false z, Bool.false_or] at k1
      simp only [dr_some, g.k0, g.r6, l.1, l.get hk, q0, q4, true_and]
      rcases (g.ji.mee k hk).2.2.2.2 with w | ⟨j, j1, j2⟩
      · rw [w]
        rw [decide_eq_true w] at k1
        unfold wx_X0_met_82 wx_X0_met_117 wx_X0_met_129
        rw [if_pos rfl, if_neg (show ¬ (-1000000 : Int32) = nI m from fun y => enc_ne (show m < 2 ^ 31 by omega) y.symm)]
        exact k1
      · rw [j2]
        rw [j2, p_tn (by omega), decide_eq_false (enc_ne (by omega))] at k1
        exact ih j (by omega) (by omega) k1
def fMet (J : MS) (m : Nat) (w : Int32) : Int32 := if (2 : Int32) ≤ w then mtF J m (nM J - (m + 1)) else if w = 0 then bI (vB J 16 m = true) else bI ((vB J 16 m && decide (J 49 m < J 48 m)) = true)
theorem em_met (g : JI J) (hj : mset J 0 0 0 = J) {m : Nat} (hm : m < nM J) (w : Int32) (hw : 0 ≤ w.toInt ∧ w.toInt ≤ 2) (Q : Int32 → MS → Prop) (k1 : Q (fMet J m w) J) : wm_met Q J (nI m) w := by
  obtain ⟨n1, n2⟩ := g.nm
  have nm1 : (nI (nM J) - 1).toInt = (nM J : Int) - 1 := by
    rw [p_sub1 (by rw [p_nI (by omega)]; omega), p_nI (by omega)]
  have vm : vp_in (nI m) 10 := p_vpn (by omega) (by decide)
  unfold wm_met
  simp only [em_in, bI_ite, hj, n1, nm1, Int32.toInt_toInt64, Int64.reduceToInt]
  rw [if_pos (by rw [p_nI (by omega)]; omega), if_pos hw]
  unfold fMet at k1
  by_cases z : (2 : Int32) ≤ w
  · rw [if_pos z]
    rw [if_pos z] at k1
    have L : ∀ r i, m + 1 + i + r = nM J → wm_met_81 Q (r + 1) J (nI m) (mtF J m i) (nI (m + 1 + i)) := by
      intro r
      induction r with
      | zero =>
        intro i hi
        have : i = nM J - (m + 1) := by omega
        unfold wm_met_81
        rw [n1, if_pos (by rw [show m + 1 + i = nM J by omega]; grind), this]
        exact k1
      | succ r ih =>
        intro i hi
        have ih' := ih (i + 1) (by omega)
        have hk : m + 1 + i < nM J := by omega
        unfold wm_met_81
        rw [n1, if_neg (by rw [nIq_le (by omega) (by omega)]; omega)]
        refine ⟨p_vpn (by omega) (by decide), ?_⟩
        rw [p_tn (by omega)]
        unfold mtF at ih'
        have key : wm_met_81 Q (r + 1) J (nI m) (mtF J m i + bI (hitB J m 17 (m + 1 + i) = true)) (nI (m + 1 + i) + 1) := by rw [nI_tInc]; exact ih'
        unfold hitB at key
        rw [decide_eq_false (show ¬ m + 1 + i = m by omega), Bool.false_or] at key
        rcases (g.mee _ hk).2.2.2.2 with v | ⟨j, j1, j2⟩
        · rw [v]
          rw [decide_eq_true v] at key
          refine ⟨1, ?_⟩
          unfold wm_met_99 wm_met_124 wm_met_136
          rw [if_pos rfl, if_neg (show ¬ (-1000000 : Int32) = nI m from fun y => enc_ne (show m < 2 ^ 31 by omega) y.symm)]
          exact key
        · rw [j2]
          rw [j2, p_tn (by omega), decide_eq_false (enc_ne (by omega))] at key
          exact ⟨17, em_hit g hm Q _ _ _ 16 j (by omega) (by omega) key⟩
    have := L (nM J - (m + 1)) 0 (by omega)
    rw [show nI m + (1 : Int32) = nI (m + 1 + 0) from nI_tInc m]
    exact ⟨_, this⟩
  · rw [if_neg z]
    rw [if_neg z] at k1
    refine ⟨17, ?_⟩
    have s1 : bI ((true : Bool) = true) = 1 := rfl
    have L := fun (Q' : Int32 → MS → Prop) (kk : Q' (bI (vB J 16 m = true)) J) => em_valid g hm Q' 16 m (by omega) (Nat.le_refl m) true (by
      rw [decide_eq_true rfl, Bool.true_or, Bool.and_true, Bool.true_and]
      exact kk)
    rw [s1] at L
    refine L _ ?_
    simp only [bI_ite, vm, true_and, p_tn (show m < 2 ^ 31 by omega)]
    by_cases v : vB J 16 m = true
    · rw [if_pos v]
      rw [v, Bool.true_and] at k1
      by_cases u : w = 0
      · rw [if_pos u] at k1 ⊢; exact k1
      · rw [if_neg u] at k1 ⊢
        by_cases t : J 48 m ≤ J 49 m
        · rw [if_pos t]
          rw [decide_eq_false (show ¬ J 49 m < J 48 m by grind)] at k1
          exact k1
        · rw [if_neg t]
          rw [decide_eq_true (show J 49 m < J 48 m by grind)] at k1
          exact k1
    · rw [if_neg v]
      rw [Bool.not_eq_true] at v
      rw [v, Bool.false_and] at k1
      split at k1 <;> exact k1
theorem op_met (h : XR x J S) (a w : Int32) : wx_X0_met (fun r S1 => wm_met (fun r2 J1 => Ans x r S1 r2 J1) J a w) S (some x) a w := by
  obtain ⟨ad, rfl, h⟩ := h
  have g := h.m0
  generalize hJ : mset J 0 0 0 = J0 at g
  have hj0 : mset J0 0 0 0 = J0 := by
    rw [← hJ]
    funext k i
    unfold mset
    split <;> rfl
  have em : ∀ Q, wm_met Q J a w = wm_met Q J0 a w := by
    intro Q
    unfold wm_met
    rw [hj0, hJ]
  obtain ⟨n1, n2⟩ := g.ji.nm
  obtain ⟨L, l, hl⟩ := g.me
  have nm1 : (nI (nM J0) - 1).toInt = (nM J0 : Int) - 1 := by
    rw [p_sub1 (by rw [p_nI (by omega)]; omega), p_nI (by omega)]
  simp only [em]
  by_cases ha : 0 ≤ a.toInt ∧ a.toInt < nM J0
  · obtain ⟨m, hm, rfl⟩ := p_ex ha.1 ha.2
    by_cases hw : 0 ≤ w.toInt ∧ w.toInt ≤ 2
    · have fin : ∀ r, r = fMet J0 m w → wm_met (fun r2 J1 => Ans (ad 0) r S r2 J1) J0 (nI m) w := fun r hr => em_met g.ji hj0 hm w hw _ ⟨hr.symm, ad, rfl, g⟩
      unfold wx_X0_met wx_X0_isMeeting
      simp only [dr_some, g.k0, g.r6, l.1, l.size, true_and, ex_in, bI_ite, bI_nar, nm1, Int32.toInt_toInt64, Int64.reduceToInt]
      rw [if_pos (by rw [p_nI (by omega)]; omega), if_pos hw]
      by_cases z : (2 : Int32) ≤ w
      · rw [if_pos z]
        have LL : ∀ r i, m + 1 + i + r = nM J0 → wx_X0_met_64 (fun r S1 => wm_met (fun r2 J1 => Ans (ad 0) r S1 r2 J1) J0 (nI m) w) (r + 1) S (some (ad 0)) (nI m) (mtF J0 m i) (nI (m + 1 + i)) := by
          intro r
          induction r with
          | zero =>
            intro i hi
            have e : i = nM J0 - (m + 1) := by omega
            unfold wx_X0_met_64
            simp only [dr_some, g.k0, g.r6, l.1, l.size, true_and]
            rw [if_pos (by rw [show m + 1 + i = nM J0 by omega]; grind)]
            exact fin _ (by unfold fMet; rw [if_pos z, e])
          | succ r ih =>
            intro i hi
            have ih' := ih (i + 1) (by omega)
            have hk : m + 1 + i < nM J0 := by omega
            unfold wx_X0_met_64
            simp only [dr_some, g.k0, g.r6, l.1, l.size, true_and]
            rw [if_neg (by rw [nIq_le (by omega) (by omega)]; omega)]
            unfold mtF at ih'
            exact ⟨18, ex_hit g hm _ _ _ _ 17 _ (by omega) hk (by rw [nI_tInc]; exact ih')⟩
        have := LL (nM J0 - (m + 1)) 0 (by omega)
        rw [show nI m + (1 : Int32) = nI (m + 1 + 0) from nI_tInc m]
        exact ⟨_, this⟩
      · rw [if_neg z]
        by_cases u : w = 0
        · rw [if_pos u]
          refine ex_valid g 16 m (by omega) hm _ ?_
          by_cases v : vB J0 16 m = true
          · rw [bI_t v, if_neg (by decide)]
            exact fin _ (by unfold fMet; rw [if_neg z, if_pos u, bI_t v])
          · rw [bI_f v, if_pos rfl]
            exact fin _ (by unfold fMet; rw [if_neg z, if_pos u, bI_f v])
        · rw [if_neg u]
          unfold wx_X0_isCarriedD wx_X0_isCarried
          obtain ⟨e0, e⟩ := hl m hm
          have e1 : xFI S 1001 (L m) = J0 48 m := e 1 (by decide)
          have e2 : xFI S 1002 (L m) = J0 49 m := e 2 (by decide)
          simp only [dr_some, g.k0, true_and]
          refine ex_valid g 16 m (by omega) hm _ ?_
          simp only [dr_some, g.k0, g.r6, l.1, l.get hm, e0, e1, e2, true_and, bI_ite]
          have one : ¬ (1 : Int32) = 0 := by decide
          simp only [if_true, if_neg one]
          by_cases v : vB J0 16 m = true
          · rw [if_pos v]
            by_cases t : J0 48 m ≤ J0 49 m
            · rw [if_pos t]
              exact fin _ (by unfold fMet; rw [if_neg z, if_neg u, bI_f (by rw [v, decide_eq_false (show ¬ J0 49 m < J0 48 m by grind)]; decide)])
            · rw [if_neg t]
              exact fin _ (by unfold fMet; rw [if_neg z, if_neg u, bI_t (by rw [v, decide_eq_true (show J0 49 m < J0 48 m by grind)]; decide)])
          · rw [if_neg v]
            rw [Bool.not_eq_true] at v
            exact fin _ (by unfold fMet; rw [if_neg z, if_neg u, bI_f (by rw [v, Bool.false_and]; decide)])
    · unfold wx_X0_met wx_X0_isMeeting wm_met
      simp only [dr_some, g.k0, g.r6, l.1, l.size, true_and, ex_in, em_in, bI_ite, bI_nar, nm1, hj0, n1, Int32.toInt_toInt64, Int64.reduceToInt]
      have ha' : 0 ≤ (nI m).toInt ∧ (nI m).toInt ≤ (nM J0 : Int) - 1 := by rw [p_nI (by omega)]; omega
      simp only [if_pos ha', if_neg hw]
      exact ⟨rfl, ad, rfl, g⟩
  · unfold wx_X0_met wx_X0_isMeeting wm_met
    simp only [dr_some, g.k0, g.r6, l.1, l.size, true_and, ex_in, em_in, bI_ite, bI_nar, nm1, hj0, n1, Int32.toInt_toInt64, Int64.reduceToInt]
    have ha' : ¬ (0 ≤ a.toInt ∧ a.toInt ≤ (nM J0 : Int) - 1) := by omega
    simp only [if_neg ha']
    exact ⟨rfl, ad, rfl, g⟩
end
