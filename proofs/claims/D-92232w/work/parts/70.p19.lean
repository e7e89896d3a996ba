/-! PLAIN SIDE 19: what holds on a day -/
def hk1 (J : MS) (b : Nat) : Int := (rkB J b).toInt
def hk2 (J : MS) (b : Nat) : Int := (oB J b 8).toInt
def hOrd (J : MS) (d : Int32) : Nat → Nat × (Nat → Nat)
  | 0 => (0, fun i => i)
  | m + 1 => if pThere J m d then ((hOrd J d m).1 + 1, insF (hOrd J d m).2 (cposR (fun i => kah (hk1 J) (hk2 J) m ((hOrd J d m).2 i)) (hOrd J d m).1) m) else hOrd J d m
theorem hOrd_ok (J : MS) (d : Int32) : ∀ m, KOrd (hk1 J) (hk2 J) (fun b => pThere J b d) m (hOrd J d m).1 (hOrd J d m).2
  | 0 => KOrd.nil _ _ _ _
  | m + 1 => by
    unfold hOrd
    by_cases z : pThere J m d
    · rw [if_pos z]; exact (hOrd_ok J d m).ins z
    · rw [if_neg z]; exact (hOrd_ok J d m).skip z
theorem hOrd_le (J : MS) (d : Int32) : ∀ m, (hOrd J d m).1 ≤ m
  | 0 => Nat.le_refl 0
  | m + 1 => by
    unfold hOrd
    have := hOrd_le J d m
    by_cases z : pThere J m d
    · rw [if_pos z]; exact Nat.succ_le_succ this
    · rw [if_neg z]; omega
def licS (J : MS) (b set : Nat) : Nat → Int32
  | 0 => 0
  | k + 1 => if set.testBit k = true then licS J b set k + (if oB J k 0 = oB J b 0 then oB J k 7 else 0) else licS J b set k
abbrev noCl (J : MS) (b set k : Nat) : Prop := ∀ i, i < k → set.testBit i = true → ¬ pClash J b i
abbrev mayH (J : MS) (b set : Nat) : Prop := pFire J b (hB J b) (fB J b) ∧ noCl J b set (nB J) ∧ (oB J b 7 = 0 ∨ licS J b set (nB J) < J 3 (hB J b))
def hFold (J : MS) (f : Nat → Nat) : Nat → Nat
  | 0 => 0
  | j + 1 => if mayH J (f j) (hFold J f j) then hFold J f j ||| 2 ^ f j else hFold J f j
theorem hFold_lt {J : MS} {f : Nat → Nat} {m : Nat} : ∀ j, (∀ i, i < j → f i < m) → hFold J f j < 2 ^ m
  | 0, _ => Nat.two_pow_pos m
  | j + 1, h => by
    unfold hFold
    have := hFold_lt (J := J) j (fun i hi => h i (by omega))
    split
    · exact or_lt this (h j (by omega))
    · exact this
/-- the set that holds on a day -/
def fHeld (J : MS) (d : Int32) : Nat := hFold J (hOrd J d (nB J)).2 (hOrd J d (nB J)).1
theorem fHeld_lt (J : MS) (d : Int32) (hj : JI J) : fHeld J d < 2 ^ 16 := by
  have h := hOrd_ok J d (nB J)
  exact hFold_lt _ (fun i hi => Nat.lt_of_lt_of_le (h.mem i hi).1 hj.nb.2)
theorem pClash_comm {J : MS} {a b : Nat} : pClash J a b ↔ pClash J b a := by
  have : ∀ a b, pClash J a b → pClash J b a := by
    rintro a b ⟨h1, h2, h3, h4, h5⟩
    have e : hB J b = hB J a := by unfold hB; rw [h1]
    refine ⟨h1.symm, h2.symm, h3.symm, ?_, ?_⟩
    · rw [e]
      by_cases z : oB J a 6 = oB J b 6
      · rw [if_pos z] at h5; rw [if_pos z.symm]; exact h5
      · rw [if_neg z] at h5; rw [if_neg (fun w => z w.symm)]; exact h5
    · rw [e]
      by_cases z : oB J a 6 = oB J b 6
      · rw [if_pos z] at h4; rw [if_pos z.symm]; exact h4
      · rw [if_neg z] at h4; rw [if_neg (fun w => z w.symm)]; exact h4
  exact ⟨this a b, this b a⟩
theorem noCl_succ {J : MS} {b set k : Nat} : noCl J b set (k + 1) ↔ noCl J b set k ∧ (set.testBit k = true → ¬ pClash J b k) := by
  constructor
  · exact fun h => ⟨fun i hi => h i (by omega), h k (by omega)⟩
  · rintro ⟨h1, h2⟩ i hi hb
    by_cases z : i = k
    · subst z; exact h2 hb
    · exact h1 i (by omega) hb
section
variable {ad : Nat → Nat} {J : MS} {S : XS}
theorem ex_ahead (g : XA ad J S) {a b : Nat} (ha : a < nB J) (hb : b < nB J) (Q : Int32 → XS → Prop) : wx_X0_isAhead Q S (some (ad 0)) (some (ad (100 + a))) (some (ad (100 + b))) = Q (bI (kah (hk1 J) (hk2 J) a b)) S := by
  obtain ⟨f0, f1, f2, f3, f4, f5, f6, f7, f8, f9, f10⟩ := g.bf hb
  obtain ⟨e0, e1, e2, e3, e4, e5, e6, e7, e8, e9, e10⟩ := g.bf ha
  obtain ⟨h1, h2, -⟩ := g.ji.hBq ha
  obtain ⟨u1, u2, -⟩ := g.ji.uBq ha
  obtain ⟨h1', h2', -⟩ := g.ji.hBq hb
  obtain ⟨u1', u2', -⟩ := g.ji.uBq hb
  obtain ⟨g0, g1⟩ := g.ha (hB J a) h1
  obtain ⟨g0', g1'⟩ := g.ha (hB J b) h1'
  unfold wx_X0_isAhead
  simp only [dr_some, g.k0, g.kb ha, g.kb hb, g.r1, g.k (show 2 ≤ 12 by decide), show kr 2 = 104 from rfl, e1, f1, e7, f7, e9, f9, h2, h2', u2, u2', g.b.l2, p_vpn h1 (show 4 < 2 ^ 31 by decide), p_vpn h1' (show 4 < 2 ^ 31 by decide), p_tn (show hB J a < 2 ^ 31 by omega), p_tn (show hB J b < 2 ^ 31 by omega), p_tn (show uB J a < 2 ^ 31 by omega), p_tn (show uB J b < 2 ^ 31 by omega), g0, g0', g1.ka, g1'.ka, g1.r6, g1'.r6, g1.kk, g1'.kk, g1.lk, g1'.lk, p_vpn u1 (show 5 < 2 ^ 31 by decide), p_vpn u1' (show 5 < 2 ^ 31 by decide), g1.ak _ u1, g1'.ak _ u1', true_and]
  show (if rkB J a = rkB J b then (if oB J b 8 ≤ oB J a 8 then Q 0 S else Q 1 S) else if rkB J b ≤ rkB J a then Q 0 S else Q 1 S) = _
  have hh : kah (hk1 J) (hk2 J) a b ↔ rkB J a < rkB J b ∨ (rkB J a = rkB J b ∧ oB J a 8 < oB J b 8) := by
    unfold kah hk1 hk2
    rw [p_lt, p_lt, p_eq]
  by_cases q : kah (hk1 J) (hk2 J) a b
  · rw [bI_t q]
    rw [hh] at q
    by_cases z : rkB J a = rkB J b
    · rw [if_pos z, if_neg (by grind)]
    · rw [if_neg z, if_neg (by grind)]
  · rw [bI_f q]
    rw [hh] at q
    by_cases z : rkB J a = rkB J b
    · rw [if_pos z, if_pos (by grind)]
    · rw [if_neg z, if_pos (by grind)]
theorem ex_mayHold (g : XA ad J S) {b set : Nat} (hb : b < nB J) (hs : set < 2 ^ 16) (Q : Int32 → XS → Prop) (k1 : Q (bI (mayH J b set)) S) : wx_X0_mayHold Q S (some (ad 0)) (some (ad (100 + b))) (nI set) := by
  obtain ⟨f0, f1, f2, f3, f4, f5, f6, f7, f8, f9, f10⟩ := g.bf hb
  obtain ⟨h1, h2, -⟩ := g.ji.hBq hb
  obtain ⟨u1, u2, -⟩ := g.ji.fBq hb
  obtain ⟨g0, g1⟩ := g.ha (hB J b) h1
  have nb := g.ji.nb.2
  unfold wx_X0_mayHold
  simp only [dr_some, g.k0, g.kb hb, g.r1, g.k (show 2 ≤ 12 by decide), show kr 2 = 104 from rfl, f1, f2, f6, h2, u2, g.b.l2, p_vpn h1 (show 4 < 2 ^ 31 by decide), p_tn (show hB J b < 2 ^ 31 by omega), p_tn (show fB J b < 2 ^ 31 by omega), g0, g1.ka, g1.r4, g1.kf, g1.lf, p_vpn u1 (show 2 < 2 ^ 31 by decide), g1.af _ u1, true_and]
  have loop : ∀ r k, k + r = nB J → pFire J b (hB J b) (fB J b) → noCl J b set k → wx_X0_mayHold_31 Q (r + 1) S (some (ad 0)) (some (ad (100 + b))) (nI set) (licS J b set k) (nI k) := by
    intro r
    induction r with
    | zero =>
      intro k hk pf nc
      have : k = nB J := by omega
      subst this
      unfold wx_X0_mayHold_31
      simp only [dr_some, g.k0, g.r2, g.bk.ls.1, g.bk.ls.size, true_and]
      rw [if_pos (by grind)]
      simp only [g.kb hb, f8, f1, true_and, g.r1, dr_some, g.k (show 2 ≤ 12 by decide), show kr 2 = 104 from rfl, h2, g.b.l2, p_vpn h1 (show 4 < 2 ^ 31 by decide), p_tn (show hB J b < 2 ^ 31 by omega), g0, g1.ka, g1.i1]
      by_cases z : oB J b 7 = 0
      · rw [if_pos z]
        rw [bI_t (p := mayH J b set) ⟨pf, nc, Or.inl z⟩] at k1
        exact k1
      · rw [if_neg z]
        by_cases w : J 3 (hB J b) ≤ licS J b set (nB J)
        · rw [if_pos w]
          rw [bI_f (p := mayH J b set) (fun y => by rcases y.2.2 with y | y; exact z y; grind)] at k1
          exact k1
        · rw [if_neg w]
          rw [bI_t (p := mayH J b set) ⟨pf, nc, Or.inr (by grind)⟩] at k1
          exact k1
    | succ r ih =>
      intro k hk pf nc
      have hk' : k < nB J := by omega
      obtain ⟨e0, e1, e2, e3, e4, e5, e6, e7, e8, e9, e10⟩ := g.bf hk'
      unfold wx_X0_mayHold_31
      simp only [dr_some, g.k0, g.r2, g.bk.ls.1, g.bk.ls.size, true_and]
      rw [if_neg (by rw [nIq_le (by omega) (by omega)]; omega), nI_bit (by omega) (by omega), bI_ite]
      by_cases t : set.testBit k = true
      · rw [if_pos t]
        simp only [g.bk.ls.get hk', dr_some, g.k0, g.kb hk', g.kb hb, true_and, ex_clash _ g hb hk', bI_ite]
        by_cases cl : pClash J b k
        · rw [if_pos cl]
          rw [bI_f (p := mayH J b set) (fun y => y.2.1 k hk' t cl)] at k1
          exact k1
        · rw [if_neg cl]
          unfold wx_X0_mayHold_110 wx_X0_mayHold_111 wx_X0_mayHold_113
          have nc' : noCl J b set (k + 1) := noCl_succ.mpr ⟨nc, fun _ => cl⟩
          have q7 : 0 ≤ (oB J k 7).toInt ∧ (oB J k 7).toInt ≤ 1 := (g.ji.row k hk').2.2.2.2.2.2.2.1
          have go : wx_X0_mayHold_31 Q (r + 1) S (some (ad 0)) (some (ad (100 + b))) (nI set) (licS J b set k + (if oB J k 0 = oB J b 0 then oB J k 7 else 0)) (nI k + 1) := by
            have := ih (k + 1) (by omega) pf nc'
            unfold licS at this
            rw [if_pos t] at this
            rw [nI_tInc]; exact this
          simp only [e1, f1, e8]
          by_cases z : oB J k 0 = oB J b 0
          · rw [if_pos z]
            rw [if_pos z] at go
            by_cases w : oB J k 7 = 0
            · rw [if_pos w]; rw [w] at go; exact go
            · rw [if_neg w]
              have o7 : oB J k 7 = 1 := by
                rw [p_eq] at w ⊢
                have a0 : (0 : Int32).toInt = 0 := rfl
                have a1 : (1 : Int32).toInt = 1 := rfl
                omega
              rw [o7] at go; exact go
          · rw [if_neg z]; rw [if_neg z] at go; exact go
      · rw [if_neg t]
        unfold wx_X0_mayHold_113
        have := ih (k + 1) (by omega) pf (noCl_succ.mpr ⟨nc, fun y => absurd y t⟩)
        unfold licS at this
        rw [if_neg t] at this
        rw [nI_tInc]; exact this
  by_cases pf : pFire J b (hB J b) (fB J b)
  · rw [if_pos (show oB J b 5 ≤ J 6 (2 * hB J b + fB J b) from pf)]
    exact ⟨nB J + 1, loop (nB J) 0 (by omega) pf (fun i hi => absurd hi (Nat.not_lt_zero i))⟩
  · rw [if_neg (show ¬ oB J b 5 ≤ J 6 (2 * hB J b + fB J b) from pf)]
    rw [bI_f (p := mayH J b set) (fun y => pf y.1)] at k1
    exact k1

/-- turn lists the first c of f -/
def TU (ad : Nat → Nat) (S : XS) (c : Nat) (f : Nat → Nat) : Prop := ∀ i, i < c → xAR S (ad 11) i = some (ad (100 + f i))
theorem XA.tu {S S' : XS} (g : XA ad J S) (c : Chg (MR ad [11]) S S') : XA ad J S' := g.ask (c.mono (fun a _ ⟨r, hr, e⟩ => ⟨r, by simp [xSall] at hr ⊢; omega, e⟩)) (fun _ _ => rfl)
theorem ex_held (g : XA ad J S) (d : Int32) (Q : Int32 → XS → Prop) (k1 : ∀ S', Chg (MR ad [11]) S S' → Q (nI (fHeld J d)) S') : wx_X0_held Q S (some (ad 0)) d := by
  have nb := g.ji.nb.2
  have ok := hOrd_ok J d
  have le := hOrd_le J d
  have k11 : ∀ S', XA ad J S' → xKD S' (ad 11) = some 103 := fun S' g' => g'.k (by decide)
  have r11 : ∀ S', XA ad J S' → xRO S' (ad 11) = false := fun S' g' => g'.b.ro 11 (lv_f (by decide))
  -- the second loop
  have L2 : ∀ r j, j + r = (hOrd J d (nB J)).1 → ∀ S', Chg (MR ad [11]) S S' → TU ad S' (hOrd J d (nB J)).1 (hOrd J d (nB J)).2 → wx_X0_held_115 Q (r + 1) S' (some (ad 0)) (nI (hOrd J d (nB J)).1) (nI (hFold J (hOrd J d (nB J)).2 j)) (nI j) := by
    have lec := le (nB J)
    intro r
    induction r with
    | zero =>
      intro j hj S' c t
      unfold wx_X0_held_115
      rw [if_pos (by rw [nIq_le (by omega) (by omega)]; omega)]
      have : j = (hOrd J d (nB J)).1 := by omega
      rw [this]
      exact k1 S' c
    | succ r ih =>
      intro j hj S' c t
      have g' := g.tu c
      have hfj := ((ok (nB J)).mem j (by omega)).1
      have hlt : hFold J (hOrd J d (nB J)).2 j < 2 ^ 16 := hFold_lt j (fun i hi => Nat.lt_of_lt_of_le ((ok (nB J)).mem i (by omega)).1 nb)
      unfold wx_X0_held_115 wx_X0_held_151
      rw [if_neg (by rw [nIq_le (by omega) (by omega)]; omega)]
      simp only [dr_some, g'.k0, g'.f.r13, k11 S' g', g'.b.l11, p_vpn (show j < 16 by omega) (show 16 < 2 ^ 31 by decide), p_tn (show j < 2 ^ 31 by omega), t j (by omega), true_and]
      refine ex_mayHold g' hfj hlt _ ?_
      simp only [bI_ite, g'.k0, dr_some, g'.f.r13, k11 S' g', g'.b.l11, p_vpn (show j < 16 by omega) (show 16 < 2 ^ 31 by decide), t j (by omega), true_and, g'.kb hfj, (g'.bf hfj).1, nI_setbit (show (hOrd J d (nB J)).2 j < 31 by omega), nI_tInc]
      have := ih (j + 1) (by omega) S' c t
      unfold hFold at this
      by_cases z : mayH J ((hOrd J d (nB J)).2 j) (hFold J (hOrd J d (nB J)).2 j)
      · rw [if_pos z] at this ⊢; exact this
      · rw [if_neg z] at this ⊢; exact this
  -- a booking comes to its place
  have L1 : ∀ (K4 : XS → Option Nat → Int32 → Int32 → Int32 → Prop) (a2 a3 : Int32) (m c : Nat) (f : Nat → Nat), m < nB J → c < 16 → (∀ i, i < c → f i < nB J) → ∀ q, q ≤ c → ∀ S', Chg (MR ad [11]) S S' → (∀ i, i < q → xAR S' (ad 11) i = some (ad (100 + f i))) → (∀ i, q < i → i ≤ c → xAR S' (ad 11) i = some (ad (100 + f (i - 1)))) → (∀ S'', Chg (MR ad [11]) S S'' → (∀ i, i ≤ c → xAR S'' (ad 11) i = some (ad (100 + insF f (cposR (fun i => kah (hk1 J) (hk2 J) m (f i)) q) m i))) → wx_X0_held_104 Q K4 S'' (some (ad 0)) d a2 a3) → wx_X0_held_50 Q K4 (q + 1) S' (some (ad 0)) d a2 a3 (some (ad (100 + m))) (nI q) := by
    intro K4 a2 a3 m c f hm hc hf q
    have store : ∀ q, q ≤ c → ∀ S', Chg (MR ad [11]) S S' → (∀ i, i < q → xAR S' (ad 11) i = some (ad (100 + f i))) → (∀ i, q < i → i ≤ c → xAR S' (ad 11) i = some (ad (100 + f (i - 1)))) → (∀ S'', Chg (MR ad [11]) S S'' → (∀ i, i ≤ c → xAR S'' (ad 11) i = some (ad (100 + insF f q m i))) → wx_X0_held_104 Q K4 S'' (some (ad 0)) d a2 a3) → wx_X0_held_95 Q K4 S' (some (ad 0)) d a2 a3 (some (ad (100 + m))) (nI q) := by
      intro q hq S' cc t1 t2 kk
      have g' := g.tu cc
      unfold wx_X0_held_95
      simp only [dr_some, g'.k0, g'.f.r13, k11 S' g', r11 S' g', g'.b.l11, p_vpn (show q < 16 by omega) (show 16 < 2 ^ 31 by decide), p_tn (show q < 2 ^ 31 by omega), g'.kb hm, true_and]
      refine kk _ (cc.sAR (Or.inr ⟨11, by simp [xSall], rfl⟩) (some_ne (k11 S' g'))) (fun i hi => ?_)
      rw [xAR_sAR, if_pos rfl]
      unfold va_up insF
      by_cases z : i = q
      · rw [if_pos z, if_neg (by omega), if_pos z]
      · rw [if_neg z]
        by_cases w : i < q
        · rw [if_pos w]; exact t1 i w
        · rw [if_neg w, if_neg z]; exact t2 i (by omega) hi
    induction q with
    | zero =>
      intro hq S' cc t1 t2 kk
      unfold wx_X0_held_50
      rw [if_pos (by decide)]
      exact store 0 hq S' cc t1 t2 kk
    | succ q ih =>
      intro hq S' cc t1 t2 kk
      have g' := g.tu cc
      have e1 : nI (q + 1) - 1 = nI q := by
        have : nI (q + 1) - nI 1 = nI (q + 1 - 1) := nI_s (by omega)
        exact this
      have e2 : nI (q + 1) + (-1 : Int32) = nI q := by rw [← e1]; grind
      unfold wx_X0_held_50
      rw [if_neg (by show ¬ nI (q + 1) ≤ nI 0; rw [nIq_le (by omega) (by omega)]; omega)]
      simp only [dr_some, g'.k0, g'.f.r13, k11 S' g', r11 S' g', g'.b.l11, e1, e2, p_vpn (show q < 16 by omega) (show 16 < 2 ^ 31 by decide), p_vpn (show q + 1 < 16 by omega) (show 16 < 2 ^ 31 by decide), p_tn (show q < 2 ^ 31 by omega), p_tn (show q + 1 < 2 ^ 31 by omega), t1 q (by omega), ex_ahead g' hm (hf q (by omega)), bI_ite, true_and, g'.kb (hf q (by omega))]
      unfold cposR at kk
      by_cases z : kah (hk1 J) (hk2 J) m (f q)
      · rw [if_pos z]
        rw [if_pos z] at kk
        refine ih (by omega) _ (cc.sAR (Or.inr ⟨11, by simp [xSall], rfl⟩) (some_ne (k11 S' g'))) (fun i hi => ?_) (fun i hi hi2 => ?_) kk
        · rw [xAR_sAR, if_pos rfl]
          unfold va_up
          rw [if_neg (by omega)]
          exact t1 i (by omega)
        · rw [xAR_sAR, if_pos rfl]
          unfold va_up
          by_cases w : i = q + 1
          · rw [if_pos w, w, Nat.add_sub_cancel]
          · rw [if_neg w]; exact t2 i (by omega) hi2
      · rw [if_neg z]
        rw [if_neg z] at kk
        exact store (q + 1) hq S' cc t1 t2 kk
  -- the first loop
  have L0 : ∀ r k, k + r = nB J → ∀ S', Chg (MR ad [11]) S S' → TU ad S' (hOrd J d k).1 (hOrd J d k).2 → wx_X0_held_4 Q (r + 1) S' (some (ad 0)) d (nI (hOrd J d k).1) (nI k) := by
    intro r
    induction r with
    | zero =>
      intro k hk S' c t
      have : k = nB J := by omega
      subst this
      have g' := g.tu c
      unfold wx_X0_held_4
      simp only [dr_some, g'.k0, g'.r2, g'.bk.ls.1, g'.bk.ls.size, true_and]
      rw [if_pos (by grind)]
      exact ⟨(hOrd J d (nB J)).1 + 1, L2 _ 0 (by omega) S' c t⟩
    | succ r ih =>
      intro k hk S' c t
      have g' := g.tu c
      have hk' : k < nB J := by omega
      have lek := le k
      unfold wx_X0_held_4
      simp only [dr_some, g'.k0, g'.r2, g'.bk.ls.1, g'.bk.ls.size, true_and]
      rw [if_neg (by rw [nIq_le (by omega) (by omega)]; omega)]
      simp only [g'.bk.ls.get hk', dr_some, g'.kb hk', ex_there _ g' hk', bI_ite, true_and]
      have ihk := ih (k + 1) (by omega)
      unfold hOrd at ihk
      by_cases z : pThere J k d
      · rw [if_pos z]
        rw [if_pos z] at ihk
        refine ⟨(hOrd J d k).1 + 1, L1 _ _ _ k (hOrd J d k).1 (hOrd J d k).2 hk' (by omega) (fun i hi => Nat.lt_trans ((ok k).mem i hi).1 hk') (hOrd J d k).1 (Nat.le_refl _) S' c t (fun i h1 h2 => by omega) (fun S'' c' t' => ?_)⟩
        unfold wx_X0_held_104
        rw [nI_tInc, nI_tInc]
        exact ihk S'' c' (fun i hi => t' i (by omega))
      · rw [if_neg z]
        rw [if_neg z] at ihk
        unfold wx_X0_held_104
        rw [nI_tInc]
        exact ihk S' c t
  exact ⟨nB J + 1, L0 (nB J) 0 (by omega) S (Chg.refl g.b.cl) (fun i hi => absurd hi (Nat.not_lt_zero i))⟩
end
