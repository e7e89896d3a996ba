/-! PLAIN SIDE 21: holding; a booking asked as its kind -/
def hSum (J : MS) (set : Nat) : Nat → Int32
  | 0 => 0
  | k + 1 => hSum J set k + (if set.testBit k = true then fPrice J k else 0)
def thM (J : MS) (d : Int32) : Nat → Nat
  | 0 => 0
  | k + 1 => if pThere J k d then thM J d k ||| 2 ^ k else thM J d k
theorem thM_lt (J : MS) (d : Int32) : ∀ k, thM J d k < 2 ^ k
  | 0 => by unfold thM; decide
  | k + 1 => by
    unfold thM
    have := thM_lt J d k
    have h2 : 2 ^ k < 2 ^ (k + 1) := Nat.pow_lt_pow_right (by decide) (by omega)
    split
    · exact or_lt (by omega) (by omega)
    · omega
def fHolding (J : MS) (d w : Int32) : Int32 := if w = 0 then nI (fHeld J d) else if w = 1 then nI (thM J d (nB J)) else hSum J (fHeld J d) (nB J)
section
variable {ad : Nat → Nat} {J : MS} {S : XS} {x : Nat}
theorem p_or0 (v : Int32) : v ||| 0 = v := Int32.or_zero
theorem em_holding (g : JI J) (Q : Int32 → MS → Prop) (d w : Int32) (hd : 0 ≤ d.toInt ∧ d.toInt ≤ 364) (hw : 0 ≤ w.toInt ∧ w.toInt ≤ 2) {J0 : MS} (hJ : mset J 0 0 0 = J0) (g0 : JI J0) (k1 : Q (fHolding J0 d w) J0) : wm_holding Q J d w := by
  obtain ⟨n1, nb⟩ := g0.nb
  unfold wm_holding
  simp only [em_isDay, em_in, bI_ite, Int32.toInt_toInt64, Int64.reduceToInt, hJ, if_pos hd, if_pos hw]
  have w1 : w = 1 → ∀ r k, k + r = nB J0 → ∀ a4, wm_holding_48 Q (r + 1) J0 d w (nI (thM J0 d k)) a4 (nI k) := by
    intro e r
    induction r with
    | zero =>
      intro k hk a4
      have : k = nB J0 := by omega
      subst this
      unfold wm_holding_48
      rw [n1, if_pos (by grind), if_neg (by rw [e]; decide)]
      unfold fHolding at k1
      rw [if_neg (by rw [e]; decide), if_pos e] at k1
      exact k1
    | succ r ih =>
      intro k hk a4
      have hk' : k < nB J0 := by omega
      have lt := thM_lt J0 d (k + 1)
      have l17 : 2 ^ (k + 1) ≤ 2 ^ 16 := Nat.pow_le_pow_right (by decide) (by omega)
      have ih' := ih (k + 1) (by omega)
      unfold wm_holding_48 wm_holding_80 wm_holding_81 wm_holding_105
      rw [n1, if_neg (by rw [nIq_le (by omega) (by omega)]; omega), if_pos e]
      unfold thM at ih' lt
      simp only [em_there _ g0 hk', bI_ite, nI_setbit (show k < 31 by omega), p_or0, em_price _ g0 hk', nI_tInc]
      by_cases z : pThere J0 k d
      · rw [if_pos z] at ih' ⊢
        split <;> exact ih' _
      · rw [if_neg z] at ih' ⊢
        split <;> exact ih' _
  have w2 : ¬ w = 1 → ∀ set : Nat, set < 2 ^ 16 → (if w = 2 then Q (hSum J0 set (nB J0)) J0 else Q (nI set) J0) → ∀ r k, k + r = nB J0 → wm_holding_48 Q (r + 1) J0 d w (nI set) (hSum J0 set k) (nI k) := by
    intro e set hs kk r
    induction r with
    | zero =>
      intro k hk
      have : k = nB J0 := by omega
      subst this
      unfold wm_holding_48
      rw [n1, if_pos (by grind)]
      exact kk
    | succ r ih =>
      intro k hk
      have hk' : k < nB J0 := by omega
      have ih' := ih (k + 1) (by omega)
      unfold wm_holding_48 wm_holding_80 wm_holding_81 wm_holding_105
      rw [n1, if_neg (by rw [nIq_le (by omega) (by omega)]; omega), if_neg e, p_or0, nI_bit (by omega) (by omega)]
      simp only [em_price _ g0 hk', nI_tInc]
      unfold hSum at ih'
      by_cases z : set.testBit k = true
      · rw [if_pos z] at ih'
        rw [bI_t z, if_pos rfl]; exact ih'
      · rw [if_neg z] at ih'
        rw [bI_f z, if_neg (by decide)]; exact ih'
  unfold wm_holding_41
  by_cases e : w = 1
  · rw [if_pos e]
    exact ⟨nB J0 + 1, w1 e (nB J0) 0 (by omega) 0⟩
  · rw [if_neg e]
    refine em_holdOn g0 d _ ⟨nB J0 + 1, w2 e _ (fHeld_lt J0 d g0) ?_ (nB J0) 0 (by omega)⟩
    unfold fHolding at k1
    by_cases e2 : w = 2
    · rw [if_pos e2]
      rw [if_neg (by rw [e2]; decide), if_neg e] at k1
      exact k1
    · rw [if_neg e2]
      have e0 : w = 0 := by
        rw [p_eq] at e e2 ⊢
        have a0 : (0 : Int32).toInt = 0 := rfl
        have a1 : (1 : Int32).toInt = 1 := rfl
        have a2 : (2 : Int32).toInt = 2 := rfl
        omega
      rw [if_pos e0] at k1
      exact k1
theorem op_holding (h : XR x J S) (d w : Int32) : wx_X0_holding (fun r S1 => wm_holding (fun r2 J1 => Ans x r S1 r2 J1) J d w) S (some x) d w := by
  obtain ⟨ad, rfl, h⟩ := h
  have hji := h.ji
  have g := h.m0
  generalize hJ : mset J 0 0 0 = J0 at g
  obtain ⟨n1, nb⟩ := g.ji.nb
  unfold wx_X0_holding
  simp only [ex_isDay, ex_in, bI_ite, Int32.toInt_toInt64, Int64.reduceToInt, dr_some, g.k0, true_and]
  by_cases hd : 0 ≤ d.toInt ∧ d.toInt ≤ 364
  · rw [if_pos hd]
    by_cases hw : 0 ≤ w.toInt ∧ w.toInt ≤ 2
    · rw [if_pos hw]
      refine ex_held g d _ (fun S' c => ?_)
      have g' := g.tu c
      have fin : ∀ r, r = fHolding J0 d w → wm_holding (fun r2 J1 => Ans (ad 0) r S' r2 J1) J d w := fun r hr => by
        refine em_holding hji _ d w hd hw hJ g.ji ⟨hr.symm, ad, rfl, g'⟩
      by_cases e0 : w = 0
      · rw [if_pos e0]
        exact fin _ (by unfold fHolding; rw [if_pos e0])
      · rw [if_neg e0]
        have fl := fHeld_lt J0 d g.ji
        by_cases e1 : w = 1
        · have L : ∀ r k, k + r = nB J0 → wx_X0_holding_40 (fun r S1 => wm_holding (fun r2 J1 => Ans (ad 0) r S1 r2 J1) J d w) (r + 1) S' (some (ad 0)) d w (nI (fHeld J0 d)) (nI (thM J0 d k)) (nI k) := by
            intro r
            induction r with
            | zero =>
              intro k hk
              have : k = nB J0 := by omega
              subst this
              unfold wx_X0_holding_40
              simp only [dr_some, g'.k0, g'.r2, g'.bk.ls.1, g'.bk.ls.size, true_and]
              rw [if_pos (by grind)]
              exact fin _ (by unfold fHolding; rw [if_neg e0, if_pos e1])
            | succ r ih =>
              intro k hk
              have hk' : k < nB J0 := by omega
              have ih' := ih (k + 1) (by omega)
              unfold wx_X0_holding_40 wx_X0_holding_94 wx_X0_holding_125
              simp only [dr_some, g'.k0, g'.r2, g'.bk.ls.1, g'.bk.ls.size, true_and]
              rw [if_neg (by rw [nIq_le (by omega) (by omega)]; omega)]
              simp only [g'.bk.ls.get hk', dr_some, g'.kb hk', ex_there _ g' hk', bI_ite, true_and, if_pos e1, nI_setbit (show k < 31 by omega), p_or0, nI_tInc]
              unfold thM at ih'
              by_cases z : pThere J0 k d
              · rw [if_pos z] at ih' ⊢; exact ih'
              · rw [if_neg z] at ih' ⊢; exact ih'
          exact ⟨nB J0 + 1, L (nB J0) 0 (by omega)⟩
        · have L : ∀ r k, k + r = nB J0 → wx_X0_holding_40 (fun r S1 => wm_holding (fun r2 J1 => Ans (ad 0) r S1 r2 J1) J d w) (r + 1) S' (some (ad 0)) d w (nI (fHeld J0 d)) (hSum J0 (fHeld J0 d) k) (nI k) := by
            intro r
            induction r with
            | zero =>
              intro k hk
              have : k = nB J0 := by omega
              subst this
              unfold wx_X0_holding_40
              simp only [dr_some, g'.k0, g'.r2, g'.bk.ls.1, g'.bk.ls.size, true_and]
              rw [if_pos (by grind)]
              exact fin _ (by unfold fHolding; rw [if_neg e0, if_neg e1])
            | succ r ih =>
              intro k hk
              have hk' : k < nB J0 := by omega
              have ih' := ih (k + 1) (by omega)
              unfold wx_X0_holding_40 wx_X0_holding_122 wx_X0_holding_125
              simp only [dr_some, g'.k0, g'.r2, g'.bk.ls.1, g'.bk.ls.size, true_and]
              rw [if_neg (by rw [nIq_le (by omega) (by omega)]; omega)]
              simp only [g'.bk.ls.get hk', dr_some, g'.k0, g'.kb hk', true_and, if_neg e1, ex_price _ g' hk', nI_tInc]
              rw [nI_bit (by omega) (by omega)]
              unfold hSum at ih'
              by_cases z : (fHeld J0 d).testBit k = true
              · rw [if_pos z] at ih'
                rw [bI_t z, if_pos rfl]; exact ih'
              · rw [if_neg z] at ih'
                rw [bI_f z, if_neg (by decide)]; exact ih'
          exact ⟨nB J0 + 1, L (nB J0) 0 (by omega)⟩
    · rw [if_neg hw]
      unfold wm_holding
      simp only [em_isDay, em_in, bI_ite, Int32.toInt_toInt64, Int64.reduceToInt, hJ, if_pos hd, if_neg hw]
      exact ⟨rfl, ad, rfl, g⟩
  · rw [if_neg hd]
    unfold wm_holding
    simp only [em_isDay, bI_ite, hJ, if_neg hd]
    exact ⟨rfl, ad, rfl, g⟩
/-- the kind (a number of the table) in which a booking is asked -/
def fK (J : MS) (b : Nat) : Nat := if ¬ J 26 b = -1000000 ∧ J 26 b ≤ J 27 0 then 12 else if (fHeld J (J 27 0)).testBit b = true then (if rkB J b = 0 then 14 else 13) else if pThere J b (J 27 0) then 15 else 11
def kN (k : Nat) : Int32 := if k = 12 then 3 else if k = 14 then 2 else if k = 13 then 1 else if k = 15 then 4 else 0
theorem em_kindOf (g : JI J) {b : Nat} (hb : b < nB J) (Q : Int32 → MS → Prop) (k1 : Q (kN (fK J b)) J) : wm_kindOf Q J (nI b) := by
  have b16 := g.b hb
  have fl := fHeld_lt J (J 27 0) g
  unfold wm_kindOf
  have R : ¬ (¬ J 26 b = -1000000 ∧ J 26 b ≤ J 27 0) → wm_kindOf_26 Q J (nI b) := by
    intro hn
    unfold wm_kindOf_26
    refine em_holdOn g _ _ ?_
    simp only [nI_bit (show fHeld J (J 27 0) < 2 ^ 31 by omega) (show b < 31 by omega), em_rank _ g hb, em_there _ g hb, bI_ite]
    unfold fK at k1
    rw [if_neg hn] at k1
    by_cases z : (fHeld J (J 27 0)).testBit b = true
    · rw [if_pos z] at k1
      rw [bI_t z, if_pos rfl]
      by_cases w : rkB J b = 0
      · rw [if_pos w] at k1 ⊢; exact k1
      · rw [if_neg w] at k1 ⊢; exact k1
    · rw [if_neg z] at k1
      rw [bI_f z, if_neg (by decide)]
      by_cases w : pThere J b (J 27 0)
      · rw [if_pos w] at k1 ⊢; exact k1
      · rw [if_neg w] at k1 ⊢; exact k1
  simp only [p_vpn b16 (show 16 < 2 ^ 31 by decide), p_tn (show b < 2 ^ 31 by omega), true_and]
  by_cases z : J 26 b = -1000000
  · rw [if_pos z]; exact R (fun w => w.1 z)
  · rw [if_neg z]
    by_cases w : J 27 0 < J 26 b
    · rw [if_pos w]; exact R (fun y => by have := y.2; grind)
    · rw [if_neg w]
      unfold fK at k1
      rw [if_pos ⟨z, by grind⟩] at k1
      exact k1
/-- q is booking b, asked as of kind k -/
def AsB (ad : Nat → Nat) (J : MS) (b : Nat) (S : XS) (q : Nat) : Prop := (xKD S q = some (fK J b)) ∧ (xFR S 1100 q = some (ad (100 + b))) ∧ (fK J b = 13 ∨ fK J b = 14 → xFI S 1300 q = fPrice J b)
theorem AsB.kd {ad : Nat → Nat} {J : MS} {b : Nat} {S : XS} {q : Nat} (h : AsB ad J b S q) : xKD S q = some (fK J b) := h.1
theorem AsB.it {ad : Nat → Nat} {J : MS} {b : Nat} {S : XS} {q : Nat} (h : AsB ad J b S q) : xFR S 1100 q = some (ad (100 + b)) := h.2.1
theorem AsB.pr {ad : Nat → Nat} {J : MS} {b : Nat} {S : XS} {q : Nat} (h : AsB ad J b S q) : fK J b = 13 ∨ fK J b = 14 → xFI S 1300 q = fPrice J b := h.2.2
theorem fK_in (J : MS) (b : Nat) : fK J b = 11 ∨ fK J b = 12 ∨ fK J b = 13 ∨ fK J b = 14 ∨ fK J b = 15 := by
  unfold fK
  split
  · simp [xSall]
  · split
    · split <;> simp [xSall]
    · split <;> simp [xSall]
theorem AsB.as {b q : Nat} (h : AsB ad J b S q) : xAs S q := by
  unfold xAs
  rw [h.kd]
  rcases fK_in J b with e | e | e | e | e <;> rw [e] <;> simp [xSall]
theorem ex_asked (g : XA ad J S) {b : Nat} (hb : b < nB J) {mc ms : Nat} (hc : 1 ≤ mc) (hm : 2 ≤ ms) (Q : Option Nat → XS → Prop) (k1 : ∀ S' q, xKD S q = none → Chg (MR ad [11]) S S' → AsB ad J b S' q → Q (some q) S') : wx_X0_asked Q mc ms S (some (ad 0)) (nI b) := by
  obtain ⟨f0, f1, f2, f3, f4, f5, f6, f7, f8, f9, f10⟩ := g.bf hb
  have b16 := g.ji.b hb
  have fl := fHeld_lt J (J 27 0) g.ji
  unfold wx_X0_asked
  simp only [dr_some, g.k0, true_and, g.r2, g.bk.ls.1, g.bk.ls.get hb, g.kb hb, f10, g.f.i10]
  have R : ¬ (¬ J 26 b = -1000000 ∧ J 26 b ≤ J 27 0) → wx_X0_asked_43 Q mc ms S (some (ad 0)) (nI b) (some (ad (100 + b))) := by
    intro hn
    unfold wx_X0_asked_43
    simp only [dr_some, g.k0, true_and, g.f.i10]
    refine ex_held g _ _ (fun S1 c => ?_)
    have g' := g.tu c
    obtain ⟨e0, e1, e2, e3, e4, e5, e6, e7, e8, e9, e10⟩ := g'.bf hb
    obtain ⟨h1, h2, -⟩ := g.ji.hBq hb
    obtain ⟨u1, u2, -⟩ := g.ji.uBq hb
    obtain ⟨g0, g1⟩ := g'.ha (hB J b) h1
    rw [nI_bit (by omega) (by omega)]
    have fk : fK J b = if (fHeld J (J 27 0)).testBit b = true then (if rkB J b = 0 then 14 else 13) else if pThere J b (J 27 0) then 15 else 11 := by
      unfold fK; rw [if_neg hn]
    -- a new one, of kind n
    have NW : ∀ (n q : Nat), xKD S1 q = none → xKD S q = none ∧ Chg (MR ad [11]) S (sNew S1 q n) ∧ xKD (sNew S1 q n) q = some n := fun n q hq => ⟨c.fresh hq, c.sNew hq, by simp [xSall]⟩
    by_cases z : (fHeld J (J 27 0)).testBit b = true
    · rw [bI_t z, if_pos rfl]
      rw [if_pos z] at fk
      simp only [g'.k0, true_and, dr_some, g'.kb hb, g'.r1, g'.k (show 2 ≤ 12 by decide), show kr 2 = 104 from rfl, e1, e7, h2, u2, g'.b.l2, p_vpn h1 (show 4 < 2 ^ 31 by decide), p_tn (show hB J b < 2 ^ 31 by omega), p_tn (show uB J b < 2 ^ 31 by omega), g0, g1.ka, g1.r6, g1.kk, g1.lk, p_vpn u1 (show 5 < 2 ^ 31 by decide), g1.ak _ u1]
      show (if rkB J b = 0 then _ else _)
      by_cases w : rkB J b = 0
      · rw [if_pos w]
        rw [if_pos w] at fk
        refine ⟨by omega, by omega, fun q hq => ?_⟩
        obtain ⟨n1, n2, n3⟩ := NW 14 q hq
        rw [ex_price _ (g.tu n2) hb]
        unfold wx_X15_init wx_X14_init wx_X12_init
        have hx : xAs (sNew S1 q 14) q := Or.inr (Or.inr (Or.inr (Or.inl n3)))
        simp only [dr_some, hx, true_and, xKD_sFR, n3]
        refine ⟨Or.inr trivial, k1 _ q n1 ((n2.sFR (Or.inl n1) (some_ne n3)).sFI (Or.inl n1) (some_ne n3)) ⟨by rw [fk]; exact n3, by simp [xSall], fun _ => by simp [xSall]⟩⟩
      · rw [if_neg w]
        rw [if_neg w] at fk
        refine ⟨by omega, by omega, fun q hq => ?_⟩
        obtain ⟨n1, n2, n3⟩ := NW 13 q hq
        rw [ex_price _ (g.tu n2) hb]
        unfold wx_X14_init wx_X12_init
        have hx : xAs (sNew S1 q 13) q := Or.inr (Or.inr (Or.inl n3))
        simp only [dr_some, hx, true_and, xKD_sFR, n3]
        refine ⟨Or.inl trivial, k1 _ q n1 ((n2.sFR (Or.inl n1) (some_ne n3)).sFI (Or.inl n1) (some_ne n3)) ⟨by rw [fk]; exact n3, by simp [xSall], fun _ => by simp [xSall]⟩⟩
    · rw [bI_f z, if_neg (by decide)]
      rw [if_neg z] at fk
      simp only [g'.k0, true_and, dr_some, g'.kb hb, ex_there _ g' hb, bI_ite, g'.f.i10]
      by_cases w : pThere J b (J 27 0)
      · rw [if_pos w]
        rw [if_pos w] at fk
        refine ⟨by omega, by omega, fun q hq => ?_⟩
        obtain ⟨n1, n2, n3⟩ := NW 15 q hq
        unfold wx_X16_init wx_X12_init
        have hx : xAs (sNew S1 q 15) q := Or.inr (Or.inr (Or.inr (Or.inr n3)))
        simp only [dr_some, hx, true_and]
        refine k1 _ q n1 (n2.sFR (Or.inl n1) (some_ne n3)) ⟨by rw [fk]; exact n3, by simp [xSall], fun e => by rw [fk] at e; omega⟩
      · rw [if_neg w]
        rw [if_neg w] at fk
        refine ⟨by omega, by omega, fun q hq => ?_⟩
        obtain ⟨n1, n2, n3⟩ := NW 11 q hq
        unfold wx_X12_init
        have hx : xAs (sNew S1 q 11) q := Or.inl n3
        simp only [dr_some, hx, true_and]
        refine k1 _ q n1 (n2.sFR (Or.inl n1) (some_ne n3)) ⟨by rw [fk]; exact n3, by simp [xSall], fun e => by rw [fk] at e; omega⟩
  by_cases z : J 26 b = -1000000
  · rw [if_pos z]; exact R (fun w => w.1 z)
  · rw [if_neg z]
    by_cases w : J 27 0 < J 26 b
    · rw [if_pos w]; exact R (fun y => by have := y.2; grind)
    · rw [if_neg w]
      have fk : fK J b = 12 := by unfold fK; rw [if_pos ⟨z, by grind⟩]
      refine ⟨by omega, by omega, fun q hq => ?_⟩
      have n3 : xKD (sNew S q 12) q = some 12 := by simp [xSall]
      unfold wx_X13_init wx_X12_init
      have hx : xAs (sNew S q 12) q := Or.inr (Or.inl n3)
      simp only [dr_some, hx, true_and]
      refine k1 _ q hq (((Chg.refl g.b.cl).sNew hq).sFR (Or.inl hq) (some_ne n3)) ⟨by rw [fk]; exact n3, by simp [xSall], fun e => by rw [fk] at e; omega⟩
end
