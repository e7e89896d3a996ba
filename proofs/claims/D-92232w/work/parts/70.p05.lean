/-! PLAIN SIDE 5: what both sides' small methods compute -/
def oB (J : MS) (b k : Nat) : Int32 := J 25 (9 * b + k)
def hB (J : MS) (b : Nat) : Nat := (oB J b 0).toNatClampNeg
def fB (J : MS) (b : Nat) : Nat := (oB J b 1).toNatClampNeg
def uB (J : MS) (b : Nat) : Nat := (oB J b 6).toNatClampNeg
def fPrice (J : MS) (b : Nat) : Int32 := if J 26 b = -1000000 then (oB J b 4 - oB J b 3) * J 7 (5 * hB J b + uB J b) else if J 4 (hB J b) ≤ oB J b 2 - J 26 b then 0 else ((oB J b 4 - oB J b 3) * J 7 (5 * hB J b + uB J b)) * J 5 (hB J b) / 100
abbrev pThere (J : MS) (b : Nat) (d : Int32) : Prop := oB J b 8 ≤ d ∧ (J 26 b = -1000000 ∨ d < J 26 b)
abbrev pMeets (J : MS) (h : Nat) (fa ta ua fb tb ub : Int32) : Prop := fa < tb + (if ua = ub then 0 else J 2 h) ∧ fb < ta + (if ua = ub then 0 else J 2 h)
abbrev pClash (J : MS) (a b : Nat) : Prop := oB J a 0 = oB J b 0 ∧ oB J a 1 = oB J b 1 ∧ oB J a 2 = oB J b 2 ∧ pMeets J (hB J a) (oB J a 3) (oB J a 4) (oB J a 6) (oB J b 3) (oB J b 4) (oB J b 6)
def rkB (J : MS) (b : Nat) : Int32 := J 8 (5 * hB J b + uB J b)
abbrev pFire (J : MS) (b h f : Nat) : Prop := oB J b 5 ≤ J 6 (2 * h + f)
section M
variable {J : MS} (Q : Int32 → MS → Prop)
theorem em_isSheet (v : Int32) : wm_isSheet Q J v = Q (bI (0 ≤ v.toInt ∧ v.toInt ≤ 7)) J := by
  unfold wm_isSheet
  simp only [em_in, bI_nar, true_and, Int32.toInt_toInt64, Int64.reduceToInt]
theorem em_isHall (v : Int32) : wm_isHall Q J v = Q (bI (0 ≤ v.toInt ∧ v.toInt ≤ 3)) J := by
  unfold wm_isHall
  simp only [em_in, bI_nar, true_and, Int32.toInt_toInt64, Int64.reduceToInt]
theorem em_isDay (v : Int32) : wm_isDay Q J v = Q (bI (0 ≤ v.toInt ∧ v.toInt ≤ 364)) J := by
  unfold wm_isDay
  simp only [em_in, bI_nar, true_and, Int32.toInt_toInt64, Int64.reduceToInt]
theorem bI_ite (p : Prop) [Decidable p] (A B : Prop) : (if bI p = 0 then A else B) = (if p then B else A) := by
  by_cases h : p
  · rw [bI_t h, if_pos h]; rfl
  · rw [bI_f h, if_neg h]; rfl
theorem ite_ite {α : Type} (p q : Prop) [Decidable p] [Decidable q] (A B : α) : (if p then (if q then A else B) else B) = (if p ∧ q then A else B) := by
  by_cases h : p <;> by_cases k : q <;> simp [xSall, h, k]
theorem bI_of (p : Prop) [Decidable p] (Q : Int32 → Prop) : (if p then Q 1 else Q 0) = Q (bI p) := by
  by_cases h : p
  · rw [bI_t h, if_pos h]
  · rw [bI_f h, if_neg h]
theorem bI_no (p : Prop) [Decidable p] (Q : Int32 → Prop) : (if p then Q 0 else Q 1) = Q (bI (¬ p)) := by
  by_cases h : p
  · rw [bI_f (fun z => z h), if_pos h]
  · rw [bI_t h, if_neg h]
theorem em_isTime (h d q : Int32) : wm_isTime Q J h d q = Q (bI ((0 ≤ h.toInt ∧ h.toInt ≤ 3) ∧ (0 ≤ d.toInt ∧ d.toInt ≤ 364) ∧ (0 ≤ q.toInt ∧ q.toInt ≤ 96))) J := by
  unfold wm_isTime
  simp only [em_isHall, em_isDay, em_in, bI_ite, Int32.toInt_toInt64, Int64.reduceToInt, ite_ite]
  exact bI_of _ (fun r => Q r J)
theorem em_isBooking (hj : JI J) (v : Int32) : wm_isBooking Q J v = Q (bI (0 ≤ v.toInt ∧ v.toInt < nB J)) J := by
  unfold wm_isBooking
  have h1 : (J 24 0 - 1).toInt = (nB J : Int) - 1 := by
    rw [Int32.toInt_sub, hj.nb.1, p_nI (by have := hj.nb.2; omega)]
    have : (1 : Int32).toInt = 1 := rfl
    rw [this]
    have := hj.nb.2
    rw [Int.bmod_eq_of_le] <;> omega
  simp only [em_in, bI_nar, true_and, Int32.toInt_toInt64, Int64.reduceToInt, h1]
  exact congrArg (fun r => Q r J) (bI_cong (by omega))
theorem em_of {b k : Nat} (hb : b < 16) (hk : k < 9) : wm_of Q J (nI b) (nI k) = Q (oB J b k) J := by
  unfold wm_of
  have e : (9 : Int32) * nI b + nI k = nI (9 * b + k) := by
    have := nI_m 9 b
    have e9 : (9 : Int32) = nI 9 := rfl
    rw [e9, nI_m, nI_a]
  rw [e, p_tn (by omega)]
  exact propext ⟨fun h => h.2, fun h => ⟨p_vpn (by omega) (by decide), h⟩⟩
theorem em_of0 {b : Nat} (hb : b < 16) : wm_of Q J (nI b) (0 : Int32) = Q (oB J b 0) J := em_of Q hb (k := 0) (by decide)
theorem em_of1 {b : Nat} (hb : b < 16) : wm_of Q J (nI b) (1 : Int32) = Q (oB J b 1) J := em_of Q hb (k := 1) (by decide)
theorem em_of2 {b : Nat} (hb : b < 16) : wm_of Q J (nI b) (2 : Int32) = Q (oB J b 2) J := em_of Q hb (k := 2) (by decide)
theorem em_of3 {b : Nat} (hb : b < 16) : wm_of Q J (nI b) (3 : Int32) = Q (oB J b 3) J := em_of Q hb (k := 3) (by decide)
theorem em_of4 {b : Nat} (hb : b < 16) : wm_of Q J (nI b) (4 : Int32) = Q (oB J b 4) J := em_of Q hb (k := 4) (by decide)
theorem em_of5 {b : Nat} (hb : b < 16) : wm_of Q J (nI b) (5 : Int32) = Q (oB J b 5) J := em_of Q hb (k := 5) (by decide)
theorem em_of6 {b : Nat} (hb : b < 16) : wm_of Q J (nI b) (6 : Int32) = Q (oB J b 6) J := em_of Q hb (k := 6) (by decide)
theorem em_of7 {b : Nat} (hb : b < 16) : wm_of Q J (nI b) (7 : Int32) = Q (oB J b 7) J := em_of Q hb (k := 7) (by decide)
theorem em_of8 {b : Nat} (hb : b < 16) : wm_of Q J (nI b) (8 : Int32) = Q (oB J b 8) J := em_of Q hb (k := 8) (by decide)
theorem p_lin2 {c : Nat} {x y : Int32} {n : Nat} (hx : 0 ≤ x.toInt) (hy : 0 ≤ y.toInt) (h : c * x.toNatClampNeg + y.toNatClampNeg < n) (hn : n < 2 ^ 31) : (nI c * x + y).toNatClampNeg = c * x.toNatClampNeg + y.toNatClampNeg ∧ vp_in (nI c * x + y) n := by
  have ex : x = nI x.toNatClampNeg := by
    have := Int32.toInt_lt x
    rw [p_eq, p_nI (by rw [p_clamp]; omega), p_clamp]
    omega
  have ey : y = nI y.toNatClampNeg := by
    have := Int32.toInt_lt y
    rw [p_eq, p_nI (by rw [p_clamp]; omega), p_clamp]
    omega
  have e : nI c * x + y = nI (c * x.toNatClampNeg + y.toNatClampNeg) := by
    rw [ex, ey, nI_m, nI_a, ← ex, ← ey]
  rw [e]
  exact ⟨p_tn (by omega), p_vpn h hn⟩
theorem JI.b (hj : JI J) {b : Nat} (hb : b < nB J) : b < 16 := Nat.lt_of_lt_of_le hb hj.nb.2
theorem JI.hBq (hj : JI J) {b : Nat} (hb : b < nB J) : hB J b < 4 ∧ oB J b 0 = nI (hB J b) ∧ 0 ≤ (oB J b 0).toInt := by
  have h := (hj.row b hb).1
  obtain ⟨j, h1, h2⟩ := p_ex (n := 4) h.1 (by omega)
  have e : oB J b 0 = nI j := h2
  unfold hB
  rw [e, p_tn (by omega)]
  exact ⟨h1, rfl, by rw [p_nI (by omega)]; omega⟩
theorem JI.fBq (hj : JI J) {b : Nat} (hb : b < nB J) : fB J b < 2 ∧ oB J b 1 = nI (fB J b) ∧ 0 ≤ (oB J b 1).toInt := by
  have h := (hj.row b hb).2.1
  obtain ⟨j, h1, h2⟩ := p_ex (n := 2) h.1 (by omega)
  have e : oB J b 1 = nI j := h2
  unfold fB
  rw [e, p_tn (by omega)]
  exact ⟨h1, rfl, by rw [p_nI (by omega)]; omega⟩
theorem JI.uBq (hj : JI J) {b : Nat} (hb : b < nB J) : uB J b < 5 ∧ oB J b 6 = nI (uB J b) ∧ 0 ≤ (oB J b 6).toInt := by
  have h := (hj.row b hb).2.2.2.2.2.2.1
  obtain ⟨j, h1, h2⟩ := p_ex (n := 5) h.1 (by omega)
  have e : oB J b 6 = nI j := h2
  unfold uB
  rw [e, p_tn (by omega)]
  exact ⟨h1, rfl, by rw [p_nI (by omega)]; omega⟩
theorem em_price (hj : JI J) {b : Nat} (hb : b < nB J) : wm_priceOf Q J (nI b) = Q (fPrice J b) J := by
  have b16 := hj.b hb
  obtain ⟨h1, h2, -⟩ := hj.hBq hb
  obtain ⟨u1, u2, -⟩ := hj.uBq hb
  unfold wm_priceOf
  have e5 : (5 : Int32) * nI (hB J b) + nI (uB J b) = nI (5 * hB J b + uB J b) := by
    have e9 : (5 : Int32) = nI 5 := rfl
    rw [e9, nI_m, nI_a]
  simp only [em_of0 _ b16, em_of3 _ b16, em_of4 _ b16, em_of6 _ b16, em_of2 _ b16, h2, u2, e5, p_tn (show b < 2 ^ 31 by omega), p_tn (show hB J b < 2 ^ 31 by omega), p_tn (show 5 * hB J b + uB J b < 2 ^ 31 by omega), p_vpn (show 5 * hB J b + uB J b < 20 by omega) (by decide), p_vpn (show b < 16 by omega) (by decide), p_vpn (show hB J b < 4 by omega) (by decide), true_and]
  unfold fPrice
  split
  · rfl
  · split <;> rfl
theorem em_there (hj : JI J) {b : Nat} (hb : b < nB J) (d : Int32) : wm_isThere Q J (nI b) d = Q (bI (pThere J b d)) J := by
  have b16 := hj.b hb
  unfold wm_isThere
  simp only [em_of8 _ b16, p_tn (show b < 2 ^ 31 by omega), p_vpn (show b < 16 by omega) (by decide), true_and]
  by_cases h1 : d < oB J b 8
  · rw [if_pos h1, bI_f (show ¬ _ by unfold pThere; grind)]
  · rw [if_neg h1]
    by_cases h2 : J 26 b = -1000000
    · rw [if_pos h2, bI_t (show _ by unfold pThere; grind)]
    · rw [if_neg h2]
      by_cases h3 : J 26 b ≤ d
      · rw [if_pos h3, bI_f (show ¬ _ by unfold pThere; grind)]
      · rw [if_neg h3, bI_t (show _ by unfold pThere; grind)]
theorem em_meets {h : Nat} (hh : h < 4) (fa ta ua fb tb ub : Int32) : wm_meets Q J (nI h) fa ta ua fb tb ub = Q (bI (pMeets J h fa ta ua fb tb ub)) J := by
  unfold wm_meets wm_meets_17
  simp only [p_tn (show h < 2 ^ 31 by omega), p_vpn (show h < 4 by omega) (by decide), true_and]
  by_cases e : ua = ub
  · simp only [if_pos e]
    by_cases h1 : tb + 0 ≤ fa
    · rw [if_pos h1, bI_f (show ¬ _ by unfold pMeets; grind)]
    · rw [if_neg h1]
      by_cases h2 : ta + 0 ≤ fb
      · rw [if_pos h2, bI_f (show ¬ _ by unfold pMeets; grind)]
      · rw [if_neg h2, bI_t (show _ by unfold pMeets; grind)]
  · simp only [if_neg e]
    by_cases h1 : tb + J 2 h ≤ fa
    · rw [if_pos h1, bI_f (show ¬ _ by unfold pMeets; grind)]
    · rw [if_neg h1]
      by_cases h2 : ta + J 2 h ≤ fb
      · rw [if_pos h2, bI_f (show ¬ _ by unfold pMeets; grind)]
      · rw [if_neg h2, bI_t (show _ by unfold pMeets; grind)]
theorem em_clash (hj : JI J) {a b : Nat} (ha : a < nB J) (hb : b < nB J) : wm_isClash Q J (nI a) (nI b) = Q (bI (pClash J a b)) J := by
  have a16 := hj.b ha
  have b16 := hj.b hb
  obtain ⟨h1, h2, -⟩ := hj.hBq ha
  unfold wm_isClash
  simp only [em_of0 _ b16, em_of3 _ b16, em_of4 _ b16, em_of6 _ b16, em_of2 _ b16, em_of1 _ b16, em_of0 _ a16, em_of3 _ a16, em_of4 _ a16, em_of6 _ a16, em_of2 _ a16, em_of1 _ a16]
  by_cases q1 : oB J a 0 = oB J b 0
  · rw [if_pos q1]
    by_cases q2 : oB J a 1 = oB J b 1
    · rw [if_pos q2]
      by_cases q3 : oB J a 2 = oB J b 2
      · have hm := em_meets (J := J) (fun r28 J27 => if r28 = 0 then Q 0 J27 else Q 1 J27) h1 (oB J a 3) (oB J a 4) (oB J a 6) (oB J b 3) (oB J b 4) (oB J b 6)
        rw [← h2] at hm
        rw [if_pos q3, hm, bI_ite]
        by_cases q4 : pMeets J (hB J a) (oB J a 3) (oB J a 4) (oB J a 6) (oB J b 3) (oB J b 4) (oB J b 6)
        · rw [if_pos q4, bI_t (p := pClash J a b) ⟨q1, q2, q3, q4⟩]
        · rw [if_neg q4, bI_f (p := pClash J a b) (fun z => q4 z.2.2.2)]
      · rw [if_neg q3, bI_f (p := pClash J a b) (fun z => q3 z.2.2.1)]
    · rw [if_neg q2, bI_f (p := pClash J a b) (fun z => q2 z.2.1)]
  · rw [if_neg q1, bI_f (p := pClash J a b) (fun z => q1 z.1)]
theorem em_rank (hj : JI J) {b : Nat} (hb : b < nB J) : wm_rankOf Q J (nI b) = Q (rkB J b) J := by
  have b16 := hj.b hb
  obtain ⟨h1, h2, -⟩ := hj.hBq hb
  obtain ⟨u1, u2, -⟩ := hj.uBq hb
  unfold wm_rankOf rkB
  have e5 : (5 : Int32) * nI (hB J b) + nI (uB J b) = nI (5 * hB J b + uB J b) := by
    have e9 : (5 : Int32) = nI 5 := rfl
    rw [e9, nI_m, nI_a]
  simp only [em_of0 _ b16, em_of6 _ b16, h2, u2, e5, p_tn (show 5 * hB J b + uB J b < 2 ^ 31 by omega), p_vpn (show 5 * hB J b + uB J b < 20 by omega) (by decide), true_and]
theorem em_fire (hj : JI J) {b : Nat} (hb : b < nB J) {h f : Nat} (hh : h < 4) (hf : f < 2) : wm_hasFire Q J (nI b) (nI h) (nI f) = Q (bI (pFire J b h f)) J := by
  have b16 := hj.b hb
  unfold wm_hasFire
  have e5 : (2 : Int32) * nI h + nI f = nI (2 * h + f) := by
    have e9 : (2 : Int32) = nI 2 := rfl
    rw [e9, nI_m, nI_a]
  simp only [em_of5 _ b16, e5, p_tn (show 2 * h + f < 2 ^ 31 by omega), p_vpn (show 2 * h + f < 8 by omega) (by decide), true_and]
  by_cases q : J 6 (2 * h + f) < oB J b 5
  · rw [if_pos q, bI_f (show ¬ _ by unfold pFire; grind)]
  · rw [if_neg q, bI_t (show _ by unfold pFire; grind)]
end M
