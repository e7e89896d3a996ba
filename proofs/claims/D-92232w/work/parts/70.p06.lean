/-! PLAIN SIDE 6: the class side's small methods -/
section X
variable {ad : Nat → Nat} {J : MS} {S : XS} (Q : Int32 → XS → Prop)
theorem ex_isSheet (v : Int32) : wx_X0_isSheet Q S v = Q (bI (0 ≤ v.toInt ∧ v.toInt ≤ 7)) S := by
  unfold wx_X0_isSheet
  simp only [ex_in, bI_nar, true_and, Int32.toInt_toInt64, Int64.reduceToInt]
theorem ex_isHall (v : Int32) : wx_X0_isHall Q S v = Q (bI (0 ≤ v.toInt ∧ v.toInt ≤ 3)) S := by
  unfold wx_X0_isHall
  simp only [ex_in, bI_nar, true_and, Int32.toInt_toInt64, Int64.reduceToInt]
theorem ex_isDay (v : Int32) : wx_X0_isDay Q S v = Q (bI (0 ≤ v.toInt ∧ v.toInt ≤ 364)) S := by
  unfold wx_X0_isDay
  simp only [ex_in, bI_nar, true_and, Int32.toInt_toInt64, Int64.reduceToInt]
theorem ex_isKey (v : Int32) : wx_X0_isKey Q S v = Q (bI (0 ≤ v.toInt ∧ v.toInt ≤ 3)) S := by
  unfold wx_X0_isKey
  simp only [ex_in, bI_nar, true_and, Int32.toInt_toInt64, Int64.reduceToInt]
theorem ex_isPerson (v : Int32) : wx_X0_isPerson Q S v = Q (bI (0 ≤ v.toInt ∧ v.toInt ≤ 9)) S := by
  unfold wx_X0_isPerson
  simp only [ex_in, bI_nar, true_and, Int32.toInt_toInt64, Int64.reduceToInt]
theorem ex_isTime (h d q l : Int32) : wx_X0_isTime Q S h d q l = Q (bI ((0 ≤ h.toInt ∧ h.toInt ≤ 3) ∧ (0 ≤ d.toInt ∧ d.toInt ≤ 364) ∧ (0 ≤ q.toInt ∧ q.toInt ≤ l.toInt))) S := by
  unfold wx_X0_isTime
  simp only [ex_isHall, ex_isDay, ex_in, bI_ite, Int32.toInt_toInt64, Int64.reduceToInt, ite_ite]
  exact bI_of _ (fun r => Q r S)
theorem ex_quarters (a b : Int32) : wx_X0_areQuarters Q S a b = Q (bI ((0 ≤ a.toInt ∧ a.toInt ≤ 95) ∧ (a.toInt + 1 ≤ b.toInt ∧ b.toInt ≤ 96))) S := by
  unfold wx_X0_areQuarters
  simp only [ex_in, bI_ite, Int32.toInt_toInt64, Int64.reduceToInt, ite_ite]
  have e : (if (0 ≤ a.toInt ∧ a.toInt ≤ 95) ∧ (a + 1).toInt ≤ b.toInt ∧ b.toInt ≤ 96 then Q 1 S else Q 0 S) = Q (bI ((0 ≤ a.toInt ∧ a.toInt ≤ 95) ∧ (a + 1).toInt ≤ b.toInt ∧ b.toInt ≤ 96)) S := bI_of _ (fun r => Q r S)
  rw [e]
  refine congrArg (fun r => Q r S) (bI_cong ?_)
  refine and_congr_right (fun h => ?_)
  rw [Int32.toInt_add]
  have : (1 : Int32).toInt = 1 := rfl
  rw [this, Int.bmod_eq_of_le] <;> omega
theorem XA.k (h : XA ad J S) {r : Nat} (hr : r ≤ 12) : xKD S (ad r) = some (kr r) := h.b.kd r (lv_f hr)
theorem XA.k0 (h : XA ad J S) : xKD S (ad 0) = some 0 := h.k (by decide)
theorem XA.r0 (h : XA ad J S) : xFR S 0 (ad 0) = some (ad 1) := h.f.r 0 (by decide)
theorem XA.r1 (h : XA ad J S) : xFR S 1 (ad 0) = some (ad 2) := h.f.r 1 (by decide)
theorem XA.r2 (h : XA ad J S) : xFR S 2 (ad 0) = some (ad 3) := h.f.r 2 (by decide)
theorem XA.r3 (h : XA ad J S) : xFR S 3 (ad 0) = some (ad 4) := h.f.r 3 (by decide)
theorem XA.r4 (h : XA ad J S) : xFR S 4 (ad 0) = some (ad 5) := h.f.r 4 (by decide)
theorem XA.r5 (h : XA ad J S) : xFR S 5 (ad 0) = some (ad 6) := h.f.r 5 (by decide)
theorem XA.r6 (h : XA ad J S) : xFR S 6 (ad 0) = some (ad 7) := h.f.r 6 (by decide)
theorem XA.r7 (h : XA ad J S) : xFR S 7 (ad 0) = some (ad 8) := h.f.r 7 (by decide)
theorem XA.kb (h : XA ad J S) {b : Nat} (hb : b < nB J) : xKD S (ad (100 + b)) = some 7 := by
  rw [h.b.kd _ (lv_b hb)]
  unfold kr
  repeat rw [if_neg (by omega)]
theorem XA.kh (h : XA ad J S) {i : Nat} (hi : i < 4) : xKD S (ad (20 + i)) = some 2 := (h.ha i hi).2.ka
theorem XA.bf (h : XA ad J S) {b : Nat} (hb : b < nB J) : xFI S 700 (ad (100 + b)) = nI b ∧ xFI S 701 (ad (100 + b)) = oB J b 0 ∧ xFI S 702 (ad (100 + b)) = oB J b 1 ∧ xFI S 703 (ad (100 + b)) = oB J b 2 ∧ xFI S 704 (ad (100 + b)) = oB J b 3 ∧ xFI S 705 (ad (100 + b)) = oB J b 4 ∧ xFI S 706 (ad (100 + b)) = oB J b 5 ∧ xFI S 707 (ad (100 + b)) = oB J b 6 ∧ xFI S 708 (ad (100 + b)) = oB J b 7 ∧ xFI S 709 (ad (100 + b)) = oB J b 8 ∧ xFI S 710 (ad (100 + b)) = J 26 b := by
  have g := h.bk.f b hb
  exact ⟨g.1, g.2.1 0 (by decide), g.2.1 1 (by decide), g.2.1 2 (by decide), g.2.1 3 (by decide), g.2.1 4 (by decide), g.2.1 5 (by decide), g.2.1 6 (by decide), g.2.1 7 (by decide), g.2.1 8 (by decide), g.2.2⟩
theorem ex_isBooking (h : XA ad J S) (v : Int32) : wx_X0_isBooking Q S (some (ad 0)) v = Q (bI (0 ≤ v.toInt ∧ v.toInt < nB J)) S := by
  unfold wx_X0_isBooking
  have h1 : (nI (nB J) - 1).toInt = (nB J : Int) - 1 := by
    rw [Int32.toInt_sub, p_nI (by have := h.ji.nb.2; omega)]
    have : (1 : Int32).toInt = 1 := rfl
    rw [this]
    have := h.ji.nb.2
    rw [Int.bmod_eq_of_le] <;> omega
  simp only [dr_some, h.k0, h.r2, h.bk.ls.1, h.bk.ls.size, ex_in, bI_nar, true_and, Int32.toInt_toInt64, Int64.reduceToInt, h1]
  exact congrArg (fun r => Q r S) (bI_cong (by omega))
theorem ex_price (h : XA ad J S) {b : Nat} (hb : b < nB J) : wx_X0_price Q S (some (ad 0)) (some (ad (100 + b))) = Q (fPrice J b) S := by
  obtain ⟨h1, h2, -⟩ := h.ji.hBq hb
  obtain ⟨u1, u2, -⟩ := h.ji.uBq hb
  obtain ⟨f0, f1, f2, f3, f4, f5, f6, f7, f8, f9, f10⟩ := h.bf hb
  obtain ⟨g0, g⟩ := h.ha (hB J b) h1
  unfold wx_X0_price
  simp only [dr_some, h.k0, h.kb hb, h.r1, h.k (show 2 ≤ 12 by decide), show kr 2 = 104 from rfl, f1, f3, f4, f5, f7, f10, h2, u2, h.b.l2, p_tn (show hB J b < 2 ^ 31 by omega), p_tn (show uB J b < 2 ^ 31 by omega), p_vpn (show hB J b < 4 by omega) (by decide), p_vpn (show uB J b < 5 by omega) (by decide), g0, g.ka, g.r5, g.kr, g.lr, g.ar _ u1, g.i2, g.i3, true_and]
  unfold fPrice
  split
  · rfl
  · split <;> rfl
theorem ex_there (h : XA ad J S) {b : Nat} (hb : b < nB J) (d : Int32) : wx_X8_isThere Q S (some (ad (100 + b))) d = Q (bI (pThere J b d)) S := by
  obtain ⟨f0, f1, f2, f3, f4, f5, f6, f7, f8, f9, f10⟩ := h.bf hb
  unfold wx_X8_isThere
  simp only [dr_some, h.kb hb, f9, f10, true_and]
  by_cases h1 : d < oB J b 8
  · rw [if_pos h1, bI_f (show ¬ _ by unfold pThere; grind)]
  · rw [if_neg h1]
    by_cases h2 : J 26 b = -1000000
    · rw [if_pos h2, bI_t (show _ by unfold pThere; grind)]
    · rw [if_neg h2]
      by_cases h3 : J 26 b ≤ d
      · rw [if_pos h3, bI_f (show ¬ _ by unfold pThere; grind)]
      · rw [if_neg h3, bI_t (show _ by unfold pThere; grind)]
abbrev pAt (J : MS) (b : Nat) (h f d : Int32) : Prop := oB J b 0 = h ∧ oB J b 1 = f ∧ oB J b 2 = d
theorem ex_isAt (h : XA ad J S) {b : Nat} (hb : b < nB J) (r : Option Nat) (v w d : Int32) : wx_X0_isAt Q S r (some (ad (100 + b))) v w d = Q (bI (pAt J b v w d)) S := by
  obtain ⟨f0, f1, f2, f3, f4, f5, f6, f7, f8, f9, f10⟩ := h.bf hb
  unfold wx_X0_isAt
  simp only [dr_some, h.kb hb, f1, f2, f3, true_and, ite_ite]
  exact bI_of _ (fun r => Q r S)
/-- whether at its time a booking is in another one's way -/
abbrev pAg (J : MS) (b : Nat) (fr to us setup : Int32) : Prop := oB J b 3 < to + (if oB J b 6 = us then 0 else setup) ∧ fr < oB J b 4 + (if oB J b 6 = us then 0 else setup)
theorem ex_against (h : XA ad J S) {b : Nat} (hb : b < nB J) (fr to us setup : Int32) : wx_X8_isAgainst Q S (some (ad (100 + b))) fr to us setup = Q (bI (pAg J b fr to us setup)) S := by
  obtain ⟨f0, f1, f2, f3, f4, f5, f6, f7, f8, f9, f10⟩ := h.bf hb
  unfold wx_X8_isAgainst wx_X8_isAgainst_14
  simp only [dr_some, h.kb hb, f4, f5, f7, true_and]
  by_cases e : oB J b 6 = us
  · simp only [if_pos e]
    by_cases h1 : to + 0 ≤ oB J b 3
    · rw [if_pos h1, bI_f (show ¬ _ by unfold pAg; grind)]
    · rw [if_neg h1]
      by_cases h2 : oB J b 4 + 0 ≤ fr
      · rw [if_pos h2, bI_f (show ¬ _ by unfold pAg; grind)]
      · rw [if_neg h2, bI_t (show _ by unfold pAg; grind)]
  · simp only [if_neg e]
    by_cases h1 : to + setup ≤ oB J b 3
    · rw [if_pos h1, bI_f (show ¬ _ by unfold pAg; grind)]
    · rw [if_neg h1]
      by_cases h2 : oB J b 4 + setup ≤ fr
      · rw [if_pos h2, bI_f (show ¬ _ by unfold pAg; grind)]
      · rw [if_neg h2, bI_t (show _ by unfold pAg; grind)]
theorem ex_clash (h : XA ad J S) {a b : Nat} (ha : a < nB J) (hb : b < nB J) : wx_X0_isClash Q S (some (ad 0)) (some (ad (100 + a))) (some (ad (100 + b))) = Q (bI (pClash J a b)) S := by
  obtain ⟨f0, f1, f2, f3, f4, f5, f6, f7, f8, f9, f10⟩ := h.bf hb
  obtain ⟨e0, e1, e2, e3, e4, e5, e6, e7, e8, e9, e10⟩ := h.bf ha
  obtain ⟨h1, h2, -⟩ := h.ji.hBq ha
  obtain ⟨g0, g⟩ := h.ha (hB J a) h1
  unfold wx_X0_isClash
  simp only [dr_some, h.k0, h.kb hb, h.kb ha, true_and, ex_isAt _ h ha, bI_ite, f1, f2, f3, f4, f5, f7, e1, h.r1, h.k (show 2 ≤ 12 by decide), show kr 2 = 104 from rfl, h2, h.b.l2, p_tn (show hB J a < 2 ^ 31 by omega), p_vpn (show hB J a < 4 by omega) (by decide), g0, g.ka, g.i0, ex_against _ h ha, ite_ite]
  by_cases q : pAt J a (oB J b 0) (oB J b 1) (oB J b 2) ∧ pAg J a (oB J b 3) (oB J b 4) (oB J b 6) (J 2 (hB J a))
  · rw [if_pos q, bI_t (p := pClash J a b) ⟨q.1.1, q.1.2.1, q.1.2.2, q.2⟩]
  · rw [if_neg q, bI_f (p := pClash J a b) (fun z => q ⟨⟨z.1, z.2.1, z.2.2.1⟩, z.2.2.2⟩)]
end X
