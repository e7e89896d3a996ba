/-! PLAIN SIDE 8: halls asked -/
def fHall (J : MS) (h : Nat) (w : Int32) : Int32 := if w = 0 then J 2 h else if w = 1 then J 3 h else if w = 2 then J 4 h else if w = 3 then J 5 h else if 4 ≤ w.toInt ∧ w.toInt ≤ 5 then J 6 (2 * h + (w.toNatClampNeg - 4)) else if 10 ≤ w.toInt ∧ w.toInt ≤ 14 then J 7 (5 * h + (w.toNatClampNeg - 10)) else if 20 ≤ w.toInt ∧ w.toInt ≤ 24 then J 8 (5 * h + (w.toNatClampNeg - 20)) else -1000001
section
variable {J : MS} {S : XS} {x : Nat}
theorem em_hall (Q : Int32 → MS → Prop) {h : Nat} (h1 : h < 4) (w : Int32) : wm_hall Q J (nI h) w = Q (fHall (mset J 0 0 0) h w) (mset J 0 0 0) := by
  generalize hJ : mset J 0 0 0 = J0
  unfold wm_hall fHall
  rw [hJ]
  have hv : vp_in (nI h) 4 := p_vpn h1 (by decide)
  simp only [em_isHall, em_in, bI_ite, Int32.toInt_toInt64, Int64.reduceToInt, hv, true_and, p_tn (show h < 2 ^ 31 by omega)]
  rw [if_pos (by rw [p_nI (by omega)]; omega)]
  split
  · rfl
  split
  · rfl
  split
  · rfl
  split
  · rfl
  have I : ∀ (c d n N : Nat), c < 10 → d ≤ w.toInt.toNat → 0 ≤ w.toInt → w.toInt ≤ 24 → N = c * h + (w.toNatClampNeg - d) → N < n → n < 1000 → (nI c * nI h + w - nI d).toNatClampNeg = N ∧ vp_in (nI c * nI h + w - nI d) n := by
    intro c d n N a1 a2 a3 a4 a5 a6 a7
    obtain ⟨w', w1, rfl⟩ := p_ex (n := 25) a3 (by omega)
    rw [p_tn (by omega)] at a5
    rw [p_nI (by omega)] at a2
    have a8 : c * h ≤ 9 * 3 := Nat.mul_le_mul (by omega) (by omega)
    rw [nI_m, nI_a, nI_s (by omega), p_tn (by omega)]
    exact ⟨by omega, p_vpn (by omega) (by omega)⟩
  have ctn : w.toNatClampNeg = w.toInt.toNat := rfl
  split
  · rename_i q
    obtain ⟨i1, i2⟩ := I 2 4 8 (2 * h + (w.toNatClampNeg - 4)) (by decide) (by omega) (by omega) (by omega) rfl (by omega) (by decide)
    exact propext ⟨fun z => by rw [← i1]; exact z.2, fun z => ⟨i2, by rw [← i1] at z; exact z⟩⟩
  split
  · rename_i q
    obtain ⟨i1, i2⟩ := I 5 10 20 (5 * h + (w.toNatClampNeg - 10)) (by decide) (by omega) (by omega) (by omega) rfl (by omega) (by decide)
    exact propext ⟨fun z => by rw [← i1]; exact z.2, fun z => ⟨i2, by rw [← i1] at z; exact z⟩⟩
  split
  · rename_i q
    obtain ⟨i1, i2⟩ := I 5 20 20 (5 * h + (w.toNatClampNeg - 20)) (by decide) (by omega) (by omega) (by omega) rfl (by omega) (by decide)
    exact propext ⟨fun z => by rw [← i1]; exact z.2, fun z => ⟨i2, by rw [← i1] at z; exact z⟩⟩
  · rfl
theorem ex_hall {ad : Nat → Nat} (g : XA ad J S) (Q : Int32 → XS → Prop) {h : Nat} (h1 : h < 4) (w : Int32) : wx_X0_hall Q S (some (ad 0)) (nI h) w = Q (fHall J h w) S := by
  obtain ⟨g0, g1⟩ := g.ha h h1
  have hv : vp_in (nI h) 4 := p_vpn h1 (by decide)
  have H : (0 ≤ w.toInt ∧ w.toInt ≤ 5) ∨ (10 ≤ w.toInt ∧ w.toInt ≤ 14) ∨ (20 ≤ w.toInt ∧ w.toInt ≤ 24) → wx_X0_hall_47 Q S (some (ad 0)) (nI h) w = Q (fHall J h w) S := by
    intro hw
    obtain ⟨w, w1, rfl⟩ := p_ex (x := w) (n := 25) (by omega) (by omega)
    have wi : (nI w).toInt = w := p_nI (by omega)
    rw [wi] at hw
    unfold wx_X0_hall_47 wx_X2_told wx_X2_told_60 fHall
    simp only [dr_some, g.k0, g.r1, g.k (show 2 ≤ 12 by decide), show kr 2 = 104 from rfl, g.b.l2, hv, g0, g1.ka, g1.i0, g1.i1, g1.i2, g1.i3, g1.r4, g1.r5, g1.r6, g1.kf, g1.kr, g1.kk, g1.lf, g1.lr, g1.lk, true_and, p_tn (show h < 2 ^ 31 by omega), wi, p_tn (show w < 2 ^ 31 by omega)]
    split
    · rfl
    split
    · rfl
    split
    · rfl
    split
    · rfl
    have I : ∀ d : Nat, d ≤ w → (nI w - nI d) = nI (w - d) := fun d hd => nI_s hd
    by_cases q4 : nI w = 4
    · have : w = 4 := (nI_inj (by omega) (by decide)).mp q4
      subst this
      rw [if_pos q4, if_pos (by omega)]
      exact propext ⟨fun z => by rw [← g1.af 0 (by decide)]; exact z.2, fun z => ⟨by unfold vp_in; decide, by rw [← g1.af 0 (by decide)] at z; exact z⟩⟩
    · rw [if_neg q4]
      by_cases q5 : nI w = 5
      · have : w = 5 := (nI_inj (by omega) (by decide)).mp q5
        subst this
        rw [if_pos q5, if_pos (by omega)]
        exact propext ⟨fun z => by rw [← g1.af 1 (by decide)]; exact z.2, fun z => ⟨by unfold vp_in; decide, by rw [← g1.af 1 (by decide)] at z; exact z⟩⟩
      · rw [if_neg q5]
        have n4 : w ≠ 4 := fun z => q4 (by rw [z]; rfl)
        have n5 : w ≠ 5 := fun z => q5 (by rw [z]; rfl)
        rename_i n0 n1 n2 n3
        have n0 : w ≠ 0 := fun z => n0 (by rw [z]; rfl)
        have n1 : w ≠ 1 := fun z => n1 (by rw [z]; rfl)
        have n2 : w ≠ 2 := fun z => n2 (by rw [z]; rfl)
        have n3 : w ≠ 3 := fun z => n3 (by rw [z]; rfl)
        rw [if_neg (show ¬ (4 ≤ (w : Int) ∧ (w : Int) ≤ 5) by omega)]
        by_cases q20 : 20 ≤ w
        · have e20 : (20 : Int32) ≤ nI w := by show nI 20 ≤ nI w; rw [nIq_le (by omega) (by omega)]; exact q20
          rw [if_pos e20, if_neg (show ¬ (10 ≤ (w : Int) ∧ (w : Int) ≤ 14) by omega), if_pos (show 20 ≤ (w : Int) ∧ (w : Int) ≤ 24 by omega)]
          have e : nI w - (20 : Int32) = nI (w - 20) := I 20 q20
          rw [e, p_tn (by omega), g1.ak _ (by omega)]
          exact propext ⟨fun z => z.2, fun z => ⟨p_vpn (by omega) (by decide), z⟩⟩
        · have e20 : ¬ (20 : Int32) ≤ nI w := by show ¬ nI 20 ≤ nI w; rw [nIq_le (by omega) (by omega)]; exact q20
          rw [if_neg e20, if_pos (show 10 ≤ (w : Int) ∧ (w : Int) ≤ 14 by omega)]
          have e : nI w - (10 : Int32) = nI (w - 10) := I 10 (by omega)
          rw [e, p_tn (by omega), g1.ar _ (by omega)]
          exact propext ⟨fun z => z.2, fun z => ⟨p_vpn (by omega) (by decide), z⟩⟩
  unfold wx_X0_hall
  simp only [ex_isHall, ex_in, bI_ite, Int32.toInt_toInt64, Int64.reduceToInt]
  rw [if_pos (by rw [p_nI (by omega)]; omega)]
  split
  · exact H (Or.inl ‹_›)
  split
  · exact H (Or.inr (Or.inl ‹_›))
  split
  · exact H (Or.inr (Or.inr ‹_›))
  · unfold fHall
    have nw : ∀ k : Nat, k ≤ 5 → ¬ w = nI k := by
      intro k hk e
      rename_i z _ _
      rw [e, p_nI (by omega)] at z
      omega
    rw [if_neg (show ¬ w = (0 : Int32) from nw 0 (by decide)), if_neg (show ¬ w = (1 : Int32) from nw 1 (by decide)), if_neg (show ¬ w = (2 : Int32) from nw 2 (by decide)), if_neg (show ¬ w = (3 : Int32) from nw 3 (by decide)), if_neg (by omega), if_neg (by omega), if_neg (by omega)]
theorem op_hall (h : XR x J S) (b w : Int32) : wx_X0_hall (fun r S1 => wm_hall (fun r2 J1 => Ans x r S1 r2 J1) J b w) S (some x) b w := by
  obtain ⟨ad, rfl, h⟩ := h
  by_cases hb : 0 ≤ b.toInt ∧ b.toInt ≤ 3
  · obtain ⟨b, b1, rfl⟩ := p_ex (n := 4) hb.1 (by omega)
    rw [ex_hall h _ b1, em_hall _ b1]
    exact ⟨rfl, ad, rfl, h.m0⟩
  · unfold wx_X0_hall wm_hall
    simp only [ex_isHall, em_isHall, bI_ite]
    rw [if_neg hb, if_neg hb]
    exact ⟨rfl, ad, rfl, h.m0⟩
end
