/-! PLAIN SIDE 24: ask, count -/
section
variable {ad : Nat → Nat} {J : MS} {S : XS} {x : Nat} {b : Nat}
theorem XA.newTrail {J0 : MS} {S1 : XS} {q q2 : Nat} (g : XA ad J0 S) (hq : xKD S q = none) (hS2 : xKD S q2 = none) (hne : q ≠ q2) (c3 : Chg (fun _ => False) S S1) (w1 : xFR S1 100 q = some q2) (w2 : xFI S1 101 q = 0) (w3 : xLN S1 q2 = 16) (w5 : xKD S1 q = some 1) (w6 : xKD S1 q2 = some 100) : ∃ ad', ad' 0 = ad 0 ∧ XA ad' (mset J0 53 0 0) (sFR S1 11 (ad 0) (some q)) := by
  have g3 := g.same c3
  -- the relation with the new trail
  have c : Chg (MR ad [0]) S (sFR S1 11 (ad 0) (some q)) := (c3.mono (fun _ _ z => z.elim)).sFR (Or.inr ⟨0, by simp [xSall], rfl⟩) (some_ne g3.k0)
  have off0 := Off.roles g (R := [0]) (by intro r hr; simp [xSall] at hr; exact lv_f (by omega))
  have off : Off ad (J0 9) (nB J0) S (MR ad [0]) (fun r => r ∈ [0, 9, 10]) := ⟨fun r hr hn => off0.live r hr (fun z => hn (by simp [xSall] at z ⊢; omega)), off0.k9, off0.k10, off0.kro, fun i h3 h7 hn => off0.bk i h3 h7 (fun z => hn (by simp [xSall] at z ⊢; omega))⟩
  have aS : ∀ r, r ≠ 9 → r ≠ 10 → (fun r => if r = 9 then q else if r = 10 then q2 else ad r) r = ad r := fun r z1 z2 => by
    show (if r = 9 then q else if r = 10 then q2 else ad r) = ad r
    rw [if_neg z1, if_neg z2]
  have a9 : (fun r => if r = 9 then q else if r = 10 then q2 else ad r) 9 = q := if_pos rfl
  have a10 : (fun r => if r = 9 then q else if r = 10 then q2 else ad r) 10 = q2 := by
    show (if 10 = 9 then q else if 10 = 10 then q2 else ad 10) = q2
    rw [if_neg (by decide), if_pos rfl]
  generalize (fun r => if r = 9 then q else if r = 10 then q2 else ad r) = ad' at aS a9 a10
  have o : ∀ k, k ∉ [53] → mset J0 53 0 0 k = J0 k := fun k hk => ms_ne (by simpa [xSall] using hk)
  have e53 : mset J0 53 0 0 53 0 = 0 := by rw [ms_eq, if_pos rfl]
  have nq : ∀ r, r ≤ 12 → q ≠ ad r := fun r hr z => by have := g.k hr; rw [← z, hq] at this; cases this
  have G : XA ad' (mset J0 53 0 0) (sFR S1 11 (ad 0) (some q)) := by
    have hnB : nB (mset J0 53 0 0) = nB J0 := by unfold nB; rw [o 24 (by simp [xSall])]
    refine g.gen (K := fun k => k ∈ [53]) (R := fun r => r ∈ [0, 9, 10]) c off (fun r hr => aS r (fun z => hr (by simp [xSall, z])) (fun z => hr (by simp [xSall, z]))) o ?_ ?_ (Or.inr ?_) (Or.inl ⟨by simp [xSall], by simp [xSall]; omega, by simp [xSall], by simp [xSall], by simp [xSall]⟩) (Or.inl ⟨by simp [xSall], by simp [xSall]; omega, by intro k h1 h2; simp [xSall]; omega⟩)
      (Or.inl ⟨by simp [xSall], by simp [xSall], by simp [xSall]⟩) (Or.inl ⟨by simp [xSall], by simp [xSall]; omega, by simp [xSall], by simp [xSall], by simp [xSall]⟩) (Or.inl ⟨by simp [xSall], by simp [xSall]; omega⟩) (Or.inl ⟨by simp [xSall], by simp [xSall]; omega⟩) (Or.inl ⟨by simp [xSall], by simp [xSall]; omega⟩) (Or.inl ⟨by simp [xSall], by simp [xSall]; omega⟩) (Or.inr ?_) (Or.inl (by simp [xSall]; omega))
    · have qJI := g.ji.cong (J' := fun k => if k = 53 then J0 53 else mset J0 53 0 0 k) (fun k hk => by
          by_cases z : k = 53
          · rw [if_pos z, z]
          · rw [if_neg z]; exact ms_ne z)
      refine ⟨qJI.nb, qJI.nc, qJI.ng, qJI.nl, qJI.nm, qJI.row, qJI.can, qJI.hal, qJI.she, qJI.tap, qJI.coi, qJI.giv, qJI.loo, qJI.mee, qJI.day, (by rw [e53]; decide)⟩
    · refine g.b.more c [9, 10] (fun r hr => ?_) (fun r hr => ?_) (fun r hr r' hr' he => ?_) (fun r hr => aS r (by simp [xSall] at hr; omega) (by simp [xSall] at hr; omega)) ?_
      · by_cases z1 : r = 9
        · exact Or.inl (by simp [xSall, z1])
        by_cases z2 : r = 10
        · exact Or.inl (by simp [xSall, z2])
        refine Or.inr ⟨?_, aS r z1 z2⟩
        rw [hnB, o 9 (by simp [xSall])] at hr
        exact hr
      · simp [xSall] at hr
        rcases hr with rfl | rfl
        · rw [a9]; exact ⟨hq, w5⟩
        · rw [a10]; exact ⟨hS2, w6⟩
      · simp [xSall] at hr hr'
        rcases hr with rfl | rfl <;> rcases hr' with rfl | rfl
        · rfl
        · rw [a9, a10] at he; exact absurd he hne
        · rw [a9, a10] at he; exact absurd he.symm hne
        · rfl
      · rw [a10]; exact w3
    · rw [o 13 (by simp [xSall]), o 14 (by simp [xSall]), o 27 (by simp [xSall]), o 1 (by simp [xSall])]
      refine ⟨fun k hk => ?_, ?_, ?_, ?_, ?_, ?_, ?_, ?_⟩
      · rw [aS 0 (by omega) (by omega), aS (k + 1) (by omega) (by omega), xFR_sFR, if_neg (by omega)]; exact g3.f.r k hk
      · rw [aS 0 (by omega) (by omega), a9]; simp [xSall]
      · rw [aS 0 (by omega) (by omega), aS 11 (by omega) (by omega), xFR_sFR, if_neg (by omega)]; exact g3.f.r13
      · rw [aS 0 (by omega) (by omega), aS 12 (by omega) (by omega), xFR_sFR, if_neg (by omega)]; exact g3.f.r14
      · rw [aS 0 (by omega) (by omega)]; exact g3.f.i8
      · rw [aS 0 (by omega) (by omega)]; exact g3.f.i9
      · rw [aS 0 (by omega) (by omega)]; exact g3.f.i10
      · rw [aS 0 (by omega) (by omega)]; exact g3.f.i12
    · refine ⟨?_, ?_, fun i hi => ?_⟩
      · rw [a9, a10, xFR_sFR, if_neg (by omega)]; exact w1
      · rw [a9, e53]; exact w2
      · rw [e53] at hi
        have : (0 : Int32).toInt = 0 := rfl
        omega
  exact ⟨ad', aS 0 (by omega) (by omega), G⟩
theorem op_ask (h : XR x J S) {mc ms : Nat} (hc : 100 ≤ mc) (hm : 1000 ≤ ms) (a w : Int32) : wx_X0_ask (fun r S1 => wm_ask (fun r2 J1 => Ans x r S1 r2 J1) J a w) mc ms S (some x) a w := by
  obtain ⟨ad, rfl, h⟩ := h
  have g := h.m0
  have hji := h.ji
  generalize hJ : mset J 0 0 0 = J0 at g
  unfold wx_X0_ask
  simp only [dr_some, g.k0, true_and, ex_isBooking _ g, ex_in, bI_ite, Int32.toInt_toInt64, Int64.reduceToInt]
  by_cases ha : 0 ≤ a.toInt ∧ a.toInt < nB J0
  · rw [if_pos ha]
    obtain ⟨b, hb, rfl⟩ := p_ex ha.1 ha.2
    by_cases hw : 0 ≤ w.toInt ∧ w.toInt ≤ 1
    · rw [if_pos hw]
      refine ⟨by omega, by omega, fun q hq => ⟨1, 16, by omega, by omega, ?_⟩⟩
      unfold wx_X1_init
      have t16 : Int32.toNatClampNeg (16 : Int32) = 16 := rfl
      simp only [dr_some, t16]
      refine ⟨by decide, by omega, Nat.le_refl _, by omega, fun q2 hq2 => ?_⟩
      have hne : q ≠ q2 := fun z => by rw [z] at hq2; simp [xSall] at hq2
      have hS2 : xKD S q2 = none := by
        rw [xKD_sNew, if_neg (fun z => hne z.symm)] at hq2
        exact hq2
      have c2 : Chg (fun _ => False) S (sNewA (sNew S q 1) q2 100 16) := ((Chg.refl g.b.cl).sNew hq).sNewA (by rw [xKD_sNew, if_neg (fun z => hne z.symm)]; exact hS2)
      have kq : xKD (sNewA (sNew S q 1) q2 100 16) q = some 1 := by simp [xSall, hne]
      have c3 : Chg (fun _ => False) S (sFR (sNewA (sNew S q 1) q2 100 16) 100 q (some q2)) := c2.sFR (Or.inl hq) (some_ne kq)
      have g3 := g.same c3
      have w1 : xFR (sFR (sNewA (sNew S q 1) q2 100 16) 100 q (some q2)) 100 q = some q2 := by simp [xSall]
      have w2 : xFI (sFR (sNewA (sNew S q 1) q2 100 16) 100 q (some q2)) 101 q = 0 := g.b.cl.fi hq 101
      have w3 : xLN (sFR (sNewA (sNew S q 1) q2 100 16) 100 q (some q2)) q2 = 16 := by simp [xSall]
      have w5 : xKD (sFR (sNewA (sNew S q 1) q2 100 16) 100 q (some q2)) q = some 1 := kq
      have w6 : xKD (sFR (sNewA (sNew S q 1) q2 100 16) 100 q (some q2)) q2 = some 100 := by simp [xSall]
      refine ⟨kq, ?_⟩
      generalize sFR (sNewA (sNew S q 1) q2 100 16) 100 q (some q2) = S1 at c3 g3 w1 w2 w3 w5 w6 ⊢
      refine ⟨g3.k0, 2, 10, by omega, by omega, ?_⟩
      obtain ⟨ad', a0, G⟩ := g.newTrail hq hS2 hne c3 w1 w2 w3 w5 w6
      have hb1 : b < nB (mset J0 53 0 0) := by unfold nB; rw [ms_ne (by decide)]; exact hb
      have em : ∀ Q : Int32 → MS → Prop, Q (if w = 0 then szV (mset J0 53 0 0) b (fK (mset J0 53 0 0) b) (fPrice (mset J0 53 0 0) b) else mkV (mset J0 53 0 0) b (fK (mset J0 53 0 0) b) (fPrice (mset J0 53 0 0) b)) (if w = 0 then bgL (mset J0 53 0 0) (szT (fK (mset J0 53 0 0) b)) else bgL (mset J0 53 0 0) (mkT (fK (mset J0 53 0 0) b))) → wm_ask Q J (nI b) w := by
        intro Q k1
        unfold wm_ask
        rw [hJ]
        simp only [em_isBooking _ g.ji, em_in, bI_ite, Int32.toInt_toInt64, Int64.reduceToInt]
        rw [if_pos ha, if_pos hw]
        refine em_kindOf G.ji hb1 _ ?_
        rw [em_sizeOf G.ji hb1 (fK_in _ b), em_markOf G.ji hb1 (fK_in _ b)]
        by_cases e : w = 0
        · rw [if_pos e] at k1 ⊢; rw [if_pos e] at k1; exact k1
        · rw [if_neg e] at k1 ⊢; rw [if_neg e] at k1; exact k1
      rw [← a0] at G ⊢
      refine ex_asked G hb1 (by decide) (by decide) _ (fun S5 q5 hq5 c5 hA => ?_)
      have g5 := G.tu c5
      simp only [g5.k0, g5.f.r11, dr_some, true_and]
      by_cases e : w = 0
      · rw [if_pos e]
        have fin : ∀ r S6, r = szV (mset J0 53 0 0) b (fK (mset J0 53 0 0) b) (fPrice (mset J0 53 0 0) b) → XA ad' (bgL (mset J0 53 0 0) (szT (fK (mset J0 53 0 0) b))) S6 → wm_ask (fun r2 J1 => Ans (ad' 0) r S6 r2 J1) J (nI b) w := by
          intro r S6 hr g6
          refine em (fun r2 J1 => Ans (ad' 0) r S6 r2 J1) ?_
          rw [if_pos e, if_pos e]
          exact ⟨hr.symm, ad', rfl, g6⟩
        exact ex_size _ g5 hb1 hA.q (fun S6 g6 => fin _ S6 rfl g6)
      · rw [if_neg e]
        have fin : ∀ r S6, r = mkV (mset J0 53 0 0) b (fK (mset J0 53 0 0) b) (fPrice (mset J0 53 0 0) b) → XA ad' (bgL (mset J0 53 0 0) (mkT (fK (mset J0 53 0 0) b))) S6 → wm_ask (fun r2 J1 => Ans (ad' 0) r S6 r2 J1) J (nI b) w := by
          intro r S6 hr g6
          refine em (fun r2 J1 => Ans (ad' 0) r S6 r2 J1) ?_
          rw [if_neg e, if_neg e]
          exact ⟨hr.symm, ad', rfl, g6⟩
        exact ex_mark _ g5 hb1 hA.q (fun S6 g6 => fin _ S6 rfl g6)
    · rw [if_neg hw]
      unfold wm_ask
      rw [hJ]
      simp only [em_isBooking _ g.ji, em_in, bI_ite, Int32.toInt_toInt64, Int64.reduceToInt]
      rw [if_pos ha, if_neg hw]
      exact ⟨rfl, ad, rfl, g⟩
  · rw [if_neg ha]
    unfold wm_ask
    rw [hJ]
    simp only [em_isBooking _ g.ji, bI_ite]
    rw [if_neg ha]
    exact ⟨rfl, ad, rfl, g⟩
end
