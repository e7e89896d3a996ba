/-! PLAIN SIDE 13: set -/
section
variable {ad : Nat → Nat} {J J' : MS} {S S4 : XS} {x : Nat}
theorem XA.ks (g : XA ad J S) {s : Nat} (hs : s < 8) (hl : 0 ≤ J 9 s) : xKD S (ad (60 + s)) = some 4 ∧ xKD S (ad (70 + s)) = some 100 := by
  refine ⟨?_, ?_⟩
  · rw [g.b.kd _ (lv_s hs hl)]; unfold kr
    iterate 9 rw [if_neg (by omega)]
    rw [if_neg (by omega), if_neg (by omega), if_pos (by omega)]
  · rw [g.b.kd _ (lv_i hs hl)]; unfold kr
    iterate 9 rw [if_neg (by omega)]
    rw [if_neg (by omega), if_neg (by omega), if_neg (by omega), if_pos (by omega)]
def fCut (l v : Int32) : Int32 := if l = 0 then Int8.toInt32 (Int32.toInt8 v) else if l = 1 then Int16.toInt32 (Int32.toInt16 v) else v
theorem op_set (h : XR x J S) {mc ms : Nat} (hc : 100 ≤ mc) (hm : 1000 ≤ ms) (a i w : Int32) : wx_X0_set (fun r S1 => wm_set (fun r2 J1 => Ans x r S1 r2 J1) J a i w) mc ms S (some x) a i w := by
  obtain ⟨ad, rfl, h⟩ := h
  have g := h.m0
  generalize hJ : mset J 0 0 0 = J0 at g
  unfold wx_X0_set
  simp only [ex_isSheet, bI_ite]
  by_cases ha : 0 ≤ a.toInt ∧ a.toInt ≤ 7
  · simp only [if_pos ha]
    obtain ⟨s, s8, rfl⟩ := p_ex (n := 8) ha.1 (by omega)
    have v : vp_in (nI s) 8 := p_vpn s8 (by decide)
    have hb := g.ji.she s s8
    have m1 : (J0 10 s - 1).toInt = (J0 10 s).toInt - 1 := p_sub1 (by omega)
    have em : ∀ Q : Int32 → MS → Prop, wm_set Q J (nI s) i w = if 0 ≤ J0 9 s then (if 0 ≤ i.toInt ∧ i.toInt ≤ (J0 10 s).toInt - 1 then Q (fCut (J0 9 s) w) (mset (mset J0 1 0 0) 11 (60 * s + i.toNatClampNeg) (fCut (J0 9 s) w)) else Q (-1000010 - 2) (mset (mset J0 1 0 0) 1 0 2)) else Q (-1000010 - 1) (mset (mset J0 1 0 0) 1 0 1) := by
      intro Q
      unfold wm_set
      rw [hJ]
      simp only [em_isSheet, em_in, bI_ite, if_pos ha, v, true_and, p_tn (show s < 2 ^ 31 by omega), ms_ne (show 9 ≠ 1 by decide), ms_ne (show 10 ≠ 1 by decide), em_finding, Int32.toInt_toInt64, Int64.reduceToInt, m1]
      by_cases hl : 0 ≤ J0 9 s
      · simp only [if_pos hl]
        by_cases hi : 0 ≤ i.toInt ∧ i.toInt ≤ (J0 10 s).toInt - 1
        · simp only [if_pos hi]
          obtain ⟨k, k60, rfl⟩ := p_ex (x := i) (n := 60) hi.1 (by omega)
          have e : (60 : Int32) * nI s + nI k = nI (60 * s + k) := by
            have e9 : (60 : Int32) = nI 60 := rfl
            rw [e9, nI_m, nI_a]
          have e99 : ∀ u : Int32, wm_set_99 Q (mset J0 1 0 0) (nI s) (nI k) (nI (60 * s + k)) u = Q u (mset (mset J0 1 0 0) 11 (60 * s + k) u) := by
            intro u
            unfold wm_set_99
            have v2 : vp_in (nI (60 * s + k)) 480 := p_vpn (by omega) (by decide)
            simp only [e, v2, true_and, p_tn (show 60 * s + k < 2 ^ 31 by omega), ms_eq, if_true]
          simp only [e, e99, p_tn (show k < 2 ^ 31 by omega)]
          unfold fCut
          split
          · rfl
          · split <;> rfl
        · simp only [if_neg hi]
      · simp only [if_neg hl]
    simp only [dr_some, g.k0, true_and]
    refine ⟨1, 7, by omega, by omega, ?_⟩
    by_cases hl : 0 ≤ J0 9 s
    · obtain ⟨q0, q1, q2, q3, q4, q5⟩ := g.sh.sm s s8 hl
      obtain ⟨ks, ki⟩ := g.ks s8 hl
      have hln : (xLN S (ad (70 + s)) : Int) = (J0 10 s).toInt := by rw [← q3, p_nI (by omega)]
      have eln : (Int32.ofNat (xLN S (ad (70 + s))) - 1).toInt = (J0 10 s).toInt - 1 := by
        have : Int32.ofNat (xLN S (ad (70 + s))) = J0 10 s := q3
        rw [this]; exact m1
      refine ex_sheetAt1 g s8 hl _ _ _ _ ?_
      simp only [dr_some, ks, q2, ki, g.k0, true_and, ex_in, Int32.toInt_toInt64, Int64.reduceToInt, eln]
      refine ⟨1, 7, by omega, by omega, ?_⟩
      by_cases hi : 0 ≤ i.toInt ∧ i.toInt ≤ (J0 10 s).toInt - 1
      · rw [bI_t hi, ex_must1]
        obtain ⟨k, k60, rfl⟩ := p_ex (x := i) (n := 60) hi.1 (by omega)
        rw [p_nI (by omega)] at hi
        have vk : vp_in (nI k) (xLN S (ad (70 + s))) := p_vpn (by omega) (by omega)
        have ecut : ∀ Q : Int32 → XS → Prop, wx_X5_cut Q S (some (ad (60 + s))) w = Q (fCut (J0 9 s) w) S := by
          intro Q
          unfold wx_X5_cut fCut
          simp only [dr_some, ks, true_and, q1]
          split
          · rfl
          · split <;> rfl
        simp only [ks, true_and, ecut, dr_some, q2, xKD_sAI, ki, vk, xFR_sAI, xLN_sAI, g.k0, p_tn (show k < 2 ^ 31 by omega)]
        unfold wx_X0_well
        have ev : xAI (sAI S (ad (70 + s)) k (fCut (J0 9 s) w)) (ad (70 + s)) k = fCut (J0 9 s) w := by
          rw [xAI_sAI, if_pos rfl]; exact if_pos rfl
        simp only [dr_some, xKD_sAI, g.k0, true_and, ev, em, if_pos hl, p_nI (show k < 2 ^ 31 by omega), if_pos hi, p_tn (show k < 2 ^ 31 by omega)]
        refine ⟨rfl, ad, rfl, ?_⟩
        have hR : ∀ r ∈ [0, 70 + s], lv (J0 9) (nB J0) r := by
          intro r hr
          simp [xSall] at hr
          rcases hr with rfl | rfl
          · exact lv_f (by decide)
          · exact lv_i s8 hl
        have off := Off.roles g hR
        have c : Chg (MR ad [0, 70 + s]) S (sFI (sAI S (ad (70 + s)) k (fCut (J0 9 s) w)) 12 (ad 0) 0) := ((Chg.refl g.b.cl).sAI (Or.inr ⟨70 + s, by simp [xSall], rfl⟩) (some_ne ki)).sFI (Or.inr ⟨0, by simp [xSall], rfl⟩) (some_ne g.k0)
        have e11 : ∀ t, mset (mset J0 1 0 0) 11 (60 * s + k) (fCut (J0 9 s) w) 11 t = if t = 60 * s + k then fCut (J0 9 s) w else J0 11 t := by intro t; rw [ms_eq, ms_ne (by decide)]
        have o : ∀ q, q ∉ [1, 11] → mset (mset J0 1 0 0) 11 (60 * s + k) (fCut (J0 9 s) w) q = J0 q := by
          intro q hq; simp [xSall] at hq; rw [ms_ne hq.2, ms_ne hq.1]
        have e1 : mset (mset J0 1 0 0) 11 (60 * s + k) (fCut (J0 9 s) w) 1 0 = 0 := by rw [ms_ne (by decide), ms_eq, if_pos rfl]
        generalize mset (mset J0 1 0 0) 11 (60 * s + k) (fCut (J0 9 s) w) = J' at o e11 e1 ⊢
        have hnB : nB J' = nB J0 := by unfold nB; rw [o 24 (by simp [xSall])]
        refine g.gen (K := fun k => k ∈ [1, 11]) (R := fun r => r ∈ [0, 70 + s]) c off (fun _ _ => rfl) o ?_ ?_ (Or.inr ?_) (Or.inr ?_) (Or.inl ⟨by simp [xSall]; omega, by simp [xSall]; omega, by intro k h1 h2; simp [xSall]; omega⟩)
          (Or.inl ⟨by simp [xSall]; omega, by simp [xSall], by simp [xSall]⟩) (Or.inl ⟨by simp [xSall]; omega, by simp [xSall]; omega, by simp [xSall], by simp [xSall], by simp [xSall]⟩) (Or.inl ⟨by simp [xSall]; omega, by simp [xSall]; omega⟩) (Or.inl ⟨by simp [xSall]; omega, by simp [xSall]; omega⟩) (Or.inl ⟨by simp [xSall]; omega, by simp [xSall]; omega⟩) (Or.inl ⟨by simp [xSall]; omega, by simp [xSall]; omega⟩) (Or.inl ⟨by simp [xSall]; omega, by simp [xSall]; omega, by simp [xSall], by simp [xSall]⟩) (Or.inl (by simp [xSall]; omega))
        · have qJI := g.ji.cong (J' := fun k => if k = 11 then J0 11 else J' k) (fun k hk => by
              by_cases z : k = 11
              · rw [if_pos z, z]
              · rw [if_neg z]; exact o k (by unfold kFree at hk; simp [xSall] at hk ⊢; omega))
          exact ⟨qJI.nb, qJI.nc, qJI.ng, qJI.nl, qJI.nm, qJI.row, qJI.can, qJI.hal, qJI.she, qJI.tap, qJI.coi, qJI.giv, qJI.loo, qJI.mee, qJI.day, qJI.tra⟩
        · exact (g.b.kept c).cong (o 9 (by simp [xSall])) hnB
        · rw [o 13 (by simp [xSall]), o 14 (by simp [xSall]), o 27 (by simp [xSall]), e1]
          exact ⟨g.f.r, g.f.r11, g.f.r13, g.f.r14, by simpa [xSall] using g.f.i8, by simpa [xSall] using g.f.i9, by simpa [xSall] using g.f.i10, by simp [xSall]⟩
        · rw [o 9 (by simp [xSall]), o 10 (by simp [xSall])]
          refine ⟨fun t ht hl' => ?_, fun t ht hl' => ?_⟩
          · refine ⟨(g.sh.sm t ht hl').1, ?_⟩
            by_cases z : t = s
            · subst z
              refine ⟨by simpa [xSall] using q1, by simpa [xSall] using q2, by simpa [xSall] using q3, by simpa [xSall] using q4, fun j hj => ?_⟩
              rw [xAI_sFI, xAI_sAI, if_pos rfl]
              unfold upd
              show _ = J' 11 (60 * t + j)
              rw [e11]
              by_cases w2 : j = k
              · rw [if_pos w2, if_pos (by omega)]
              · rw [if_neg w2, if_neg (by omega)]
                exact q5 j hj
            · have := (g.sh.sm t ht hl').2.kept c (some_ne (g.b.kd _ (lv_s ht hl'))) (some_ne (g.b.kd _ (lv_i ht hl'))) (off.live _ (lv_s ht hl') (by simp [xSall]; omega)) (off.live _ (lv_i ht hl') (by simp [xSall]; omega))
              obtain ⟨w1, w2, w3, w4, w5⟩ := this
              refine ⟨w1, w2, w3, w4, fun j hj => ?_⟩
              show _ = J' 11 (60 * t + j)
              rw [w5 j hj, e11, if_neg (by omega)]
          · exact g.sh.nn t ht hl'
      · rw [bI_f hi]
        refine ex_must0 _ _ 2 g.b.cl (Nat.le_refl _) (Nat.le_refl _) (fun q S4 hq c4 kq hn => ?_)
        unfold wx_X0_set_61
        simp only [em, if_pos hl, if_neg hi, dr_some]
        exact ⟨(g.same c4).k0, ex_found (J' := mset (mset J0 1 0 0) 1 0 2) g c4 kq hn _ J11 (by rw [ms_eq, if_pos rfl]) (fun S' g' => ⟨rfl, ad, rfl, g'⟩)⟩
    · refine ex_sheetAt0 g s8 hl _ _ (Nat.le_refl _) (Nat.le_refl _) (fun q S4 hq c4 kq hn => ?_)
      unfold wx_X0_set_61
      simp only [em, if_neg hl, dr_some]
      exact ⟨(g.same c4).k0, ex_found (J' := mset (mset J0 1 0 0) 1 0 1) g c4 kq hn _ J11 (by rw [ms_eq, if_pos rfl]) (fun S' g' => ⟨rfl, ad, rfl, g'⟩)⟩
  · unfold wm_set
    simp only [em_isSheet, bI_ite]
    simp only [if_neg ha, hJ]
    exact ⟨rfl, ad, rfl, g⟩
end
