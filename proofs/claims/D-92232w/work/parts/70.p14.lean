/-! PLAIN SIDE 14: sheet -/
section
variable {ad : Nat → Nat} {J J' : MS} {S S4 : XS} {x : Nat}
theorem em_zero (Q : Int32 → MS → Prop) {s : Nat} (s8 : s < 8) (n : Int32) : ∀ m, m ≤ 60 → ∀ J : MS, (∀ J' : MS, (∀ k, k ≠ 11 → J' k = J k) → (∀ t, J' 11 t = if 60 * s + (60 - m) ≤ t ∧ t < 60 * s + 60 then 0 else J 11 t) → Q n J') → wm_sheet_65 Q (m + 1) J (nI s) n (nI (60 - m)) := by
  intro m
  induction m with
  | zero =>
    intro _ J k
    unfold wm_sheet_65
    rw [if_pos (by decide)]
    exact k J (fun _ _ => rfl) (fun t => by rw [if_neg (by omega)])
  | succ m ih =>
    intro hm J k
    unfold wm_sheet_65
    have e : (60 : Int32) * nI s + nI (60 - (m + 1)) = nI (60 * s + (60 - (m + 1))) := by
      have e9 : (60 : Int32) = nI 60 := rfl
      rw [e9, nI_m, nI_a]
    rw [if_neg (by show ¬ nI 60 ≤ nI (60 - (m + 1)); rw [nIq_le (by omega) (by omega)]; omega), e, p_tn (by omega), nI_tInc, show 60 - (m + 1) + 1 = 60 - m by omega]
    refine ⟨p_vpn (by omega) (by decide), ih (by omega) _ (fun J' h1 h2 => k J' (fun k hk => (h1 k hk).trans (ms_ne hk)) (fun t => ?_))⟩
    rw [h2, ms_eq]
    by_cases z : t = 60 * s + (60 - (m + 1))
    · rw [if_pos z, if_neg (by omega), if_pos (by omega)]
    · rw [if_neg z]
      by_cases w : 60 * s + (60 - m) ≤ t ∧ t < 60 * s + 60
      · rw [if_pos w, if_pos (by omega)]
      · rw [if_neg w, if_neg (by omega)]
theorem op_sheet (h : XR x J S) {mc ms : Nat} (hc : 100 ≤ mc) (hm : 1000 ≤ ms) (a l n : Int32) : wx_X0_sheet (fun r S1 => wm_sheet (fun r2 J1 => Ans x r S1 r2 J1) J a l n) mc ms S (some x) a l n := by
  obtain ⟨ad, rfl, h⟩ := h
  have g := h.m0
  generalize hJ : mset J 0 0 0 = J0 at g
  unfold wx_X0_sheet
  simp only [ex_isSheet, bI_ite, ex_in, Int32.toInt_toInt64, Int64.reduceToInt]
  by_cases ha : 0 ≤ a.toInt ∧ a.toInt ≤ 7
  · simp only [if_pos ha]
    obtain ⟨s, s8, rfl⟩ := p_ex (n := 8) ha.1 (by omega)
    by_cases hl : 0 ≤ l.toInt ∧ l.toInt ≤ 2
    · simp only [if_pos hl]
      by_cases hn : n ≤ 60
      · simp only [if_pos hn]
        have v : vp_in (nI s) 8 := p_vpn s8 (by decide)
        have hn' : n.toInt ≤ 60 := p_le.mp hn
        unfold wx_X0_sheet_37
        by_cases h0 : n < 0
        · rw [if_pos h0]
          refine ⟨1, 7, by omega, by omega, ?_⟩
          refine ex_must0 _ _ 4 g.b.cl (Nat.le_refl _) (Nat.le_refl _) (fun q S4 hq c4 kq hn => ?_)
          simp only [dr_some]
          unfold wm_sheet
          simp only [em_isSheet, em_in, bI_ite, if_pos ha, Int32.toInt_toInt64, Int64.reduceToInt, if_pos hl, hJ, if_pos ‹n ≤ 60›, if_neg (show ¬ 0 ≤ n by grind), em_finding]
          exact ⟨(g.same c4).k0, ex_found (J' := mset (mset J0 1 0 0) 1 0 4) g c4 kq hn _ J11 (by rw [ms_eq, if_pos rfl]) (fun S' g' => ⟨rfl, ad, rfl, g'⟩)⟩
        · rw [if_neg h0]
          obtain ⟨n, n61, rfl⟩ := p_ex (x := n) (n := 61) (by rw [p_lt] at h0; have : (0 : Int32).toInt = 0 := rfl; omega) (by omega)
          refine ⟨1, 7, by omega, by omega, ?_⟩
          rw [ex_must1]
          simp only [dr_some]
          refine ⟨g.k0, by omega, by omega, fun q hq => ⟨1, 100, by omega, by omega, ?_⟩⟩
          unfold wx_X5_init
          simp only [dr_some, xKD_sNew, if_true, true_and, p_tn (show n < 2 ^ 31 by omega)]
          refine ⟨nI_nn (by omega), by omega, Nat.le_refl _, by omega, fun q3 hq3 => ?_⟩
          have k1 : xKD S (ad 1) = some 105 := g.k (by decide)
          have hq3' : xKD (sNew S q 4) q3 = none := hq3
          have c2 : Chg (fun _ => False) S (sNewA (sFI (sNew S q 4) 400 q l) q3 100 n) := (((Chg.refl g.b.cl).sNew hq).sFI (Or.inl hq) (by simp [xSall])).sNewA hq3
          have hne : q ≠ q3 := fun z => by rw [z] at hq3'; simp [xSall] at hq3'
          have hS3 : xKD S q3 = none := by
            rw [xKD_sNew, if_neg (fun z => hne z.symm)] at hq3'
            exact hq3'
          have kq : xKD (sNewA (sFI (sNew S q 4) 400 q l) q3 100 n) q = some 4 := by simp [xSall, hne]
          have c3 : Chg (fun _ => False) S (sFR (sNewA (sFI (sNew S q 4) 400 q l) q3 100 n) 401 q (some q3)) := c2.sFR (Or.inl hq) (some_ne kq)
          have g1 := g.same c3
          have w1 : xFI (sFR (sNewA (sFI (sNew S q 4) 400 q l) q3 100 n) 401 q (some q3)) 400 q = l := by simp [xSall]
          have w2 : xFR (sFR (sNewA (sFI (sNew S q 4) 400 q l) q3 100 n) 401 q (some q3)) 401 q = some q3 := by simp [xSall]
          have w3 : xLN (sFR (sNewA (sFI (sNew S q 4) 400 q l) q3 100 n) 401 q (some q3)) q3 = n := by simp [xSall]
          have w4 : ∀ i, xAI (sFR (sNewA (sFI (sNew S q 4) 400 q l) q3 100 n) 401 q (some q3)) q3 i = 0 := fun i => g.b.cl.ai hS3 i
          have w5 : xKD (sFR (sNewA (sFI (sNew S q 4) 400 q l) q3 100 n) 401 q (some q3)) q = some 4 := kq
          have w6 : xKD (sFR (sNewA (sFI (sNew S q 4) 400 q l) q3 100 n) 401 q (some q3)) q3 = some 100 := by simp [xSall]
          rw [show xFR S 0 (ad 0) = some (ad 1) from g.r0]
          simp only [dr_some]
          generalize sFR (sNewA (sFI (sNew S q 4) 400 q l) q3 100 n) 401 q (some q3) = S1 at c3 g1 w1 w2 w3 w4 w5 w6 ⊢
          have k1' : xKD S1 (ad 1) = some 105 := g1.k (by decide)
          have r1 : xRO S1 (ad 1) = false := g1.b.ro 1 (lv_f (by decide))
          simp only [k1', r1, g1.b.l1, v, w5, p_tn (show s < 2 ^ 31 by omega), true_and, xKD_sAR, g1.k0]
          unfold wx_X0_well
          simp only [dr_some, xKD_sAR, g1.k0, true_and]
          unfold wm_sheet
          simp only [em_isSheet, em_in, bI_ite, if_pos ha, Int32.toInt_toInt64, Int64.reduceToInt, if_pos hl, hJ, if_pos hn, if_pos (show 0 ≤ nI n by grind), v, true_and, p_tn (show s < 2 ^ 31 by omega)]
          refine ⟨61, em_zero _ s8 (nI n) 60 (Nat.le_refl _) _ (fun J' o' e11 => ⟨rfl, fun r => if r = 60 + s then q else if r = 70 + s then q3 else ad r, ?_, ?_⟩)⟩
          · simp only [if_neg (show ¬ 0 = 60 + s by omega), if_neg (show ¬ 0 = 70 + s by omega)]
          · have e9 : ∀ i, J' 9 i = if i = s then l else J0 9 i := by intro i; rw [o' 9 (by decide), ms_ne (by decide), ms_eq, ms_ne (by decide)]
            have e10 : ∀ i, J' 10 i = if i = s then nI n else J0 10 i := by intro i; rw [o' 10 (by decide), ms_eq, ms_ne (by decide), ms_ne (by decide)]
            have e1 : J' 1 0 = 0 := by rw [o' 1 (by decide), ms_ne (by decide), ms_ne (by decide), ms_eq, if_pos rfl]
            have e11 : ∀ t, J' 11 t = if 60 * s ≤ t ∧ t < 60 * s + 60 then 0 else J0 11 t := by
              intro t; rw [e11, ms_ne (by decide), ms_ne (by decide), ms_ne (by decide)]; rfl
            have o : ∀ k, k ∉ [1, 9, 10, 11] → J' k = J0 k := by
              intro k hk; simp [xSall] at hk; rw [o' k hk.2.2.2, ms_ne hk.2.2.1, ms_ne hk.2.1, ms_ne hk.1]
            have hnB : nB J' = nB J0 := by unfold nB; rw [o 24 (by simp [xSall])]
            have hl0 : 0 ≤ l := p_ge0.mpr hl.1
            have c : Chg (MR ad [0, 1]) S (sFI (sAR S1 (ad 1) s (some q)) 12 (ad 0) 0) := ((c3.mono (fun _ _ z => z.elim)).sAR (Or.inr ⟨1, by simp [xSall], rfl⟩) (some_ne k1')).sFI (Or.inr ⟨0, by simp [xSall], rfl⟩) (some_ne g1.k0)
            have off0 := Off.roles g (R := [0, 1]) (by intro r hr; simp [xSall] at hr; exact lv_f (by omega))
            have off : Off ad (J0 9) (nB J0) S (MR ad [0, 1]) (fun r => r ∈ [0, 1, 60 + s, 70 + s]) := ⟨fun r hr hn => off0.live r hr (fun z => hn (by simp [xSall] at z ⊢; omega)), off0.k9, off0.k10, off0.kro, fun i h3 h7 hn => off0.bk i h3 h7 (fun z => hn (by simp [xSall] at z ⊢; omega))⟩
            have aS : ∀ r, r ≠ 60 + s → r ≠ 70 + s → (fun r => if r = 60 + s then q else if r = 70 + s then q3 else ad r) r = ad r := fun r z1 z2 => by
              show (if r = 60 + s then q else if r = 70 + s then q3 else ad r) = ad r
              rw [if_neg z1, if_neg z2]
            have aq : (fun r => if r = 60 + s then q else if r = 70 + s then q3 else ad r) (60 + s) = q := if_pos rfl
            have aq3 : (fun r => if r = 60 + s then q else if r = 70 + s then q3 else ad r) (70 + s) = q3 := by
              show (if 70 + s = 60 + s then q else if 70 + s = 70 + s then q3 else ad (70 + s)) = q3
              rw [if_neg (by omega), if_pos rfl]
            generalize (fun r => if r = 60 + s then q else if r = 70 + s then q3 else ad r) = ad' at aS aq aq3 ⊢
            have ne1 : q ≠ ad 1 := fun z => by have := g.k (show 1 ≤ 12 by decide); rw [← z, hq] at this; cases this
            have ne0 : q ≠ ad 0 := fun z => by have := g.k0; rw [← z, hq] at this; cases this
            have ne31 : q3 ≠ ad 1 := fun z => by have := g.k (show 1 ≤ 12 by decide); rw [← z, hS3] at this; cases this
            refine g.gen (K := fun k => k ∈ [1, 9, 10, 11]) (R := fun r => r ∈ [0, 1, 60 + s, 70 + s]) c off (fun r hr => aS r (fun z => hr (by simp [xSall, z])) (fun z => hr (by simp [xSall, z]))) o ?_ ?_ (Or.inr ?_) (Or.inr ?_) (Or.inl ⟨by simp [xSall]; omega, by simp [xSall]; omega, by intro k h1 h2; simp [xSall]; omega⟩)
              (Or.inl ⟨by simp [xSall]; omega, by simp [xSall], by simp [xSall]⟩) (Or.inl ⟨by simp [xSall]; omega, by simp [xSall]; omega, by simp [xSall], by simp [xSall], by simp [xSall]⟩) (Or.inl ⟨by simp [xSall]; omega, by simp [xSall]; omega⟩) (Or.inl ⟨by simp [xSall]; omega, by simp [xSall]; omega⟩) (Or.inl ⟨by simp [xSall]; omega, by simp [xSall]; omega⟩) (Or.inl ⟨by simp [xSall]; omega, by simp [xSall]; omega⟩) (Or.inl ⟨by simp [xSall]; omega, by simp [xSall]; omega, by simp [xSall], by simp [xSall]⟩) (Or.inl (by simp [xSall]; omega))
            · have qJI := g.ji.cong (J' := fun k => if k = 9 then J0 9 else if k = 10 then J0 10 else if k = 11 then J0 11 else J' k) (fun k hk => by
                  by_cases z : k = 9
                  · rw [if_pos z, z]
                  · rw [if_neg z]
                    by_cases z2 : k = 10
                    · rw [if_pos z2, z2]
                    · rw [if_neg z2]
                      by_cases z3 : k = 11
                      · rw [if_pos z3, z3]
                      · rw [if_neg z3]; exact o k (by unfold kFree at hk; simp [xSall] at hk ⊢; omega))
              refine ⟨qJI.nb, qJI.nc, qJI.ng, qJI.nl, qJI.nm, qJI.row, qJI.can, qJI.hal, (fun t ht => ?_), qJI.tap, qJI.coi, qJI.giv, qJI.loo, qJI.mee, qJI.day, qJI.tra⟩
              have := g.ji.she t ht
              rw [e9, e10]
              by_cases z : t = s
              · rw [if_pos z, if_pos z, p_nI (by omega)]; omega
              · rw [if_neg z, if_neg z]; exact this
            · refine g.b.more c [60 + s, 70 + s] (fun r hr => ?_) (fun r hr => ?_) (fun r hr r' hr' he => ?_) (fun r hr => aS r (by simp [xSall] at hr; omega) (by simp [xSall] at hr; omega)) ?_
              · by_cases z1 : r = 60 + s
                · exact Or.inl (by simp [xSall, z1])
                by_cases z2 : r = 70 + s
                · exact Or.inl (by simp [xSall, z2])
                refine Or.inr ⟨?_, aS r z1 z2⟩
                rw [hnB] at hr
                rcases hr with z | z | z | z | z | z | z | z
                · exact Or.inl z
                · exact Or.inr (Or.inl z)
                · exact Or.inr (Or.inr (Or.inl z))
                · exact Or.inr (Or.inr (Or.inr (Or.inl z)))
                · exact Or.inr (Or.inr (Or.inr (Or.inr (Or.inl z))))
                · refine Or.inr (Or.inr (Or.inr (Or.inr (Or.inr (Or.inl ⟨z.1, z.2.1, ?_⟩)))))
                  have z3 := z.2.2
                  rw [e9, if_neg (by omega)] at z3
                  exact z3
                · refine Or.inr (Or.inr (Or.inr (Or.inr (Or.inr (Or.inr (Or.inl ⟨z.1, z.2.1, ?_⟩))))))
                  have z3 := z.2.2
                  rw [e9, if_neg (by omega)] at z3
                  exact z3
                · exact Or.inr (Or.inr (Or.inr (Or.inr (Or.inr (Or.inr (Or.inr z))))))
              · simp [xSall] at hr
                rcases hr with rfl | rfl
                · rw [aq]
                  refine ⟨hq, w5.trans ?_⟩
                  unfold kr
                  iterate 9 rw [if_neg (by omega)]
                  rw [if_neg (by omega), if_neg (by omega), if_pos (by omega)]
                · rw [aq3]
                  refine ⟨hS3, w6.trans ?_⟩
                  unfold kr
                  iterate 9 rw [if_neg (by omega)]
                  rw [if_neg (by omega), if_neg (by omega), if_neg (by omega), if_pos (by omega)]
              · simp [xSall] at hr hr'
                rcases hr with rfl | rfl <;> rcases hr' with rfl | rfl
                · rfl
                · rw [aq, aq3] at he; exact absurd he hne
                · rw [aq, aq3] at he; exact absurd he.symm hne
                · rfl
              · rw [aS 10 (by omega) (by omega)]
                exact (c.ln _ (some_ne (g.k (show 10 ≤ 12 by decide)))).trans g.b.l10
            · rw [o 13 (by simp [xSall]), o 14 (by simp [xSall]), o 27 (by simp [xSall]), e1]
              refine ⟨fun k hk => ?_, ?_, ?_, ?_, ?_, ?_, ?_, ?_⟩
              · rw [aS 0 (by omega) (by omega), aS (k + 1) (by omega) (by omega)]; exact g1.f.r k hk
              · rw [aS 0 (by omega) (by omega), aS 9 (by omega) (by omega)]; exact g1.f.r11
              · rw [aS 0 (by omega) (by omega), aS 11 (by omega) (by omega)]; exact g1.f.r13
              · rw [aS 0 (by omega) (by omega), aS 12 (by omega) (by omega)]; exact g1.f.r14
              · rw [aS 0 (by omega) (by omega)]; simpa [xSall] using g1.f.i8
              · rw [aS 0 (by omega) (by omega)]; simpa [xSall] using g1.f.i9
              · rw [aS 0 (by omega) (by omega)]; simpa [xSall] using g1.f.i10
              · rw [aS 0 (by omega) (by omega)]; simp [xSall]
            · have a1 : ad' 1 = ad 1 := aS 1 (by omega) (by omega)
              refine ⟨fun t ht hl' => ?_, fun t ht hl' => ?_⟩
              · rw [e9] at hl' ⊢
                by_cases z : t = s
                · subst z
                  rw [aq, aq3, a1, if_pos rfl, e10, if_pos rfl]
                  refine ⟨?_, by simpa [xSall] using w1, by simpa [xSall] using w2, by simpa [xSall] using congrArg nI w3, ?_, fun j hj => ?_⟩
                  · rw [xAR_sFI, xAR_sAR, if_pos rfl]; exact if_pos rfl
                  · show xLN S1 q3 ≤ 60
                    rw [w3]; omega
                  · have hj' : j < n := by rw [← w3]; exact hj
                    show xAI S1 q3 j = J' 11 (60 * t + j)
                    rw [w4, e11, if_pos (by omega)]
                · rw [if_neg z] at hl' ⊢
                  rw [aS (60 + t) (by omega) (by omega), aS (70 + t) (by omega) (by omega), a1, e10, if_neg z]
                  obtain ⟨y0, y⟩ := g.sh.sm t ht hl'
                  have cs := y.kept c (some_ne (g.b.kd _ (lv_s ht hl'))) (some_ne (g.b.kd _ (lv_i ht hl'))) (off0.live _ (lv_s ht hl') (by simp [xSall]; omega)) (off0.live _ (lv_i ht hl') (by simp [xSall]; omega))
                  refine ⟨?_, cs.1, cs.2.1, cs.2.2.1, cs.2.2.2.1, fun j hj => ?_⟩
                  · rw [xAR_sFI, xAR_sAR, if_pos rfl]
                    unfold va_up
                    rw [if_neg z]
                    exact (g1.sh.sm t ht hl').1
                  · show _ = J' 11 (60 * t + j)
                    have := cs.2.2.2.1
                    rw [cs.2.2.2.2 j hj, e11, if_neg (by omega)]
              · rw [a1, xAR_sFI, xAR_sAR, if_pos rfl]
                unfold va_up
                rw [e9] at hl'
                by_cases z : t = s
                · rw [if_pos z] at hl'; exact absurd hl0 hl'
                · rw [if_neg z] at hl' ⊢
                  exact g1.sh.nn t ht hl'
      · simp only [if_neg hn]
        unfold wm_sheet
        simp only [em_isSheet, em_in, bI_ite, if_pos ha, Int32.toInt_toInt64, Int64.reduceToInt, if_pos hl, hJ, if_neg hn]
        exact ⟨rfl, ad, rfl, g⟩
    · simp only [if_neg hl]
      unfold wm_sheet
      simp only [em_isSheet, em_in, bI_ite, if_pos ha, Int32.toInt_toInt64, Int64.reduceToInt, if_neg hl, hJ]
      exact ⟨rfl, ad, rfl, g⟩
  · simp only [if_neg ha]
    unfold wm_sheet
    simp only [em_isSheet, bI_ite, if_neg ha, hJ]
    exact ⟨rfl, ad, rfl, g⟩
end
