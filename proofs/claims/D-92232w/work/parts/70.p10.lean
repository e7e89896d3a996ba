/-! PLAIN SIDE 10: keys given, looks -/
section
variable {J : MS} {S : XS} {x : Nat}
theorem op_look (h : XR x J S) {mc ms : Nat} (hc : 100 ≤ mc) (hm : 1000 ≤ ms) (a b c d : Int32) : wx_X0_look (fun r S1 => wm_look (fun r2 J1 => Ans x r S1 r2 J1) J a b c d) mc ms S (some x) a b c d := by
  obtain ⟨ad, rfl, h⟩ := h
  have g := h.m0
  generalize hJ : mset J 0 0 0 = J0 at g
  have l4 := g.lo
  unfold wx_X0_look
  simp only [ex_isTime, ex_in, bI_ite, Int32.toInt_toInt64, Int64.reduceToInt]
  have em : ∀ Q : Int32 → MS → Prop, wm_look Q J a b c d = if ((0 ≤ a.toInt ∧ a.toInt ≤ 3) ∧ (0 ≤ b.toInt ∧ b.toInt ≤ 364) ∧ 0 ≤ c.toInt ∧ c.toInt ≤ 95) ∧ (0 ≤ d.toInt ∧ d.toInt ≤ 255) then (if nL J0 = 40 then Q (-1000003) J0 else Q (nI (nL J0 + 1)) (mset (mset (mset (mset J0 43 (nL J0) a) 44 (nL J0) (96 * b + c)) 45 (nL J0) d) 42 0 (nI (nL J0 + 1)))) else Q (-1000001) J0 := by
    intro Q
    unfold wm_look
    rw [hJ]
    obtain ⟨n1, n2⟩ := g.ji.nl
    simp only [em_isHall, em_isDay, em_in, bI_ite, Int32.toInt_toInt64, Int64.reduceToInt, ms_ne (show 42 ≠ 43 by decide), ms_ne (show 42 ≠ 44 by decide), ms_ne (show 42 ≠ 45 by decide), ms_eq, if_true, n1, p_tn (show nL J0 < 2 ^ 31 by omega), nI_tInc]
    by_cases q : ((0 ≤ a.toInt ∧ a.toInt ≤ 3) ∧ (0 ≤ b.toInt ∧ b.toInt ≤ 364) ∧ 0 ≤ c.toInt ∧ c.toInt ≤ 95) ∧ (0 ≤ d.toInt ∧ d.toInt ≤ 255)
    · rw [if_pos q, if_pos q.1.1, if_pos q.1.2.1, if_pos q.1.2.2, if_pos q.2]
      by_cases z : nL J0 = 40
      · rw [if_pos z, if_pos (by rw [z]; rfl)]
      · rw [if_neg z, if_neg (show ¬ nI (nL J0) = (40 : Int32) from nI_ne (b := 40) (by omega) (by decide) z)]
        have v := p_vpn (show nL J0 < 40 by omega) (by decide)
        simp only [v, true_and]
    · rw [if_neg q]
      split
      · split
        · split
          · split
            · exact absurd ⟨⟨‹_›, ‹_›, ‹_›⟩, ‹_›⟩ q
            · rfl
          · rfl
        · rfl
      · rfl
  have t95 : (95 : Int32).toInt = 95 := rfl
  simp only [em, t95]
  by_cases q1 : (0 ≤ a.toInt ∧ a.toInt ≤ 3) ∧ (0 ≤ b.toInt ∧ b.toInt ≤ 364) ∧ 0 ≤ c.toInt ∧ c.toInt ≤ 95
  · rw [if_pos q1]
    by_cases q2 : 0 ≤ d.toInt ∧ d.toInt ≤ 255
    · rw [if_pos q2]
      obtain ⟨n1, n2⟩ := g.ji.nl
      obtain ⟨L, l, -⟩ := id l4
      simp only [dr_some, g.k0, g.r5, l.1, l.size, true_and, if_pos (And.intro q1 q2)]
      by_cases z : nL J0 = 40
      · simp only [if_pos z]
        rw [if_pos (by rw [z]; rfl)]
        exact ⟨rfl, ad, rfl, g⟩
      · simp only [if_neg z]
        rw [if_neg (show ¬ nI (nL J0) = (40 : Int32) from nI_ne (b := 40) (by omega) (by decide) z)]
        refine ⟨by omega, by omega, fun q hq => ?_⟩
        unfold wx_X10_init
        simp only [dr_some, xKD_sNew, if_true, true_and]
        refine ⟨1, 400, by omega, by omega, ?_⟩
        have o : ∀ k, k ∉ [42, 43, 44, 45] → mset (mset (mset (mset J0 43 (nL J0) a) 44 (nL J0) (96 * b + c)) 45 (nL J0) d) 42 0 (nI (nL J0 + 1)) k = J0 k := by
          intro k hk
          simp [xSall] at hk
          rw [ms_ne hk.1, ms_ne hk.2.2.2, ms_ne hk.2.2.1, ms_ne hk.2.1]
        have e42 : mset (mset (mset (mset J0 43 (nL J0) a) 44 (nL J0) (96 * b + c)) 45 (nL J0) d) 42 0 (nI (nL J0 + 1)) 42 0 = nI (nL J0 + 1) := by rw [ms_eq, if_pos rfl]
        have e43 : ∀ i, mset (mset (mset (mset J0 43 (nL J0) a) 44 (nL J0) (96 * b + c)) 45 (nL J0) d) 42 0 (nI (nL J0 + 1)) 43 i = if i = nL J0 then a else J0 43 i := by intro i; rw [ms_ne (by decide), ms_ne (by decide), ms_ne (by decide), ms_eq]
        have e44 : ∀ i, mset (mset (mset (mset J0 43 (nL J0) a) 44 (nL J0) (96 * b + c)) 45 (nL J0) d) 42 0 (nI (nL J0 + 1)) 44 i = if i = nL J0 then 96 * b + c else J0 44 i := by intro i; rw [ms_ne (by decide), ms_ne (by decide), ms_eq, ms_ne (by decide)]
        have e45 : ∀ i, mset (mset (mset (mset J0 43 (nL J0) a) 44 (nL J0) (96 * b + c)) 45 (nL J0) d) 42 0 (nI (nL J0 + 1)) 45 i = if i = nL J0 then d else J0 45 i := by intro i; rw [ms_ne (by decide), ms_eq, ms_ne (by decide), ms_ne (by decide)]
        generalize mset (mset (mset (mset J0 43 (nL J0) a) 44 (nL J0) (96 * b + c)) 45 (nL J0) d) 42 0 (nI (nL J0 + 1)) = J' at o e42 e43 e44 e45 ⊢
        have hn : nL J' = nL J0 + 1 := by
          show (J' 42 0).toNatClampNeg = _
          rw [e42, p_tn (by omega)]
        have at_ : 0 ≤ (96 * b + c).toInt ∧ (96 * b + c).toInt ≤ 35039 := by rw [p_lin96 (by omega) (by omega)]; omega
        refine g.come (i := 6) (J' := J') (K := [42, 43, 44, 45]) (by decide) (by decide) l4 n2 (Nat.le_refl _) (Nat.le_refl _) o (by decide) ?_ a (96 * b + c) d 0 (fun S' t' => ⟨fun z => absurd z (by decide), fun z => absurd z (by decide), fun _ => ?_⟩) (fun _ k h1 h2 => by simp [xSall]; omega) (fun _ k h1 h2 => by simp [xSall]; omega) (fun z => absurd rfl z) _ (fun S' g' => ⟨rfl, ad, rfl, g'⟩) hq
        · have qJI := g.ji.cong (J' := fun k => if k = 42 then J0 42 else if k = 43 then J0 43 else if k = 44 then J0 44 else if k = 45 then J0 45 else J' k) (fun k hk => by
              by_cases z1 : k = 42
              · rw [if_pos z1, z1]
              · rw [if_neg z1]
                by_cases z2 : k = 43
                · rw [if_pos z2, z2]
                · rw [if_neg z2]
                  by_cases z3 : k = 44
                  · rw [if_pos z3, z3]
                  · rw [if_neg z3]
                    by_cases z4 : k = 45
                    · rw [if_pos z4, z4]
                    · rw [if_neg z4]; exact o k (by simp [xSall]; omega))
          refine ⟨qJI.nb, qJI.nc, qJI.ng, (⟨by rw [e42, hn], by omega⟩), qJI.nm, qJI.row, qJI.can, qJI.hal, qJI.she, qJI.tap, qJI.coi, qJI.giv, (fun k hk => ?_), qJI.mee, qJI.day, qJI.tra⟩
          rw [hn] at hk
          rw [e43, e44, e45]
          by_cases zk : k = nL J0
          · simp only [if_pos zk]
            exact ⟨q1.1, at_, q2⟩
          · simp only [if_neg zk]
            exact g.ji.loo k (by omega)
        · rw [hn]
          refine t'.congr (fun k hk => ?_)
          have := told_ins (G := fun i => (J0 43 i, J0 44 i, J0 45 i, 0)) (G' := fun i => (J' 43 i, J' 44 i, J' 45 i, 0)) (T := J0 44) (T' := J' 44) (n := nL J0) (w := (a, 96 * b + c, d, 0)) (fun i hi => ?_) ?_ (fun i hi => ?_) (fun i hi => ?_) k hk
          · unfold loF
            rw [hn]
            exact this
          · show (J' 43 i, J' 44 i, J' 45 i, (0 : Int32)) = _
            rw [e43, e44, e45]
            simp only [if_neg (show ¬ i = nL J0 by omega)]
          · show (J' 43 (nL J0), J' 44 (nL J0), J' 45 (nL J0), (0 : Int32)) = _
            rw [e43, e44, e45]
            simp only [if_true]
          · rw [e44, if_neg (by omega)]
          · show 96 * b + c < J0 44 i ↔ J' 44 (nL J0) < J0 44 i
            rw [e44, if_pos rfl]

    · rw [if_neg q2]
      simp only [if_neg (fun z => q2 (And.right z))]
      exact ⟨rfl, ad, rfl, g⟩
  · rw [if_neg q1]
    simp only [if_neg (fun z => q1 (And.left z))]
    exact ⟨rfl, ad, rfl, g⟩
theorem op_give (h : XR x J S) {mc ms : Nat} (hc : 100 ≤ mc) (hm : 1000 ≤ ms) (a b c d : Int32) : wx_X0_give (fun r S1 => wm_give (fun r2 J1 => Ans x r S1 r2 J1) J a b c d) mc ms S (some x) a b c d := by
  obtain ⟨ad, rfl, h⟩ := h
  have g := h.m0
  generalize hJ : mset J 0 0 0 = J0 at g
  have l4 := g.ke
  unfold wx_X0_give
  simp only [ex_isKey, ex_isPerson, ex_isDay, bI_ite]
  have em : ∀ Q : Int32 → MS → Prop, wm_give Q J a b c d = if (0 ≤ a.toInt ∧ a.toInt ≤ 3) then (if 0 ≤ b.toInt ∧ b.toInt ≤ 9 then (if 0 ≤ c.toInt ∧ c.toInt ≤ 9 then (if b = c then Q (-1000001) J0 else if 0 ≤ d.toInt ∧ d.toInt ≤ 364 then (if nG J0 = 40 then Q (-1000003) J0 else Q (nI (nG J0 + 1)) (mset (mset (mset (mset (mset J0 38 (nG J0) a) 39 (nG J0) b) 40 (nG J0) c) 41 (nG J0) d) 37 0 (nI (nG J0 + 1)))) else Q (-1000001) J0) else Q (-1000001) J0) else Q (-1000001) J0) else Q (-1000001) J0 := by
    intro Q
    unfold wm_give
    rw [hJ]
    obtain ⟨n1, n2⟩ := g.ji.ng
    simp only [em_isDay, em_in, bI_ite, Int32.toInt_toInt64, Int64.reduceToInt, ms_ne (show 37 ≠ 38 by decide), ms_ne (show 37 ≠ 39 by decide), ms_ne (show 37 ≠ 40 by decide), ms_ne (show 37 ≠ 41 by decide), ms_eq, if_true, n1, p_tn (show nG J0 < 2 ^ 31 by omega), nI_tInc]
    by_cases z : nG J0 = 40
    · simp only [if_pos z, if_pos (show nI (nG J0) = (40 : Int32) by rw [z]; rfl)]
    · have v := p_vpn (show nG J0 < 40 by omega) (by decide)
      simp only [if_neg z, if_neg (show ¬ nI (nG J0) = (40 : Int32) from nI_ne (b := 40) (by omega) (by decide) z), v, true_and]
  simp only [em]
  by_cases q1 : 0 ≤ a.toInt ∧ a.toInt ≤ 3
  · simp only [if_pos q1]
    by_cases q2 : 0 ≤ b.toInt ∧ b.toInt ≤ 9
    · simp only [if_pos q2]
      by_cases q3 : 0 ≤ c.toInt ∧ c.toInt ≤ 9
      · simp only [if_pos q3]
        by_cases q4 : b = c
        · simp only [if_pos q4]
          exact ⟨rfl, ad, rfl, g⟩
        · simp only [if_neg q4]
          by_cases q5 : 0 ≤ d.toInt ∧ d.toInt ≤ 364
          · simp only [if_pos q5]
            obtain ⟨n1, n2⟩ := g.ji.ng
            obtain ⟨L, l, -⟩ := id l4
            simp only [dr_some, g.k0, g.r4, l.1, l.size, true_and]
            by_cases z : nG J0 = 40
            · simp only [if_pos z]
              rw [if_pos (by rw [z]; rfl)]
              exact ⟨rfl, ad, rfl, g⟩
            · simp only [if_neg z]
              rw [if_neg (show ¬ nI (nG J0) = (40 : Int32) from nI_ne (b := 40) (by omega) (by decide) z)]
              refine ⟨by omega, by omega, fun q hq => ?_⟩
              unfold wx_X10_init
              simp only [dr_some, xKD_sNew, if_true, true_and]
              refine ⟨1, 400, by omega, by omega, ?_⟩
              have o : ∀ k, k ∉ [37, 38, 39, 40, 41] → mset (mset (mset (mset (mset J0 38 (nG J0) a) 39 (nG J0) b) 40 (nG J0) c) 41 (nG J0) d) 37 0 (nI (nG J0 + 1)) k = J0 k := by
                intro k hk
                simp [xSall] at hk
                rw [ms_ne hk.1, ms_ne hk.2.2.2.2, ms_ne hk.2.2.2.1, ms_ne hk.2.2.1, ms_ne hk.2.1]
              have e37 : mset (mset (mset (mset (mset J0 38 (nG J0) a) 39 (nG J0) b) 40 (nG J0) c) 41 (nG J0) d) 37 0 (nI (nG J0 + 1)) 37 0 = nI (nG J0 + 1) := by rw [ms_eq, if_pos rfl]
              have e38 : ∀ i, mset (mset (mset (mset (mset J0 38 (nG J0) a) 39 (nG J0) b) 40 (nG J0) c) 41 (nG J0) d) 37 0 (nI (nG J0 + 1)) 38 i = if i = nG J0 then a else J0 38 i := by intro i; rw [ms_ne (by decide), ms_ne (by decide), ms_ne (by decide), ms_ne (by decide), ms_eq]
              have e39 : ∀ i, mset (mset (mset (mset (mset J0 38 (nG J0) a) 39 (nG J0) b) 40 (nG J0) c) 41 (nG J0) d) 37 0 (nI (nG J0 + 1)) 39 i = if i = nG J0 then b else J0 39 i := by intro i; rw [ms_ne (by decide), ms_ne (by decide), ms_ne (by decide), ms_eq, ms_ne (by decide)]
              have e40 : ∀ i, mset (mset (mset (mset (mset J0 38 (nG J0) a) 39 (nG J0) b) 40 (nG J0) c) 41 (nG J0) d) 37 0 (nI (nG J0 + 1)) 40 i = if i = nG J0 then c else J0 40 i := by intro i; rw [ms_ne (by decide), ms_ne (by decide), ms_eq, ms_ne (by decide), ms_ne (by decide)]
              have e41 : ∀ i, mset (mset (mset (mset (mset J0 38 (nG J0) a) 39 (nG J0) b) 40 (nG J0) c) 41 (nG J0) d) 37 0 (nI (nG J0 + 1)) 41 i = if i = nG J0 then d else J0 41 i := by intro i; rw [ms_ne (by decide), ms_eq, ms_ne (by decide), ms_ne (by decide), ms_ne (by decide)]
              generalize mset (mset (mset (mset (mset J0 38 (nG J0) a) 39 (nG J0) b) 40 (nG J0) c) 41 (nG J0) d) 37 0 (nI (nG J0 + 1)) = J' at o e37 e38 e39 e40 e41 ⊢
              have hn : nG J' = nG J0 + 1 := by
                show (J' 37 0).toNatClampNeg = _
                rw [e37, p_tn (by omega)]
              refine g.come (i := 5) (J' := J') (K := [37, 38, 39, 40, 41]) (by decide) (by decide) l4 n2 (Nat.le_refl _) (Nat.le_refl _) o (by decide) ?_ a d b c (fun S' t' => ⟨fun z => absurd z (by decide), fun _ => ?_, fun z => absurd z (by decide)⟩) (fun _ k h1 h2 => by simp [xSall]; omega) (fun z => absurd rfl z) (fun _ k h1 h2 => by simp [xSall]; omega) _ (fun S' g' => ⟨rfl, ad, rfl, g'⟩) hq
              · have qJI := g.ji.cong (J' := fun k => if k = 37 then J0 37 else if k = 38 then J0 38 else if k = 39 then J0 39 else if k = 40 then J0 40 else if k = 41 then J0 41 else J' k) (fun k hk => by
                    by_cases z1 : k = 37
                    · rw [if_pos z1, z1]
                    · rw [if_neg z1]
                      by_cases z2 : k = 38
                      · rw [if_pos z2, z2]
                      · rw [if_neg z2]
                        by_cases z3 : k = 39
                        · rw [if_pos z3, z3]
                        · rw [if_neg z3]
                          by_cases z4 : k = 40
                          · rw [if_pos z4, z4]
                          · rw [if_neg z4]
                            by_cases z5 : k = 41
                            · rw [if_pos z5, z5]
                            · rw [if_neg z5]; exact o k (by simp [xSall]; omega))
                refine ⟨qJI.nb, qJI.nc, (⟨by rw [e37, hn], by omega⟩), qJI.nl, qJI.nm, qJI.row, qJI.can, qJI.hal, qJI.she, qJI.tap, qJI.coi, (fun k hk => ?_), qJI.loo, qJI.mee, qJI.day, qJI.tra⟩
                rw [hn] at hk
                rw [e38, e39, e40, e41]
                by_cases zk : k = nG J0
                · simp only [if_pos zk]
                  exact ⟨q1, q2, q3, q5⟩
                · simp only [if_neg zk]
                  exact g.ji.giv k (by omega)
              · rw [hn]
                refine t'.congr (fun k hk => ?_)
                have := told_ins (G := fun i => (J0 38 i, J0 41 i, J0 39 i, J0 40 i)) (G' := fun i => (J' 38 i, J' 41 i, J' 39 i, J' 40 i)) (T := J0 41) (T' := J' 41) (n := nG J0) (w := (a, d, b, c)) (fun i hi => ?_) ?_ (fun i hi => ?_) (fun i hi => ?_) k hk
                · unfold keF
                  rw [hn]
                  exact this
                · show (J' 38 i, J' 41 i, J' 39 i, J' 40 i) = _
                  rw [e38, e39, e40, e41]
                  simp only [if_neg (show ¬ i = nG J0 by omega)]
                · show (J' 38 (nG J0), J' 41 (nG J0), J' 39 (nG J0), J' 40 (nG J0)) = _
                  rw [e38, e39, e40, e41]
                  simp only [if_true]
                · rw [e41, if_neg (by omega)]
                · show d < J0 41 i ↔ J' 41 (nG J0) < J0 41 i
                  rw [e41, if_pos rfl]
          · simp only [if_neg q5]
            exact ⟨rfl, ad, rfl, g⟩
      · simp only [if_neg q3]
        exact ⟨rfl, ad, rfl, g⟩
    · simp only [if_neg q2]
      exact ⟨rfl, ad, rfl, g⟩
  · simp only [if_neg q1]
    exact ⟨rfl, ad, rfl, g⟩
end
