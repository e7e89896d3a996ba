/-! PLAIN SIDE 34: most -/
section
variable {ad : Nat → Nat} {J : MS} {S : XS} {x : Nat}
theorem em_most (g : JI J) {h f : Nat} (hh : h < 4) (hf : f < 2) (d what : Int32) (Q : Int32 → MS → Prop) (k1 : ∀ J', Sm J' J → if what = 0 then Q (nI (bestF J h f d (2 ^ nB J - 1))) J' else Q (hSum J (bestF J h f d (2 ^ nB J - 1)) (nB J)) J') : wm_most_46 Q (nB J + 1) J (nI h) (nI f) d what 0 := by
  obtain ⟨n1, nb⟩ := g.nb
  have p16 : 2 ^ nB J ≤ 2 ^ 16 := Nat.pow_le_pow_right (by decide) nb
  have p0 : 0 < 2 ^ nB J := Nat.two_pow_pos _
  have z32 : Int32.toNatClampNeg (0 : Int32) = 0 := rfl
  -- one that is against others
  have L2 : ∀ (K46 : MS → Int32 → Int32 → Int32 → Int32 → Int32 → Prop) (k : Nat), k < nB J → (∀ J', Sm J' J → (∀ i, i < k + 1 → J' 30 i = nI (agN J h f d i i)) → K46 J' (nI h) (nI f) d what (nI (k + 1))) → ∀ r m, m + r = k → ∀ J', Sm J' J → (∀ i, i < k → J' 30 i = nI (agN J h f d i i)) → J' 30 k = nI (agN J h f d k m) → wm_most_142 Q K46 (r + 1) J' (nI h) (nI f) d what (nI k) (nI m) := by
    intro K46 k hk kk r
    induction r with
    | zero =>
      intro m hm J' e ha hak
      unfold wm_most_142
      rw [if_pos (by rw [nIq_le (by omega) (by omega)]; omega), nI_tInc]
      refine kk J' e (fun i hi => ?_)
      by_cases z : i = k
      · rw [z, hak, show m = k by omega]
      · exact ha i (by omega)
    | succ r ih =>
      intro m hm J' e ha hak
      have ji' := e.ji g
      have v : vp_in (nI k) 16 := p_vpn (by omega) (by decide)
      have st : ∀ w : Int32, nI (agN J h f d k m) ||| w = nI (agN J h f d k (m + 1)) → wm_most_142 Q K46 (r + 1) (mset J' 30 k (nI (agN J h f d k m) ||| w)) (nI h) (nI f) d what (nI k) (nI (m + 1)) := by
        intro w hw
        refine ih (m + 1) (by omega) _ (e.set (by decide)) (fun i hi => ?_) ?_
        · rw [ms_eq, if_neg (by omega)]; exact ha i hi
        · rw [ms_eq, if_pos rfl]; exact hw
      unfold wm_most_142 wm_most_176
      rw [if_neg (by rw [nIq_le (by omega) (by omega)]; omega), em_clash _ ji' (by rw [e.nB]; omega) (by rw [e.nB]; exact hk)]
      simp only [bI_ite, p_tn (show k < 2 ^ 31 by omega), hak, nI_tInc]
      have es : agN J h f d k (m + 1) = if pClash J m k then agN J h f d k m ||| 2 ^ m else agN J h f d k m := rfl
      refine ⟨v, ?_⟩
      by_cases z : pClash J m k
      · rw [if_pos ((e.clash m k).mpr z)]
        exact ⟨v, st _ (by rw [es, if_pos z, nI_setbit (by omega)])⟩
      · rw [if_neg (fun y => z ((e.clash m k).mp y))]
        exact ⟨v, st 0 (by rw [es, if_neg z, p_or0])⟩
  have L1 : ∀ r k, k + r = nB J → ∀ J', Sm J' J → (∀ i, i < k → J' 30 i = nI (agN J h f d i i)) → wm_most_46 Q (r + 1) J' (nI h) (nI f) d what (nI k) := by
    intro r
    induction r with
    | zero =>
      intro k hk J' e ha
      have : k = nB J := by omega
      subst this
      have n1' : J' 24 0 = nI (nB J) := by rw [e 24 (by decide)]; exact n1
      unfold wm_most_46
      rw [n1', if_pos (by grind), z32, nar1]
      have e2 : Sm (mset (mset J' 28 0 1) 29 0 0) J := (e.set (by decide)).set (by decide)
      have well0 : wellM J h f d 0 := ⟨fun k _ hb => (by rw [Nat.zero_testBit] at hb; cases hb), fun k _ hb => (by rw [Nat.zero_testBit] at hb; cases hb)⟩
      have sum0 : hSum J 0 (nB J) = 0 := by
        have : ∀ n, hSum J 0 n = 0 := by
          intro n
          induction n with
          | zero => rfl
          | succ n ihn => unfold hSum; rw [ihn, Nat.zero_testBit, if_neg (by decide), p_add0]
        exact this _
      refine ⟨p_vpn (i := 0) (by decide) (by decide), p_vpn (i := 0) (by decide) (by decide), ?_⟩
      have := em_sets g (h := h) (f := f) (d := d) what Q k1 (2 ^ nB J - 1) 0 0 _ (by omega) (Or.inl ⟨rfl, rfl⟩) e2 (fun k hk => by rw [ms_ne (by decide), ms_ne (by decide)]; exact ha k hk) (fun s hs => by
        have : s = 0 := by omega
        subst this
        rw [ms_ne (by decide), ms_eq, if_pos rfl, ms_eq, if_pos rfl, sum0, bI_t well0]
        exact ⟨rfl, rfl⟩)
      exact ⟨_, this⟩
    | succ r ih =>
      intro k hk J' e ha
      have hk' : k < nB J := by omega
      have k16 : k < 16 := by omega
      have ji' := e.ji g
      have hk2 : k < nB J' := by rw [e.nB]; exact hk'
      have n1' : J' 24 0 = nI (nB J) := by rw [e 24 (by decide)]; exact n1
      have v : vp_in (nI k) 16 := p_vpn (by omega) (by decide)
      have go : ∀ w : Int32, w = nI (agN J h f d k 0) → wm_most_138 Q (wm_most_46 Q (r + 1)) J' (nI h) (nI f) d what (nI k) (nI k) w := by
        intro w hw
        unfold wm_most_138
        rw [p_tn (by omega)]
        refine ⟨v, k + 1, L2 _ k hk' (fun J2 e2 ha2 => ih (k + 1) (by omega) J2 e2 ha2) k 0 (by omega) _ (e.set (by decide)) (fun i hi => ?_) ?_⟩
        · rw [ms_eq, if_neg (by omega)]; exact ha i hi
        · rw [ms_eq, if_pos rfl]; exact hw
      have e0 : agN J h f d k 0 = if pMay J h f d k then 0 else 2 ^ k := rfl
      have no : ¬ pMay J h f d k → wm_most_116 Q (wm_most_46 Q (r + 1)) J' (nI h) (nI f) d what (nI k) := by
        intro hn
        unfold wm_most_116 wm_most_117
        rw [if_pos rfl]
        exact go _ (by rw [e0, if_neg hn, p_shlq (by omega)])
      have yes : pMay J h f d k → wm_most_117 Q (wm_most_46 Q (r + 1)) J' (nI h) (nI f) d what (nI k) 1 := by
        intro hy
        unfold wm_most_117
        rw [if_neg (by decide)]
        exact go _ (by rw [e0, if_pos hy]; rfl)
      unfold wm_most_46
      rw [n1', if_neg (by rw [nIq_le (by omega) (by omega)]; omega)]
      simp only [em_of0 _ k16, em_of1 _ k16, em_of2 _ k16, em_there _ ji' hk2, em_fire _ ji' hk2 hh hf, bI_ite, e.oB]
      by_cases z0 : oB J k 0 = nI h
      · rw [if_pos z0]
        by_cases z1 : oB J k 1 = nI f
        · rw [if_pos z1]
          by_cases z2 : oB J k 2 = d
          · rw [if_pos z2]
            have e27 : J' 27 0 = J 27 0 := by rw [e 27 (by decide)]
            by_cases z3 : pThere J' k (J' 27 0)
            · rw [if_pos z3]
              have z3' : pThere J k (J 27 0) := by rw [e27] at z3; exact (e.there k _).mp z3
              by_cases z4 : pFire J' k h f
              · rw [if_pos z4]
                exact yes ⟨⟨z0, z1, z2⟩, z3', (e.fire k h f).mp z4⟩
              · rw [if_neg z4]; exact no (fun y => z4 ((e.fire k h f).mpr y.2.2))
            · rw [if_neg z3]; exact no (fun y => z3 (by rw [e27]; exact (e.there k _).mpr y.2.1))
          · rw [if_neg z2]; exact no (fun y => z2 y.1.2.2)
        · rw [if_neg z1]; exact no (fun y => z1 y.1.2.1)
      · rw [if_neg z0]; exact no (fun y => z0 y.1.1)
  exact L1 (nB J) 0 (by omega) J (fun _ _ => rfl) (fun i hi => absurd hi (Nat.not_lt_zero i))
theorem op_most (h : XR x J S) (a b c w : Int32) : wx_X0_most (fun r S1 => wm_most (fun r2 J1 => Ans x r S1 r2 J1) J a b c w) S (some x) a b c w := by
  obtain ⟨ad, rfl, h⟩ := h
  have g := h.m0
  generalize hJ : mset J 0 0 0 = J0 at g
  have em : ∀ Q : Int32 → MS → Prop, wm_most Q J a b c w = if 0 ≤ a.toInt ∧ a.toInt ≤ 3 then (if 0 ≤ b.toInt ∧ b.toInt ≤ 1 then (if 0 ≤ c.toInt ∧ c.toInt ≤ 364 then (if 0 ≤ w.toInt ∧ w.toInt ≤ 1 then ∃ n25, wm_most_46 Q n25 J0 a b c w 0 else Q (-1000001) J0) else Q (-1000001) J0) else Q (-1000001) J0) else Q (-1000001) J0 := by
    intro Q
    unfold wm_most
    simp only [em_isHall, em_isDay, em_in, bI_ite, hJ, Int32.toInt_toInt64, Int64.reduceToInt]
  unfold wx_X0_most
  simp only [ex_isHall, ex_isDay, ex_in, bI_ite, Int32.toInt_toInt64, Int64.reduceToInt, dr_some, g.k0, true_and]
  by_cases qa : 0 ≤ a.toInt ∧ a.toInt ≤ 3
  · rw [if_pos qa]
    by_cases qb : 0 ≤ b.toInt ∧ b.toInt ≤ 1
    · rw [if_pos qb]
      by_cases qc : 0 ≤ c.toInt ∧ c.toInt ≤ 364
      · rw [if_pos qc]
        by_cases qw : 0 ≤ w.toInt ∧ w.toInt ≤ 1
        · rw [if_pos qw]
          obtain ⟨hh, h4, rfl⟩ := p_ex (x := a) (n := 4) qa.1 (by omega)
          obtain ⟨f, f2, rfl⟩ := p_ex (x := b) (n := 2) qb.1 (by omega)
          have nb := g.ji.nb.2
          have p16 : 2 ^ nB J0 ≤ 2 ^ 16 := Nat.pow_le_pow_right (by decide) nb
          have ml := mayM_lt J0 hh f c (nB J0)
          refine ex_mostOf g h4 f2 c _ (fun S' cc => ?_)
          have g' := g.t12 cc
          have bl := bestF_le J0 hh f c (mayM J0 hh f c (nB J0))
          have be : bestF J0 hh f c (2 ^ nB J0 - 1) = bestF J0 hh f c (mayM J0 hh f c (nB J0)) := by
            have := bestF_mask (J := J0) (h := hh) (f := f) (d := c) (2 ^ nB J0 - 1 - mayM J0 hh f c (nB J0)) (by omega)
            rw [show mayM J0 hh f c (nB J0) + (2 ^ nB J0 - 1 - mayM J0 hh f c (nB J0)) = 2 ^ nB J0 - 1 by omega] at this
            exact this
          have fin : ∀ r, r = (if w = 0 then nI (bestF J0 hh f c (mayM J0 hh f c (nB J0))) else hSum J0 (bestF J0 hh f c (mayM J0 hh f c (nB J0))) (nB J0)) → wm_most (fun r2 J1 => Ans (ad 0) r S' r2 J1) J (nI hh) (nI f) c w := by
            intro r hr
            rw [em, if_pos qa, if_pos qb, if_pos qc, if_pos qw]
            refine ⟨nB J0 + 1, em_most g.ji h4 f2 c w _ (fun J' e => ?_)⟩
            rw [be]
            have gs : XA ad J' S' := g'.scr e
            by_cases z : w = 0
            · rw [if_pos z] at hr ⊢; exact ⟨hr.symm, ad, rfl, gs⟩
            · rw [if_neg z] at hr ⊢; exact ⟨hr.symm, ad, rfl, gs⟩
          by_cases z : w = 0
          · rw [if_pos z]; exact fin _ (by rw [if_pos z])
          · rw [if_neg z]
            exact ⟨g'.k0, ex_prices g' (by omega) _ (fin _ (by rw [if_neg z]))⟩
        · rw [if_neg qw, em, if_pos qa, if_pos qb, if_pos qc, if_neg qw]
          exact ⟨rfl, ad, rfl, g⟩
      · rw [if_neg qc, em, if_pos qa, if_pos qb, if_neg qc]
        exact ⟨rfl, ad, rfl, g⟩
    · rw [if_neg qb, em, if_pos qa, if_neg qb]
      exact ⟨rfl, ad, rfl, g⟩
  · rw [if_neg qa, em, if_neg qa]
    exact ⟨rfl, ad, rfl, g⟩
end
