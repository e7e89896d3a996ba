/-! PLAIN SIDE 25: count -/
def cntL (J : MS) : Nat → Int32
  | 0 => 0
  | k + 1 => cntL J k + (if 0 ≤ J 9 k then 1 else 0)
def cntK (J : MS) (v : Int32) : Nat → Int32
  | 0 => 0
  | k + 1 => cntK J v k + bI (kN (fK J k) = v ∨ (v = 1 ∧ kN (fK J k) = 2))
def fCount (J : MS) (w : Int32) : Int32 := if w = 0 then cntL J 8 else if w = 1 then J 24 0 else if w = 2 then cntK J 1 (nB J) else if w = 3 then cntK J 2 (nB J) else if w = 4 then cntK J 3 (nB J) else if w = 5 then cntK J 4 (nB J) else if w = 6 then J 33 0 else if w = 7 then J 46 0 else if w = 8 then J 13 0 else -1000001
section
variable {ad : Nat → Nat} {J : MS} {S : XS} {x : Nat} {b : Nat}
theorem em_cntK (g : JI J) (Q : Int32 → MS → Prop) (w : Int32) (hw : w = 2 ∨ w = 3 ∨ w = 4 ∨ w = 5) (k1 : Q (cntK J (w - 1) (nB J)) J) : wm_count_98 Q J w 0 := by
  obtain ⟨n1, nb⟩ := g.nb
  have w0 : ¬ w - 1 = 0 := by rcases hw with rfl | rfl | rfl | rfl <;> decide
  have L : ∀ r k, k + r = nB J → wm_count_100 Q (r + 1) J w (cntK J (w - 1) k) (nI k) := by
    intro r
    induction r with
    | zero =>
      intro k hk
      have : k = nB J := by omega
      subst this
      unfold wm_count_100
      rw [n1, if_pos (by grind)]
      exact k1
    | succ r ih =>
      intro k hk
      have hk' : k < nB J := by omega
      unfold wm_count_100 wm_count_128
      rw [n1, if_neg (by rw [nIq_le (by omega) (by omega)]; omega)]
      refine em_kindOf g hk' _ ?_
      rw [em_isOf, bI_ite, nI_tInc]
      have ih' := ih (k + 1) (by omega)
      unfold cntK at ih'
      by_cases z : kN (fK J k) = w - 1 ∨ (w - 1 = 1 ∧ kN (fK J k) = 2)
      · rw [if_pos (by rcases z with z | z; exact Or.inr (Or.inl z); exact Or.inr (Or.inr z))]
        rw [bI_t z] at ih'; exact ih'
      · rw [if_neg (by intro y; rcases y with y | y | y; exact w0 y; exact z (Or.inl y); exact z (Or.inr y))]
        rw [bI_f z] at ih'; exact ih'
  exact ⟨nB J + 1, L (nB J) 0 (by omega)⟩
theorem em_count (g : JI J) (Q : Int32 → MS → Prop) {J0 : MS} (hJ : mset J 0 0 0 = J0) (g0 : JI J0) (w : Int32) (k1 : Q (fCount J0 w) J0) : wm_count Q J w := by
  unfold fCount at k1
  unfold wm_count
  rw [hJ]
  split
  · rename_i e
    rw [if_pos e] at k1
    have L : ∀ r k, k + r = 8 → wm_count_62 Q (r + 1) J0 (cntL J0 k) (nI k) := by
      intro r
      induction r with
      | zero =>
        intro k hk
        have : k = 8 := by omega
        subst this
        unfold wm_count_62
        rw [if_pos (by decide)]
        exact k1
      | succ r ih =>
        intro k hk
        unfold wm_count_62 wm_count_83
        rw [if_neg (by show ¬ nI 8 ≤ nI k; rw [nIq_le (by omega) (by omega)]; omega), p_tn (by omega), nI_tInc]
        have ih' := ih (k + 1) (by omega)
        unfold cntL at ih'
        refine ⟨p_vpn (by omega) (by decide), ?_⟩
        by_cases z : 0 ≤ J0 9 k
        · rw [if_neg (by grind)]; rw [if_pos z] at ih'; exact ih'
        · rw [if_pos (by grind)]; rw [if_neg z] at ih'; exact ih'
    exact ⟨9, L 8 0 (by omega)⟩
  rename_i e0; rw [if_neg e0] at k1
  split
  · rename_i e; rw [if_pos e] at k1; exact k1
  rename_i e1; rw [if_neg e1] at k1
  split
  · rename_i e; rw [if_pos e] at k1; exact em_cntK g0 Q w (Or.inl e) (by rw [e]; exact k1)
  rename_i e2; rw [if_neg e2] at k1
  split
  · rename_i e; rw [if_pos e] at k1; exact em_cntK g0 Q w (Or.inr (Or.inl e)) (by rw [e]; exact k1)
  rename_i e3; rw [if_neg e3] at k1
  split
  · rename_i e; rw [if_pos e] at k1; exact em_cntK g0 Q w (Or.inr (Or.inr (Or.inl e))) (by rw [e]; exact k1)
  rename_i e4; rw [if_neg e4] at k1
  split
  · rename_i e; rw [if_pos e] at k1; exact em_cntK g0 Q w (Or.inr (Or.inr (Or.inr e))) (by rw [e]; exact k1)
  rename_i e5; rw [if_neg e5] at k1
  split
  · rename_i e; rw [if_pos e] at k1; exact k1
  rename_i e6; rw [if_neg e6] at k1
  split
  · rename_i e; rw [if_pos e] at k1; exact k1
  rename_i e7; rw [if_neg e7] at k1
  split
  · rename_i e; rw [if_pos e] at k1; exact k1
  · rename_i e; rw [if_neg e] at k1; exact k1
theorem ex_countOf (g : XA ad J S) (Q : Int32 → XS → Prop) (v : Int32) {mc ms : Nat} (hc : 16 ≤ mc) (hm : 32 ≤ ms) (k1 : ∀ S', Chg (MR ad [11]) S S' → Q (cntK J v (nB J)) S') : wx_X0_countOf Q mc ms S (some (ad 0)) v := by
  have nb := g.ji.nb.2
  have L : ∀ r k, k + r = nB J → ∀ mc ms S', r ≤ mc → 2 * r ≤ ms → Chg (MR ad [11]) S S' → wx_X0_countOf_4 Q (r + 1) mc ms S' (some (ad 0)) v (cntK J v k) (nI k) := by
    intro r
    induction r with
    | zero =>
      intro k hk mc ms S' _ _ c
      have : k = nB J := by omega
      subst this
      have g' := g.tu c
      unfold wx_X0_countOf_4
      simp only [dr_some, g'.k0, g'.r2, g'.bk.ls.1, g'.bk.ls.size, true_and]
      rw [if_pos (by grind)]
      exact k1 S' c
    | succ r ih =>
      intro k hk mc ms S' h1 h2 c
      have hk' : k < nB J := by omega
      have g' := g.tu c
      unfold wx_X0_countOf_4
      simp only [dr_some, g'.k0, g'.r2, g'.bk.ls.1, g'.bk.ls.size, true_and]
      rw [if_neg (by rw [nIq_le (by omega) (by omega)]; omega)]
      refine ⟨1, 2, by omega, by omega, ?_⟩
      refine ex_asked g' hk' (Nat.le_refl _) (Nat.le_refl _) _ (fun S2 q hq c2 hA => ?_)
      have cc : Chg (MR ad [11]) S S2 := c.two c2
      simp only [dr_some]
      have ih' := ih (k + 1) (by omega) (mc - 1) (ms - 2) S2 (by omega) (by omega) cc
      unfold cntK at ih'
      have fin : ∀ r14 : Int32, r14 = kN (fK J k) → (if r14 = v then wx_X0_countOf_45 Q (wx_X0_countOf_4 Q (r + 1)) (mc - 1) (ms - 2) S2 (some (ad 0)) v (nI k) (cntK J v k) else (if v = (1 : Int32) then (if r14 = (2 : Int32) then wx_X0_countOf_45 Q (wx_X0_countOf_4 Q (r + 1)) (mc - 1) (ms - 2) S2 (some (ad 0)) v (nI k) (cntK J v k) else wx_X0_countOf_49 Q (wx_X0_countOf_4 Q (r + 1)) (mc - 1) (ms - 2) S2 (some (ad 0)) v (nI k) (cntK J v k)) else wx_X0_countOf_49 Q (wx_X0_countOf_4 Q (r + 1)) (mc - 1) (ms - 2) S2 (some (ad 0)) v (nI k) (cntK J v k))) := by
        intro r14 e
        subst e
        unfold wx_X0_countOf_45 wx_X0_countOf_49 wx_X0_countOf_50
        rw [nI_tInc]
        by_cases z1 : kN (fK J k) = v
        · rw [if_pos z1]; rw [bI_t (Or.inl z1)] at ih'; exact ih'
        · rw [if_neg z1]
          by_cases z2 : v = 1
          · rw [if_pos z2]
            by_cases z3 : kN (fK J k) = 2
            · rw [if_pos z3]; rw [bI_t (Or.inr ⟨z2, z3⟩)] at ih'; exact ih'
            · rw [if_neg z3]; rw [bI_f (fun y => by rcases y with y | y; exact z1 y; exact z3 y.2)] at ih'; exact ih'
          · rw [if_neg z2]; rw [bI_f (fun y => by rcases y with y | y; exact z1 y; exact z2 y.1)] at ih'; exact ih'
      unfold wa_kind
      rw [hA.kd]
      rcases fK_in J k with e | e | e | e | e <;> rw [e] at fin ⊢
      · exact Or.inl ⟨rfl, fin _ rfl⟩
      · exact Or.inr (Or.inl ⟨rfl, fin _ rfl⟩)
      · exact Or.inr (Or.inr (Or.inl ⟨rfl, fin _ rfl⟩))
      · exact Or.inr (Or.inr (Or.inr (Or.inl ⟨rfl, fin _ rfl⟩)))
      · exact Or.inr (Or.inr (Or.inr (Or.inr ⟨rfl, fin _ rfl⟩)))
  exact ⟨nB J + 1, L (nB J) 0 (by omega) mc ms S (by omega) (by omega) (Chg.refl g.b.cl)⟩
theorem op_count (h : XR x J S) {mc ms : Nat} (hc : 100 ≤ mc) (hm : 1000 ≤ ms) (w : Int32) : wx_X0_count (fun r S1 => wm_count (fun r2 J1 => Ans x r S1 r2 J1) J w) mc ms S (some x) w := by
  obtain ⟨ad, rfl, h⟩ := h
  have g := h.m0
  have hji := h.ji
  generalize hJ : mset J 0 0 0 = J0 at g
  have fin : ∀ r S', XA ad J0 S' → r = fCount J0 w → wm_count (fun r2 J1 => Ans (ad 0) r S' r2 J1) J w := fun r S' g' hr => em_count hji _ hJ g.ji w ⟨hr.symm, ad, rfl, g'⟩
  obtain ⟨L4, l4, -⟩ := g.co
  obtain ⟨L7, l7, -⟩ := g.me
  have cK : ∀ v, v = w - 1 → cntK J0 v (nB J0) = fCount J0 w → wx_X0_count_97 (fun r S1 => wm_count (fun r2 J1 => Ans (ad 0) r S1 r2 J1) J w) mc ms S (some (ad 0)) w := by
    intro v hv e
    unfold wx_X0_count_97
    simp only [dr_some]
    refine ⟨g.k0, 16, 32, by omega, by omega, ?_⟩
    rw [← hv]
    exact ex_countOf g _ v (Nat.le_refl _) (Nat.le_refl _) (fun S' c => fin _ S' (g.tu c) e)
  unfold wx_X0_count
  simp only [dr_some, g.k0, g.r2, g.r3, g.r6, g.bk.ls.1, g.bk.ls.size, l4.1, l4.size, l7.1, l7.size, g.f.i8, true_and]
  have F := fin
  split
  · rename_i e
    have L : ∀ r k, k + r = 8 → wx_X0_count_56 (fun r S1 => wm_count (fun r2 J1 => Ans (ad 0) r S1 r2 J1) J w) (r + 1) mc ms S (some (ad 0)) (cntL J0 k) (nI k) := by
      intro r
      induction r with
      | zero =>
        intro k hk
        have : k = 8 := by omega
        subst this
        unfold wx_X0_count_56
        rw [if_pos (by decide)]
        exact fin _ S g (by unfold fCount; rw [if_pos e])
      | succ r ih =>
        intro k hk
        unfold wx_X0_count_56 wx_X0_count_77
        have k1 : xKD S (ad 1) = some 105 := g.k (by decide)
        rw [if_neg (by show ¬ nI 8 ≤ nI k; rw [nIq_le (by omega) (by omega)]; omega)]
        simp only [dr_some, g.k0, g.r0, k1, g.b.l1, p_vpn (show k < 8 by omega) (show 8 < 2 ^ 31 by decide), true_and, p_tn (show k < 2 ^ 31 by omega), nI_tInc]
        have ih' := ih (k + 1) (by omega)
        unfold cntL at ih'
        by_cases z : 0 ≤ J0 9 k
        · rw [(g.sh.sm k (by omega) z).1, if_neg (by simp [xSall])]; rw [if_pos z] at ih'; exact ih'
        · rw [g.sh.nn k (by omega) z, if_pos rfl]; rw [if_neg z] at ih'; exact ih'
    exact ⟨9, L 8 0 (by omega)⟩
  rename_i e0
  split
  · rename_i e; exact fin _ S g (by unfold fCount; rw [if_neg e0, if_pos e]; exact g.ji.nb.1.symm)
  rename_i e1
  split
  · rename_i e; exact cK 1 (by rw [e]; decide) (by unfold fCount; rw [if_neg e0, if_neg e1, if_pos e])
  rename_i e2
  split
  · rename_i e; exact cK 2 (by rw [e]; decide) (by unfold fCount; rw [if_neg e0, if_neg e1, if_neg e2, if_pos e])
  rename_i e3
  split
  · rename_i e; exact cK 3 (by rw [e]; decide) (by unfold fCount; rw [if_neg e0, if_neg e1, if_neg e2, if_neg e3, if_pos e])
  rename_i e4
  split
  · rename_i e; exact cK 4 (by rw [e]; decide) (by unfold fCount; rw [if_neg e0, if_neg e1, if_neg e2, if_neg e3, if_neg e4, if_pos e])
  rename_i e5
  split
  · rename_i e; exact fin _ S g (by unfold fCount; rw [if_neg e0, if_neg e1, if_neg e2, if_neg e3, if_neg e4, if_neg e5, if_pos e]; exact g.ji.nc.1.symm)
  rename_i e6
  split
  · rename_i e; exact fin _ S g (by unfold fCount; rw [if_neg e0, if_neg e1, if_neg e2, if_neg e3, if_neg e4, if_neg e5, if_neg e6, if_pos e]; exact g.ji.nm.1.symm)
  rename_i e7
  split
  · rename_i e; exact fin _ S g (by unfold fCount; rw [if_neg e0, if_neg e1, if_neg e2, if_neg e3, if_neg e4, if_neg e5, if_neg e6, if_neg e7, if_pos e])
  · rename_i e; exact fin _ S g (by unfold fCount; rw [if_neg e0, if_neg e1, if_neg e2, if_neg e3, if_neg e4, if_neg e5, if_neg e6, if_neg e7, if_neg e])
end
