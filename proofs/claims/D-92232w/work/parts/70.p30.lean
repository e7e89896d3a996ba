/-! PLAIN SIDE 30: home -/
section
variable {ad : Nat → Nat} {J : MS} {S : XS} {x : Nat}
theorem em_first (g : JI J) (h : Int32) {dm : Nat} (hd : dm < 8) (Q : Int32 → MS → Prop) (k1 : ∀ nx, nx = encO (scanF (tk1 (J 44)) tk2 (pHit J h dm) (nL J)) → (if nx = -1000000 then Q (-1000000) J else ∃ n16, wm_home_131 Q n16 J h (nI dm) nx (-1000000) 0)) : ∀ r k, k + r = nL J → wm_home_33 Q (r + 1) J h (nI dm) (encO (scanF (tk1 (J 44)) tk2 (pHit J h dm) k)) (nI k) := by
  obtain ⟨n1, n2⟩ := g.nl
  have one : ¬ (1 : Int32) = 0 := by decide
  intro r
  induction r with
  | zero =>
    intro k hk
    have : k = nL J := by omega
    subst this
    unfold wm_home_33
    rw [n1, if_pos (by grind)]
    exact k1 _ rfl
  | succ r ih =>
    intro k hk
    have hk' : k < nL J := by omega
    have ih' := ih (k + 1) (by omega)
    obtain ⟨d1, d2⟩ := dmg_eq g hk'
    have vk : vp_in (nI k) 40 := p_vpn (by omega) (by decide)
    unfold wm_home_33 wm_home_72 wm_home_73 wm_home_107 wm_home_102 wm_home_108
    rw [n1, if_neg (by rw [nIq_le (by omega) (by omega)]; omega)]
    simp only [vk, true_and, p_tn (show k < 2 ^ 31 by omega), d1, nI_bit (show dmg J k < 2 ^ 31 by omega) (show dm < 31 by omega), nI_tInc, if_true, if_neg one]
    unfold scanF at ih'
    have keep : ¬ pHit J h dm k → wm_home_33 Q (r + 1) J h (nI dm) (encO (scanF (tk1 (J 44)) tk2 (pHit J h dm) k)) (nI (k + 1)) := by
      intro hn
      rw [if_neg (fun y => hn y.1)] at ih'
      exact ih'
    by_cases z : J 43 k = h
    · rw [if_pos z]
      by_cases t : (dmg J k).testBit dm = true
      · rw [bI_t t, if_pos rfl]
        cases es : scanF (tk1 (J 44)) tk2 (pHit J h dm) k with
        | none =>
          rw [es, if_pos ⟨⟨z, t⟩, fun a h => by cases h⟩] at ih'
          show (if (-1000000 : Int32) = -1000000 then _ else _)
          rw [if_pos rfl]
          exact ih'
        | some a =>
          have ha : a < k := (scanF_some _ _ _ k a es).1
          rw [es] at ih'
          show (if nI a = -1000000 then _ else _)
          rw [if_neg (enc_ne (by omega))]
          refine ⟨p_vpn (by omega) (by decide), ?_⟩
          show (if J 44 (nI a).toNatClampNeg ≤ J 44 k then _ else _)
          rw [p_tn (by omega)]
          by_cases y : J 44 a ≤ J 44 k
          · rw [if_neg (fun v => by have := v.2 a rfl; unfold klt tk1 tk2 at this; rw [p_le] at y; omega)] at ih'
            rw [if_pos y]
            exact ih'
          · rw [if_pos ⟨⟨z, t⟩, fun a' h => by cases h; unfold klt tk1 tk2; rw [p_le] at y; omega⟩] at ih'
            rw [if_neg y]
            exact ih'
      · rw [bI_f t, if_neg (by decide)]; exact keep (fun y => t y.2)
    · rw [if_neg z]; exact keep (fun y => z y.1)
theorem em_last (g : JI J) (h : Int32) {dm fi : Nat} (hd : dm < 8) (hf : fi < nL J) (Q : Int32 → MS → Prop) (k1 : ∀ nx, nx = encO (scanM (tk1 (J 44)) tk2 (pBefo J h dm fi) (nL J)) → (if nx = -1000000 then Q (-1000000) J else vp_in nx 40 ∧ (if J 44 nx.toNatClampNeg = J 44 fi then Q (-1000000) J else wm_holdOn (fun r6 J5 => ∃ n15, wm_home_311 Q n15 J5 h (nI fi) nx r6 (-1000000) 0 0) J 364))) : ∀ r k, k + r = nL J → wm_home_131 Q (r + 1) J h (nI dm) (nI fi) (encO (scanM (tk1 (J 44)) tk2 (pBefo J h dm fi) k)) (nI k) := by
  obtain ⟨n1, n2⟩ := g.nl
  have one : ¬ (1 : Int32) = 0 := by decide
  have vf : vp_in (nI fi) 40 := p_vpn (by omega) (by decide)
  intro r
  induction r with
  | zero =>
    intro k hk
    have : k = nL J := by omega
    subst this
    unfold wm_home_131
    rw [n1, if_pos (by grind), p_tn (show fi < 2 ^ 31 by omega)]
    have := k1 _ rfl
    simp only [vf, true_and]
    exact this
  | succ r ih =>
    intro k hk
    have hk' : k < nL J := by omega
    have ih' := ih (k + 1) (by omega)
    obtain ⟨d1, d2⟩ := dmg_eq g hk'
    have vk : vp_in (nI k) 40 := p_vpn (by omega) (by decide)
    unfold wm_home_131 wm_home_178 wm_home_182 wm_home_183 wm_home_219 wm_home_220 wm_home_256 wm_home_251 wm_home_258
    rw [n1, if_neg (by rw [nIq_le (by omega) (by omega)]; omega)]
    simp only [vk, vf, true_and, p_tn (show k < 2 ^ 31 by omega), p_tn (show fi < 2 ^ 31 by omega), d1, nI_bit (show dmg J k < 2 ^ 31 by omega) (show dm < 31 by omega), nI_tInc, if_true, if_neg one]
    unfold scanM at ih'
    have keep : ¬ pBefo J h dm fi k → wm_home_131 Q (r + 1) J h (nI dm) (nI fi) (encO (scanM (tk1 (J 44)) tk2 (pBefo J h dm fi) k)) (nI (k + 1)) := by
      intro hn
      rw [if_neg (fun y => hn y.1)] at ih'
      exact ih'
    -- one that is ahead of the first
    have ahead : klt (tk1 (J 44)) tk2 k fi → (if J 43 k = h then (if bI ((dmg J k).testBit dm = true) = 0 then (if encO (scanM (tk1 (J 44)) tk2 (pBefo J h dm fi) k) = -1000000 then wm_home_131 Q (r + 1) J h (nI dm) (nI fi) (nI k) (nI (k + 1)) else vp_in (encO (scanM (tk1 (J 44)) tk2 (pBefo J h dm fi) k)) 40 ∧ (if J 44 k < J 44 (encO (scanM (tk1 (J 44)) tk2 (pBefo J h dm fi) k)).toNatClampNeg then wm_home_131 Q (r + 1) J h (nI dm) (nI fi) (encO (scanM (tk1 (J 44)) tk2 (pBefo J h dm fi) k)) (nI (k + 1)) else wm_home_131 Q (r + 1) J h (nI dm) (nI fi) (nI k) (nI (k + 1)))) else wm_home_131 Q (r + 1) J h (nI dm) (nI fi) (encO (scanM (tk1 (J 44)) tk2 (pBefo J h dm fi) k)) (nI (k + 1))) else wm_home_131 Q (r + 1) J h (nI dm) (nI fi) (encO (scanM (tk1 (J 44)) tk2 (pBefo J h dm fi) k)) (nI (k + 1))) := by
      intro hb
      by_cases z : J 43 k = h
      · rw [if_pos z]
        by_cases t : (dmg J k).testBit dm = true
        · rw [bI_t t, if_neg one]; exact keep (fun y => y.1.2 t)
        · rw [bI_f t, if_pos rfl]
          cases es : scanM (tk1 (J 44)) tk2 (pBefo J h dm fi) k with
          | none =>
            rw [es, if_pos ⟨⟨⟨z, t⟩, hb⟩, fun a h => by cases h⟩] at ih'
            show (if (-1000000 : Int32) = -1000000 then _ else _)
            rw [if_pos rfl]
            exact ih'
          | some a =>
            have ha : a < k := (scanM_some _ _ _ k a es).1
            rw [es] at ih'
            show (if nI a = -1000000 then _ else _)
            rw [if_neg (enc_ne (by omega))]
            refine ⟨p_vpn (by omega) (by decide), ?_⟩
            show (if J 44 k < J 44 (nI a).toNatClampNeg then _ else _)
            rw [p_tn (by omega)]
            by_cases y : J 44 k < J 44 a
            · rw [if_neg (fun v => by have := v.2 a rfl; unfold klt tk1 tk2 at this; rw [p_lt] at y; omega)] at ih'
              rw [if_pos y]
              exact ih'
            · rw [if_pos ⟨⟨⟨z, t⟩, hb⟩, fun a' h => by cases h; unfold klt tk1 tk2; rw [p_lt] at y; omega⟩] at ih'
              rw [if_neg y]
              exact ih'
      · rw [if_neg z]; exact keep (fun y => z y.1.1)
    have noA : ¬ klt (tk1 (J 44)) tk2 k fi → (if J 43 k = h then wm_home_131 Q (r + 1) J h (nI dm) (nI fi) (encO (scanM (tk1 (J 44)) tk2 (pBefo J h dm fi) k)) (nI (k + 1)) else wm_home_131 Q (r + 1) J h (nI dm) (nI fi) (encO (scanM (tk1 (J 44)) tk2 (pBefo J h dm fi) k)) (nI (k + 1))) := by
      intro hb
      split <;> exact keep (fun y => hb y.2)
    by_cases a1 : J 44 k < J 44 fi
    · rw [if_pos a1]
      exact ahead (by unfold klt tk1 tk2; rw [p_lt] at a1; omega)
    · rw [if_neg a1]
      by_cases a2 : J 44 k = J 44 fi
      · rw [if_pos a2]
        have a2' := congrArg Int32.toInt a2
        by_cases a3 : nI fi ≤ nI k
        · rw [if_pos a3]
          rw [nIq_le (by omega) (by omega)] at a3
          exact noA (by unfold klt tk1 tk2; omega)
        · rw [if_neg a3]
          rw [nIq_le (by omega) (by omega)] at a3
          exact ahead (by unfold klt tk1 tk2; omega)
      · rw [if_neg a2]
        exact noA (by unfold klt tk1 tk2; rw [p_lt] at a1; rw [p_eq] at a2; omega)
theorem ex_looks (g : XA ad J S) (h : Int32) {dm : Nat} (hd : dm < 8) (Q : Int32 → XS → Prop) {j : Nat} (hj : j ≤ nL J) (hn : ∀ i, i < j → ¬ pHit J h dm (ordF (J 44) (nL J) i)) (k1 : if j < nL J then (pHit J h dm (ordF (J 44) (nL J) j) ∧ wx_X0_home_116 Q S (some (ad 0)) h (bfF J h dm (ordF (J 44) (nL J)) j) (J 44 (ordF (J 44) (nL J) j))) else wx_X0_home_116 Q S (some (ad 0)) h (bfF J h dm (ordF (J 44) (nL J)) j) (-1000000)) : wx_X0_home_32 Q (j + 2) S (some (ad 0)) h (nI dm) (-1000000) (-1000000) 0 := by
  obtain ⟨n1, n2⟩ := g.ji.nl
  obtain ⟨L, l, hl⟩ := g.lo
  have loop : ∀ r i, i + r = j → wx_X0_home_32 Q (r + 2) S (some (ad 0)) h (nI dm) (bfF J h dm (ordF (J 44) (nL J)) i) (-1000000) (nI i) := by
    intro r
    induction r with
    | zero =>
      intro i hi
      have : i = j := by omega
      subst this
      unfold wx_X0_home_32 wx_X0_home_110
      simp only [dr_some, g.k0, g.r5, l.1, l.size, true_and]
      by_cases z : i < nL J
      · rw [if_pos z] at k1
        rw [if_neg (by rw [nIq_le (by omega) (by omega)]; omega), if_pos trivial]
        obtain ⟨q0, q1, q2, q3, q4⟩ := hl i z
        have q1 : xFI S 900 (L i) = J 43 (ordF (J 44) (nL J) i) := q1
        have q2 : xFI S 901 (L i) = J 44 (ordF (J 44) (nL J) i) := q2
        have q3 : xFI S 902 (L i) = J 45 (ordF (J 44) (nL J) i) := q3
        have hf := ordF_lt (J 44) (nL J) i z
        obtain ⟨d1, d2⟩ := dmg_eq g.ji hf
        simp only [l.get z, dr_some, q0, true_and, q1, q2, q3]
        rw [if_pos k1.1.1, d1, nI_bit (by omega) (by omega), bI_t k1.1.2, if_pos rfl]
        unfold wx_X0_home_32
        have ne : ¬ J 44 (ordF (J 44) (nL J) i) = -1000000 := by
          have := (g.ji.loo _ hf).2.1
          intro y
          rw [y] at this
          exact absurd this.1 (by decide)
        simp only [dr_some, g.k0, g.r5, l.1, l.size, true_and, if_neg ne]
        split <;> exact k1.2
      · rw [if_neg z] at k1
        rw [if_pos (by rw [nIq_le (by omega) (by omega)]; omega)]
        exact k1
    | succ r ih =>
      intro i hi
      have hi' : i < nL J := by omega
      have ih' := ih (i + 1) (by omega)
      obtain ⟨q0, q1, q2, q3, q4⟩ := hl i hi'
      have q1 : xFI S 900 (L i) = J 43 (ordF (J 44) (nL J) i) := q1
      have q2 : xFI S 901 (L i) = J 44 (ordF (J 44) (nL J) i) := q2
      have q3 : xFI S 902 (L i) = J 45 (ordF (J 44) (nL J) i) := q3
      have hf := ordF_lt (J 44) (nL J) i hi'
      obtain ⟨d1, d2⟩ := dmg_eq g.ji hf
      have hh := hn i (by omega)
      unfold wx_X0_home_32 wx_X0_home_110
      simp only [dr_some, g.k0, g.r5, l.1, l.size, true_and]
      rw [if_neg (by rw [nIq_le (by omega) (by omega)]; omega), if_pos trivial]
      simp only [l.get hi', dr_some, q0, true_and, q1, q2, q3, nI_tInc]
      rw [d1, nI_bit (by omega) (by omega)]
      unfold bfF at ih'
      by_cases z : J 43 (ordF (J 44) (nL J) i) = h
      · rw [if_pos z]
        have nt : ¬ (dmg J (ordF (J 44) (nL J) i)).testBit dm = true := fun y => hh ⟨z, y⟩
        rw [bI_f nt, if_neg (by decide)]
        rw [if_pos ⟨z, nt⟩] at ih'
        exact ih'
      · rw [if_neg z]
        rw [if_neg (fun y => z y.1)] at ih'
        exact ih'
  exact loop j 0 (by omega)
theorem op_home (h : XR x J S) (a b : Int32) : wx_X0_home (fun r S1 => wm_home (fun r2 J1 => Ans x r S1 r2 J1) J a b) S (some x) a b := by
  obtain ⟨ad, rfl, h⟩ := h
  have g := h.m0
  generalize hJ : mset J 0 0 0 = J0 at g
  unfold wx_X0_home
  simp only [ex_isHall, ex_in, bI_ite, Int32.toInt_toInt64, Int64.reduceToInt]
  have em : ∀ Q : Int32 → MS → Prop, wm_home Q J a b = if 0 ≤ a.toInt ∧ a.toInt ≤ 3 then (if 0 ≤ b.toInt ∧ b.toInt ≤ 7 then ∃ n17, wm_home_33 Q n17 J0 a b (-1000000) 0 else Q (-1000001) J0) else Q (-1000001) J0 := by
    intro Q
    unfold wm_home
    simp only [em_isHall, em_in, bI_ite, hJ, Int32.toInt_toInt64, Int64.reduceToInt]
  by_cases qa : 0 ≤ a.toInt ∧ a.toInt ≤ 3
  · rw [if_pos qa]
    by_cases qb : 0 ≤ b.toInt ∧ b.toInt ≤ 7
    · rw [if_pos qb]
      obtain ⟨dm, d1, rfl⟩ := p_ex (x := b) (n := 8) qb.1 (by omega)
      obtain ⟨nl1, nl2⟩ := g.ji.nl
      rcases looks_cut g.ji a dm with ⟨w1, w2⟩ | ⟨j, j1, j2, j3, j4, j5⟩
      · -- none shows it
        have fin : ∀ S', XA ad J0 S' → wm_home (fun r2 J1 => Ans (ad 0) (-1000000) S' r2 J1) J a (nI dm) := by
          intro S' g'
          rw [em, if_pos qa, if_pos qb]
          refine ⟨nL J0 + 1, em_first g.ji a d1 _ (fun nx hx => ?_) (nL J0) 0 (by omega)⟩
          rw [w2] at hx
          rw [if_pos (show nx = -1000000 from hx)]
          exact ⟨rfl, ad, rfl, g'⟩
        refine ⟨nL J0 + 2, ex_looks g a d1 _ (Nat.le_refl _) w1 ?_⟩
        rw [if_neg (by omega)]
        unfold wx_X0_home_116
        simp only [if_true]
        split <;> exact fin S g
      · have hf := ordF_lt (J0 44) (nL J0) j j1
        generalize hfi : ordF (J0 44) (nL J0) j = fi at *
        have at1 := (g.ji.loo fi hf).2.1
        have ne : ¬ J0 44 fi = -1000000 := by
          intro y
          rw [y] at at1
          exact absurd at1.1 (by decide)
        refine ⟨j + 2, ex_looks g a d1 _ (by omega) j3 ?_⟩
        rw [if_pos j1, hfi]
        refine ⟨j2, ?_⟩
        unfold wx_X0_home_116
        have fin : ∀ r S', XA ad J0 S' → (∀ nx, nx = encO (scanM (tk1 (J0 44)) tk2 (pBefo J0 a dm fi) (nL J0)) → (if nx = -1000000 then Ans (ad 0) r S' (-1000000) J0 else vp_in nx 40 ∧ (if J0 44 nx.toNatClampNeg = J0 44 fi then Ans (ad 0) r S' (-1000000) J0 else wm_holdOn (fun r6 J5 => ∃ n15, wm_home_311 (fun r2 J1 => Ans (ad 0) r S' r2 J1) n15 J5 a (nI fi) nx r6 (-1000000) 0 0) J0 364))) → wm_home (fun r2 J1 => Ans (ad 0) r S' r2 J1) J a (nI dm) := by
          intro r S' g' kk
          rw [em, if_pos qa, if_pos qb]
          refine ⟨nL J0 + 1, em_first g.ji a d1 _ (fun nx hx => ?_) (nL J0) 0 (by omega)⟩
          rw [j4] at hx
          rw [hx]
          show (if nI fi = -1000000 then _ else _)
          rw [if_neg (enc_ne (by omega))]
          exact ⟨nL J0 + 1, em_last g.ji a d1 hf _ kk (nL J0) 0 (by omega)⟩
        rcases j5 with ⟨b1, b2⟩ | ⟨la, b0, b1, b2⟩
        · rw [if_pos b1]
          refine fin _ S g (fun nx hx => ?_)
          rw [b2] at hx
          rw [if_pos (show nx = -1000000 from hx)]
          exact ⟨rfl, ad, rfl, g⟩
        · have at2 := (g.ji.loo la b0).2.1
          rw [b1]
          have ne2 : ¬ J0 44 la = -1000000 := by
            intro y
            rw [y] at at2
            exact absurd at2.1 (by decide)
          rw [if_neg ne2, if_neg ne]
          by_cases z : J0 44 la = J0 44 fi
          · rw [if_pos z]
            refine fin _ S g (fun nx hx => ?_)
            rw [b2] at hx
            subst hx
            show (if nI la = -1000000 then _ else _)
            rw [if_neg (enc_ne (by omega))]
            refine ⟨p_vpn (by omega) (by decide), ?_⟩
            show (if J0 44 (nI la).toNatClampNeg = J0 44 fi then _ else _)
            rw [p_tn (by omega), if_pos z]
            exact ⟨rfl, ad, rfl, g⟩
          · rw [if_neg z]
            simp only [dr_some, g.k0, true_and]
            refine ex_held g 364 _ (fun S' c => ?_)
            have g' := g.tu c
            have fl := fHeld_lt J0 364 g.ji
            refine ⟨nB J0 + 1, ex_home1 g' a (J0 44 la) (J0 44 fi) fl _ ?_ (nB J0) 0 (by omega) (Nat.zero_le _)⟩
            refine fin _ S' g' (fun nx hx => ?_)
            rw [b2] at hx
            subst hx
            show (if nI la = -1000000 then _ else _)
            rw [if_neg (enc_ne (by omega))]
            refine ⟨p_vpn (by omega) (by decide), ?_⟩
            show (if J0 44 (nI la).toNatClampNeg = J0 44 fi then _ else _)
            rw [p_tn (by omega), if_neg z]
            exact em_holdOn g.ji 364 _ ⟨nB J0 + 1, em_home1 g.ji a fi la _ hf b0 fl _ ⟨rfl, ad, rfl, g'⟩ (nB J0) 0 (by omega)⟩
    · rw [if_neg qb, em, if_pos qa, if_neg qb]
      exact ⟨rfl, ad, rfl, g⟩
  · rw [if_neg qa, em, if_neg qa]
    exact ⟨rfl, ad, rfl, g⟩
end
