/-! PLAIN SIDE 27: coins run in the model; run, meter -/
section
variable {ad : Nat → Nat} {J : MS} {S : XS} {x : Nat}
theorem em_runTill (g : JI J) (h t : Int32) (Q : Int32 → MS → Prop) (k1 : Q (fRun J h t) J) : wm_runTill Q J h t := by
  obtain ⟨n1, n2⟩ := g.nc
  have ok := ordF_ok (J 35) (nC J)
  unfold fRun at k1
  generalize hf : ordF (J 35) (nC J) = f at ok k1
  have flt : ∀ i, i < nC J → f i < 40 := fun i hi => Nat.lt_of_lt_of_le (ok.mem i hi).1 n2
  have mlt : ∀ j, j ≤ nC J → mskP (pRun J h t) f j < 2 ^ 40 := fun j hj => mskP_lt j (fun i hi => flt i (by omega))
  have one : ¬ (1 : Int32) = 0 := by decide
  have S1 : ∀ (K11 : MS → Int32 → Int32 → Int64 → Int32 → Int32 → Int32 → Prop) (j : Nat) (e r_ : Int32), j ≤ nC J → (∀ nx, nx = encO (scanF (tk1 (J 35)) tk2 (fun b => pRun J h t b ∧ ¬ (mskP (pRun J h t) f j).testBit b = true) (nC J)) → (if nx = -1000000 then wm_runTill_128 Q K11 J h t (nL64 (mskP (pRun J h t) f j)) e r_ nx 0 else wm_runTill_128 Q K11 J h t (nL64 (mskP (pRun J h t) f j)) e r_ nx 1)) → ∀ r k, k + r = nC J → wm_runTill_23 Q K11 (r + 1) J h t (nL64 (mskP (pRun J h t) f j)) e r_ (encO (scanF (tk1 (J 35)) tk2 (fun b => pRun J h t b ∧ ¬ (mskP (pRun J h t) f j).testBit b = true) k)) (nI k) := by
    intro K11 j e r_ hj kk r
    have ml := mlt j hj
    induction r with
    | zero =>
      intro k hk
      have : k = nC J := by omega
      subst this
      unfold wm_runTill_23
      rw [n1, if_pos (by grind)]
      exact kk _ rfl
    | succ r ih =>
      intro k hk
      have hk' : k < nC J := by omega
      have ih' := ih (k + 1) (by omega)
      have vk : vp_in (nI k) 40 := p_vpn (by omega) (by decide)
      unfold wm_runTill_23 wm_runTill_69 wm_runTill_70 wm_runTill_106 wm_runTill_101 wm_runTill_108
      rw [n1, if_neg (by rw [nIq_le (by omega) (by omega)]; omega)]
      simp only [vk, p_tn (show k < 2 ^ 31 by omega), true_and, if_true, if_neg one, nI_tInc]
      unfold scanF at ih'
      have keep : ¬ (pRun J h t k ∧ ¬ (mskP (pRun J h t) f j).testBit k = true) → wm_runTill_23 Q K11 (r + 1) J h t (nL64 (mskP (pRun J h t) f j)) e r_ (encO (scanF (tk1 (J 35)) tk2 (fun b => pRun J h t b ∧ ¬ (mskP (pRun J h t) f j).testBit b = true) k)) (nI (k + 1)) := by
        intro hn
        rw [if_neg (fun y => hn y.1)] at ih'
        exact ih'
      by_cases z : J 34 k = h
      · rw [if_pos z]
        by_cases z2 : t < J 35 k
        · rw [if_pos z2]; exact keep (fun y => by have := y.1.2; grind)
        · rw [if_neg z2]
          have pk : pRun J h t k := ⟨z, by grind⟩
          by_cases w : (mskP (pRun J h t) f j).testBit k = true
          · rw [if_neg (fun y => (nL_bit ml (by omega)).mp y w)]; exact keep (fun y => y.2 w)
          · rw [if_pos ((nL_bit ml (by omega)).mpr w)]
            cases es : scanF (tk1 (J 35)) tk2 (fun b => pRun J h t b ∧ ¬ (mskP (pRun J h t) f j).testBit b = true) k with
            | none =>
              rw [es, if_pos ⟨⟨pk, w⟩, fun a h => by cases h⟩] at ih'
              show (if (-1000000 : Int32) = -1000000 then _ else _)
              rw [if_pos rfl]
              exact ih'
            | some a =>
              have ha : a < k := (scanF_some _ _ _ k a es).1
              rw [es] at ih'
              show (if nI a = -1000000 then _ else _)
              rw [if_neg (enc_ne (by omega))]
              refine ⟨p_vpn (by omega) (by decide), ?_⟩
              show (if J 35 (nI a).toNatClampNeg ≤ J 35 k then _ else _)
              rw [p_tn (by omega)]
              by_cases y : J 35 a ≤ J 35 k
              · rw [if_neg (fun v => by have := v.2 a rfl; unfold klt tk1 tk2 at this; rw [p_le] at y; omega)] at ih'
                rw [if_pos y]
                exact ih'
              · rw [if_pos ⟨⟨pk, w⟩, fun a' h => by cases h; unfold klt tk1 tk2; rw [p_le] at y; omega⟩] at ih'
                rw [if_neg y]
                exact ih'
      · rw [if_neg z]; exact keep (fun y => z y.1.1)
  have M : ∀ r j, j + r = nC J → ∃ fu, wm_runTill_11 Q fu J h t (nL64 (mskP (pRun J h t) f j)) (rFold J h t f j).1 (rFold J h t f j).2 1 := by
    intro r
    induction r with
    | zero =>
      intro j hj
      have : j = nC J := by omega
      subst this
      refine ⟨2, ?_⟩
      unfold wm_runTill_11
      rw [if_neg one]
      refine ⟨nC J + 1, S1 _ (nC J) _ _ (Nat.le_refl _) (fun nx hx => ?_) (nC J) 0 (by omega)⟩
      rw [ok.scanPn] at hx
      subst hx
      show (if (-1000000 : Int32) = -1000000 then _ else _)
      rw [if_pos rfl]
      unfold wm_runTill_128 wm_runTill_227 wm_runTill_11
      rw [if_pos rfl, if_pos rfl]
      exact k1
    | succ r ih =>
      intro j hj
      have hj' : j < nC J := by omega
      obtain ⟨fu, ih'⟩ := ih (j + 1) (by omega)
      unfold rFold mskP at ih'
      have f40 := flt j hj'
      by_cases pj : pRun J h t (f j)
      · rw [if_pos pj, if_pos pj] at ih'
        refine ⟨fu + 1, ?_⟩
        unfold wm_runTill_11
        rw [if_neg one]
        refine ⟨nC J + 1, S1 _ j _ _ (by omega) (fun nx hx => ?_) (nC J) 0 (by omega)⟩
        rw [ok.scanP _ hj' pj] at hx
        subst hx
        show (if nI (f j) = -1000000 then _ else _)
        rw [if_neg (enc_ne (by omega))]
        unfold wm_runTill_128
        rw [if_neg one]
        have vf : vp_in (nI (f j)) 40 := p_vpn f40 (by decide)
        generalize hp : rFold J h t f j = p at ih' ⊢
        generalize he1 : J 35 (f j) = t1 at ih'
        generalize he2 : J 36 (f j) = m1 at ih'
        -- start and stop alike
        have go : ∀ s : Int32, s = rStart p.1 t1 → wm_runTill_172 Q (wm_runTill_11 Q fu) J h t (nL64 (mskP (pRun J h t) f j) ||| ((1 : Int64) <<< (Int32.toInt64 (nI (f j)) &&& 63))) p.2 1 (nI (f j)) s := by
          intro s hs
          rw [← hs] at ih'
          unfold wm_runTill_172 wm_runTill_204 wm_runTill_224 wm_runTill_227
          rw [nL_setbit f40, p_tn (by omega), he2]
          refine ⟨vf, ?_⟩
          have fin : ∀ st : Int32, st = rStop s m1 (15 * t) → (if st ≤ s then wm_runTill_11 Q fu J h t (nL64 (mskP (pRun J h t) f j ||| 2 ^ f j)) (s + m1) (p.2 + 0) 1 else wm_runTill_11 Q fu J h t (nL64 (mskP (pRun J h t) f j ||| 2 ^ f j)) (s + m1) (p.2 + (st - s)) 1) := by
            intro st hst
            rw [← hst] at ih'
            by_cases z : s < st
            · rw [if_neg (by grind)]; rw [if_pos z] at ih'; exact ih'
            · rw [if_pos (by grind)]; rw [if_neg z] at ih'; exact ih'
          by_cases z : 15 * t ≤ s + m1
          · rw [if_pos z]
            refine fin _ ?_
            unfold rStop
            by_cases y : 15 * t < s + m1
            · rw [if_pos y]
            · rw [if_neg y]; grind
          · rw [if_neg z]
            refine fin _ ?_
            unfold rStop
            rw [if_neg (by grind)]
        show vp_in (nI (f j)) 40 ∧ (if p.1 ≤ 15 * J 35 (nI (f j)).toNatClampNeg then vp_in (nI (f j)) 40 ∧ wm_runTill_172 Q (wm_runTill_11 Q fu) J h t _ p.2 1 (nI (f j)) (15 * J 35 (nI (f j)).toNatClampNeg) else wm_runTill_172 Q (wm_runTill_11 Q fu) J h t _ p.2 1 (nI (f j)) p.1)
        rw [p_tn (by omega), he1]
        refine ⟨vf, ?_⟩
        by_cases z : p.1 ≤ 15 * t1
        · rw [if_pos z]
          refine ⟨vf, go _ ?_⟩
          unfold rStart
          by_cases y : p.1 < 15 * t1
          · rw [if_pos y]
          · rw [if_neg y]; grind
        · rw [if_neg z]
          refine go _ ?_
          unfold rStart
          rw [if_neg (by grind)]
      · rw [if_neg pj, if_neg pj] at ih'
        exact ⟨fu, ih'⟩
  exact M (nC J) 0 (by omega)
theorem p_time {b c : Int32} : 1440 * b + 15 * c = 15 * (96 * b + c) := by grind
theorem op_run (h : XR x J S) (a b c : Int32) : wx_X0_run (fun r S1 => wm_run (fun r2 J1 => Ans x r S1 r2 J1) J a b c) S (some x) a b c := by
  obtain ⟨ad, rfl, h⟩ := h
  have g := h.m0
  generalize hJ : mset J 0 0 0 = J0 at g
  have t96 : (96 : Int32).toInt = 96 := rfl
  unfold wx_X0_run wm_run
  simp only [ex_isTime, em_isTime, bI_ite, dr_some, g.k0, true_and, t96, hJ]
  by_cases q : (0 ≤ a.toInt ∧ a.toInt ≤ 3) ∧ (0 ≤ b.toInt ∧ b.toInt ≤ 364) ∧ 0 ≤ c.toInt ∧ c.toInt ≤ 96
  · simp only [if_pos q]
    rw [p_time]
    have := p_lin96 (b := b) (c := c) (by omega) (by omega)
    exact ex_runOf g a _ (by omega) _ (em_runTill g.ji a _ _ ⟨rfl, ad, rfl, g⟩)
  · simp only [if_neg q]
    exact ⟨rfl, ad, rfl, g⟩
theorem fRun_bd {J : MS} (g : JI J) (h t : Int32) (ht : 0 ≤ t.toInt ∧ t.toInt ≤ 35040) : 0 ≤ (fRun J h t).toInt ∧ (fRun J h t).toInt ≤ 24000 := by
  have eT : (15 * t).toInt = 15 * t.toInt := by
    have : (15 : Int32).toInt = 15 := rfl
    rw [Int32.toInt_mul, this, Int.bmod_eq_of_le] <;> omega
  have n2 := g.nc.2
  have L : ∀ j, j ≤ nC J → 0 ≤ (rFold J h t (ordF (J 35) (nC J)) j).2.toInt ∧ (rFold J h t (ordF (J 35) (nC J)) j).2.toInt ≤ 600 * j := by
    intro j
    induction j with
    | zero => intro _; unfold rFold; exact ⟨by decide, by show (0 : Int32).toInt ≤ _; have : (0 : Int32).toInt = 0 := rfl; omega⟩
    | succ j ih =>
      intro hj
      have ihj := ih (by omega)
      have bd := rFold_bd g h t j (by omega)
      have c := g.coi _ (ordF_lt (J 35) (nC J) j (by omega))
      unfold rFold
      generalize ordF (J 35) (nC J) j = i at *
      generalize (rFold J h t (ordF (J 35) (nC J)) j) = p at *
      by_cases z : pRun J h t i
      · rw [if_pos z]
        show 0 ≤ (p.2 + _).toInt ∧ (p.2 + _).toInt ≤ _
        have hs : 0 ≤ (rStart p.1 (J 35 i)).toInt ∧ (rStart p.1 (J 35 i)).toInt ≤ 600000 := by
          unfold rStart
          split
          · rw [p_mul15 c.2.1]; omega
          · omega
        have add : ∀ v : Int32, 0 ≤ v.toInt ∧ v.toInt ≤ 600 → 0 ≤ (p.2 + v).toInt ∧ (p.2 + v).toInt ≤ 600 * ((j : Int) + 1) := by
          intro v hv
          rw [p_addB (by omega) (by omega)]
          omega
        have e : ((j + 1 : Nat) : Int) = (j : Int) + 1 := by omega
        rw [e]
        by_cases y : rStart p.1 (J 35 i) < rStop (rStart p.1 (J 35 i)) (J 36 i) (15 * t)
        · rw [if_pos y]
          refine add _ ?_
          have hst : (rStop (rStart p.1 (J 35 i)) (J 36 i) (15 * t)).toInt ≤ (rStart p.1 (J 35 i)).toInt + 600 ∧ -1000000 ≤ (rStop (rStart p.1 (J 35 i)) (J 36 i) (15 * t)).toInt := by
            unfold rStop
            split
            · rename_i w
              rw [p_lt, p_addB (by omega) (by omega)] at w
              omega
            · rw [p_addB (by omega) (by omega)]; omega
          rw [p_lt] at y
          rw [p_subC (by omega) (by omega)]
          omega
        · rw [if_neg y]
          exact add 0 (by decide)
      · rw [if_neg z]; omega
  have := L (nC J) (Nat.le_refl _)
  unfold fRun
  omega
theorem op_meter (h : XR x J S) (a b c d : Int32) : wx_X0_meter (fun r S1 => wm_meter (fun r2 J1 => Ans x r S1 r2 J1) J a b c d) S (some x) a b c d := by
  obtain ⟨ad, rfl, h⟩ := h
  have g := h.m0
  generalize hJ : mset J 0 0 0 = J0 at g
  have t96 : (96 : Int32).toInt = 96 := rfl
  have m15 : (-15 : Int64).toInt = -15 := by decide
  unfold wx_X0_meter wm_meter
  simp only [ex_isTime, em_isTime, ex_in, em_in, bI_ite, dr_some, g.k0, true_and, t96, hJ, Int32.toInt_toInt64, Int64.reduceToInt]
  by_cases q : (0 ≤ a.toInt ∧ a.toInt ≤ 3) ∧ (0 ≤ b.toInt ∧ b.toInt ≤ 364) ∧ 0 ≤ c.toInt ∧ c.toInt ≤ 96
  · simp only [if_pos q]
    by_cases qd : 0 ≤ d.toInt ∧ d.toInt ≤ 100000
    · simp only [if_pos qd]
      rw [p_time]
      have tt := p_lin96 (b := b) (c := c) (by omega) (by omega)
      have bd := fRun_bd g.ji a (96 * b + c) (by omega)
      refine ex_runOf g a _ (by omega) _ ?_
      have sub : (d - fRun J0 a (96 * b + c)).toInt = d.toInt - (fRun J0 a (96 * b + c)).toInt := p_subC (by omega) (by omega)
      have neg : (0 - (d - fRun J0 a (96 * b + c))).toInt = - (d.toInt - (fRun J0 a (96 * b + c)).toInt) := by
        have z : (0 : Int32).toInt = 0 := rfl
        rw [p_subC (by omega) (by omega), sub]; omega
      have i15 : (15 : Int32).toInt = 15 := rfl
      have a0 : (0 : Int32).toInt = 0 := rfl
      have em : ∀ r S', r = bI (-15 ≤ d.toInt - (fRun J0 a (96 * b + c)).toInt ∧ d.toInt - (fRun J0 a (96 * b + c)).toInt ≤ 15) → XA ad J0 S' → wm_runTill (fun r6 J5 => if -15 ≤ (d - r6).toInt ∧ (d - r6).toInt ≤ 15 then Ans (ad 0) r S' 1 J5 else Ans (ad 0) r S' 0 J5) J0 a (96 * b + c) := by
        intro r S' hr g'
        refine em_runTill g.ji a _ _ ?_
        rw [sub]
        by_cases z : -15 ≤ d.toInt - (fRun J0 a (96 * b + c)).toInt ∧ d.toInt - (fRun J0 a (96 * b + c)).toInt ≤ 15
        · rw [if_pos z]; rw [bI_t z] at hr; exact ⟨hr.symm, ad, rfl, g'⟩
        · rw [if_neg z]; rw [bI_f z] at hr; exact ⟨hr.symm, ad, rfl, g'⟩
      by_cases z : 15 < (if 0 ≤ d - fRun J0 a (96 * b + c) then d - fRun J0 a (96 * b + c) else 0 - (d - fRun J0 a (96 * b + c)))
      · rw [if_pos z]
        refine em 0 S ?_ g
        rw [bI_f]
        rw [p_lt, i15] at z
        by_cases y : 0 ≤ d - fRun J0 a (96 * b + c)
        · rw [if_pos y, sub] at z; omega
        · rw [if_neg y, neg] at z; omega
      · rw [if_neg z]
        refine em 1 S ?_ g
        rw [bI_t]
        rw [p_lt, i15] at z
        by_cases y : 0 ≤ d - fRun J0 a (96 * b + c)
        · rw [if_pos y, sub] at z; rw [p_le, sub] at y; omega
        · rw [if_neg y, neg] at z; rw [p_le, sub] at y; omega
    · simp only [if_neg qd]
      exact ⟨rfl, ad, rfl, g⟩
  · simp only [if_neg q]
    exact ⟨rfl, ad, rfl, g⟩
end
