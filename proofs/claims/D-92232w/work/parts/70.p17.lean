/-! PLAIN SIDE 17: book -/
section
variable {ad : Nat → Nat} {J J' : MS} {S S4 : XS} {x : Nat}
theorem em_rowCopy (Q : Int32 → MS → Prop) {n at_ : Nat} (hn : n < 16) (hat : at_ + 9 ≤ 480) : ∀ m, m ≤ 9 → ∀ J : MS, J 24 0 = nI n → (∀ J' : MS, (∀ k, k ∉ [24, 25, 26] → J' k = J k) → J' 24 0 = nI (n + 1) → (∀ t, J' 25 t = if 9 * n + (9 - m) ≤ t ∧ t < 9 * n + 9 then J 11 (at_ + (t - 9 * n)) else J 25 t) → (∀ t, J' 26 t = if t = n then -1000000 else J 26 t) → Q (nI n) J') → wm_book_273 Q (m + 1) J (nI at_) (nI (9 - m)) := by
  intro m
  induction m with
  | zero =>
    intro _ J hJ k
    unfold wm_book_273
    rw [if_pos (by decide), hJ, p_tn (by omega), ms_ne (show 24 ≠ 26 by decide), hJ, nI_tInc, ms_eq, if_pos rfl]
    refine ⟨p_vpn hn (by decide), ?_⟩
    have e1 : nI (n + 1) - 1 = nI n := by
      have : nI (n + 1) - nI 1 = nI (n + 1 - 1) := nI_s (by omega)
      exact this
    rw [e1]
    exact k _ (fun k hk => by simp [xSall] at hk; rw [ms_ne hk.1, ms_ne hk.2.2]) (by rw [ms_eq, if_pos rfl]) (fun t => by rw [ms_ne (by decide), ms_ne (by decide), if_neg (by omega)]) (fun t => by rw [ms_ne (by decide), ms_eq])
  | succ m ih =>
    intro hm J hJ k
    unfold wm_book_273
    have e9 : (9 : Int32) * nI n + nI (9 - (m + 1)) = nI (9 * n + (9 - (m + 1))) := by
      have e9 : (9 : Int32) = nI 9 := rfl
      rw [e9, nI_m, nI_a]
    rw [if_neg (by show ¬ nI 9 ≤ nI (9 - (m + 1)); rw [nIq_le (by omega) (by omega)]; omega), hJ, e9, nI_a, p_tn (show 9 * n + (9 - (m + 1)) < 2 ^ 31 by omega), p_tn (show at_ + (9 - (m + 1)) < 2 ^ 31 by omega), nI_tInc, show 9 - (m + 1) + 1 = 9 - m by omega]
    refine ⟨p_vpn (by omega) (by decide), p_vpn (by omega) (by decide), ih (by omega) _ (by rw [ms_ne (by decide)]; exact hJ) (fun J' h1 h2 h3 h4 => k J' (fun q hq => (h1 q hq).trans (ms_ne (by simp [xSall] at hq; omega))) h2 (fun t => ?_) (fun t => by rw [h4, ms_ne (by decide)]))⟩
    rw [h3, ms_ne (show 11 ≠ 25 by decide), ms_eq]
    by_cases z : 9 * n + (9 - m) ≤ t ∧ t < 9 * n + 9
    · rw [if_pos z, if_pos (by omega)]
    · rw [if_neg z]
      by_cases w : t = 9 * n + (9 - (m + 1))
      · rw [if_pos w, if_pos (by omega), w, show 9 * n + (9 - (m + 1)) - 9 * n = 9 - (m + 1) by omega]
      · rw [if_neg w, if_neg (by omega)]
theorem em_book (g : JI J) (Q : Int32 → MS → Prop) {s : Nat} (s8 : s < 8) (i : Int32) (hJ : mset J 0 0 0 = J') (g' : JI J') (hn : nB J' ≠ 16) : wm_book Q J (nI s) i = if 0 ≤ J' 9 s then (if 0 ≤ i.toInt ∧ i.toInt + 9 ≤ (J' 10 s).toInt then (if RowOk (fun k => J' 11 (60 * s + i.toNatClampNeg + k)) then ∃ f, wm_book_273 Q f (mset J' 1 0 0) (nI (60 * s + i.toNatClampNeg)) 0 else Q (-1000001) J') else Q (-1000010 - 2) (mset J' 1 0 2)) else Q (-1000010 - 1) (mset J' 1 0 1) := by
  obtain ⟨n1, n2⟩ := g'.nb
  have hs := g'.she s s8
  unfold wm_book wm_book_63
  have v : vp_in (nI s) 8 := p_vpn s8 (by decide)
  have n16 : ¬ nI (nB J') = (16 : Int32) := nI_ne (b := 16) (by omega) (by decide) hn
  simp only [em_isSheet, bI_ite, hJ, n1, v, true_and, p_tn (show s < 2 ^ 31 by omega), em_finding, if_neg n16, p_cmp3]
  rw [if_pos (show 0 ≤ (nI s).toInt ∧ (nI s).toInt ≤ 7 by rw [p_nI (by omega)]; omega)]
  by_cases hl : 0 ≤ J' 9 s
  · rw [if_pos hl, if_pos hl]
    by_cases h0 : i < 0
    · rw [if_pos h0, if_neg (fun z => by rw [p_lt] at h0; have : (0 : Int32).toInt = 0 := rfl; omega)]
    · rw [if_neg h0]
      have h0' : 0 ≤ i.toInt := by rw [p_lt] at h0; have : (0 : Int32).toInt = 0 := rfl; omega
      by_cases h1 : Int32.toInt64 i + 9 ≤ Int32.toInt64 (J' 10 s)
      · rw [if_pos h1]
        rw [Int64.le_iff_toInt_le, p_64, Int32.toInt_toInt64] at h1
        rw [if_pos ⟨h0', h1⟩]
        obtain ⟨j, j60, rfl⟩ := p_ex (x := i) (n := 60) h0' (by omega)
        rw [p_nI (by omega)] at h1
        have e9 : (60 : Int32) * nI s + nI j = nI (60 * s + j) := by
          have e9 : (60 : Int32) = nI 60 := rfl
          rw [e9, nI_m, nI_a]
        have ek : ∀ k : Nat, nI (60 * s + j) + nI k = nI (60 * s + j + k) := fun k => nI_a _ _
        have e1 := ek 1; have e2 := ek 2; have e3 := ek 3; have e4 := ek 4; have e5 := ek 5; have e6 := ek 6; have e7 := ek 7; have e8 := ek 8
        have z : (nI 1, nI 2, nI 3, nI 4, nI 5, nI 6, nI 7, nI 8) = ((1 : Int32), (2 : Int32), (3 : Int32), (4 : Int32), (5 : Int32), (6 : Int32), (7 : Int32), (8 : Int32)) := rfl
        simp only [Prod.mk.injEq] at z
        obtain ⟨z1, z2, z3, z4, z5, z6, z7, z8⟩ := z
        rw [z1] at e1; rw [z2] at e2; rw [z3] at e3; rw [z4] at e4; rw [z5] at e5; rw [z6] at e6; rw [z7] at e7; rw [z8] at e8
        have V : ∀ k, k < 9 → vp_in (nI (60 * s + j + k)) 480 := fun k hk => p_vpn (by omega) (by decide)
        have T : ∀ k, k < 9 → (nI (60 * s + j + k)).toNatClampNeg = 60 * s + j + k := fun k hk => p_tn (by omega)
        have v0 : vp_in (nI (60 * s + j)) 480 := p_vpn (by omega) (by decide)
        simp only [p_tn (show j < 2 ^ 31 by omega), e9, e1, e2, e3, e4, e5, e6, e7, e8, v0, V 1 (by decide), V 2 (by decide), V 3 (by decide), V 4 (by decide), V 5 (by decide), V 6 (by decide), V 7 (by decide), V 8 (by decide), true_and, T 1 (by decide), T 2 (by decide), T 3 (by decide), T 4 (by decide), T 5 (by decide), T 6 (by decide), T 7 (by decide), T 8 (by decide), p_tn (show 60 * s + j < 2 ^ 31 by omega), em_isHall, em_isDay, em_in, bI_ite, Int32.toInt_toInt64, Int64.reduceToInt]
        unfold wm_book_254 wm_book_255
        have one : ¬ (1 : Int32) = 0 := by decide
        simp only [if_true, if_neg one, ite_ite]
        have iff_ : ((0 ≤ (J' 11 (60 * s + j)).toInt ∧ (J' 11 (60 * s + j)).toInt ≤ 3) ∧ (0 ≤ (J' 11 (60 * s + j + 1)).toInt ∧ (J' 11 (60 * s + j + 1)).toInt ≤ 1) ∧ (0 ≤ (J' 11 (60 * s + j + 2)).toInt ∧ (J' 11 (60 * s + j + 2)).toInt ≤ 364) ∧ (0 ≤ (J' 11 (60 * s + j + 3)).toInt ∧ (J' 11 (60 * s + j + 3)).toInt ≤ 95) ∧ ((J' 11 (60 * s + j + 3) + 1).toInt ≤ (J' 11 (60 * s + j + 4)).toInt ∧ (J' 11 (60 * s + j + 4)).toInt ≤ 96) ∧ (1 ≤ (J' 11 (60 * s + j + 5)).toInt ∧ (J' 11 (60 * s + j + 5)).toInt ≤ 999) ∧ (0 ≤ (J' 11 (60 * s + j + 6)).toInt ∧ (J' 11 (60 * s + j + 6)).toInt ≤ 4) ∧ (0 ≤ (J' 11 (60 * s + j + 7)).toInt ∧ (J' 11 (60 * s + j + 7)).toInt ≤ 1) ∧ 0 ≤ (J' 11 (60 * s + j + 8)).toInt ∧ (J' 11 (60 * s + j + 8)).toInt ≤ (J' 11 (60 * s + j + 2)).toInt) ↔ RowOk (fun k => J' 11 (60 * s + j + k)) := by
          unfold RowOk
          show _ ↔ (0 ≤ (J' 11 (60 * s + j)).toInt ∧ (J' 11 (60 * s + j)).toInt ≤ 3) ∧ (0 ≤ (J' 11 (60 * s + j + 1)).toInt ∧ (J' 11 (60 * s + j + 1)).toInt ≤ 1) ∧ (0 ≤ (J' 11 (60 * s + j + 2)).toInt ∧ (J' 11 (60 * s + j + 2)).toInt ≤ 364) ∧ (0 ≤ (J' 11 (60 * s + j + 3)).toInt ∧ (J' 11 (60 * s + j + 3)).toInt ≤ 95) ∧ ((J' 11 (60 * s + j + 3)).toInt + 1 ≤ (J' 11 (60 * s + j + 4)).toInt ∧ (J' 11 (60 * s + j + 4)).toInt ≤ 96) ∧ (1 ≤ (J' 11 (60 * s + j + 5)).toInt ∧ (J' 11 (60 * s + j + 5)).toInt ≤ 999) ∧ (0 ≤ (J' 11 (60 * s + j + 6)).toInt ∧ (J' 11 (60 * s + j + 6)).toInt ≤ 4) ∧ (0 ≤ (J' 11 (60 * s + j + 7)).toInt ∧ (J' 11 (60 * s + j + 7)).toInt ≤ 1) ∧ 0 ≤ (J' 11 (60 * s + j + 8)).toInt ∧ (J' 11 (60 * s + j + 8)).toInt ≤ (J' 11 (60 * s + j + 2)).toInt
          constructor
          · rintro ⟨a, b, c, d, e, f⟩
            rw [p_inc (by omega)] at e
            exact ⟨a, b, c, d, e, f⟩
          · rintro ⟨a, b, c, d, e, f⟩
            rw [← p_inc (v := J' 11 (60 * s + j + 3)) (by omega)] at e
            exact ⟨a, b, c, d, e, f⟩
        by_cases ok : RowOk (fun k => J' 11 (60 * s + j + k))
        · rw [if_pos ok, if_pos (iff_.mpr ok)]
        · rw [if_neg ok, if_neg (fun z => ok (iff_.mp z))]
      · rw [if_neg h1, if_neg (fun z => h1 (by rw [Int64.le_iff_toInt_le, p_64, Int32.toInt_toInt64]; exact z.2))]
  · rw [if_neg hl, if_neg hl]

theorem op_book (h : XR x J S) {mc ms : Nat} (hc : 100 ≤ mc) (hm : 1000 ≤ ms) (a i : Int32) : wx_X0_book (fun r S1 => wm_book (fun r2 J1 => Ans x r S1 r2 J1) J a i) mc ms S (some x) a i := by
  obtain ⟨ad, rfl, h⟩ := h
  have g := h.m0
  have hji := h.ji
  generalize hJ : mset J 0 0 0 = J0 at g
  obtain ⟨n1, n2⟩ := g.ji.nb
  unfold wx_X0_book
  simp only [ex_isSheet, bI_ite]
  by_cases ha : 0 ≤ a.toInt ∧ a.toInt ≤ 7
  · simp only [if_pos ha]
    obtain ⟨s, s8, rfl⟩ := p_ex (n := 8) ha.1 (by omega)
    simp only [dr_some, g.k0, g.r2, g.bk.ls.1, g.bk.ls.size, true_and]
    by_cases hn : nB J0 = 16
    · rw [if_pos (by rw [hn]; rfl)]
      unfold wm_book
      simp only [em_isSheet, bI_ite, if_pos ha, hJ, n1]
      rw [if_pos (by rw [hn]; rfl)]
      exact ⟨rfl, ad, rfl, g⟩
    · rw [if_neg (show ¬ nI (nB J0) = (16 : Int32) from nI_ne (b := 16) (by omega) (by decide) hn)]
      have em : ∀ Q, _ := fun Q => em_book hji Q s8 i hJ g.ji hn
      refine ⟨1, 7, by omega, by omega, ?_⟩
      by_cases hl : 0 ≤ J0 9 s
      · refine ex_sheetAt1 g s8 hl _ _ _ _ ?_
        simp only [dr_some, (g.ks s8 hl).1, true_and]
        refine ⟨2, 20, by omega, by omega, ?_⟩
        refine ex_row g s8 hl i _ _ (Nat.le_refl _) (Nat.le_refl _) (fun q S1 i0 i9 hq c1 kq lq rq => ?_) (fun hb q S4 hq c4 kq hn => ?_)
        · have g1 := g.same c1
          rw [ex_isBooked kq lq, bI_ite]
          have okeq : RowOk (xAI S1 q) ↔ RowOk (fun k => J0 11 (60 * s + i.toNatClampNeg + k)) := RowOk.cong rq
          by_cases ok : RowOk (xAI S1 q)
          · rw [if_pos ok]
            refine ⟨g1.k0, by omega, by omega, fun b hb => ?_⟩
            have hbS : xKD S b = none := c1.fresh hb
            have c2 : Chg (fun _ => False) S (sNew S1 b 7) := c1.sNew hb
            have g2 := g.same c2
            have kb : xKD (sNew S1 b 7) b = some 7 := by simp [xSall]
            have kq2 : xKD (sNew S1 b 7) q = some 100 := x_newS 7 hb kq
            have lq2 : xLN (sNew S1 b 7) q = 9 := lq
            have rq2 : ∀ k, k < 9 → xAI (sNew S1 b 7) q k = J0 11 (60 * s + i.toNatClampNeg + k) := rq
            have ok2 : RowOk (xAI (sNew S1 b 7) q) := ok
            rw [g1.r2]
            simp only [dr_some]
            generalize sNew S1 b 7 = S2 at c2 g2 kb kq2 lq2 rq2 ok2 ⊢
            simp only [g2.r2, dr_some, g2.bk.ls.1, g2.bk.ls.size, true_and]
            refine ex_binit c2.cl kb kq2 lq2 ok2 _ (fun S3 c3 bf => ?_)
            have c30 : Chg (fun _ => False) S S3 := c2.trans c3 (fun a ha z => ha (by rw [z]; exact hbS))
            have g3 := g.same c30
            have kb3 : xKD S3 b = some 7 := (c3.kd b (some_ne kb)).trans kb
            refine ⟨g3.bk.ls.1, 1, 400, by omega, by omega, ?_⟩
            refine g3.bk.ls.add c30.cl (fun k hk => Or.inl (g3.kb hk)) (by omega) (Or.inl kb3) (Nat.le_refl _) (Nat.le_refl _) _ (fun S5 l5 c5 e5 => ?_)
            have k3 := some_ne (g.k (show 3 ≤ 12 by decide))
            have cc : Chg (LM S (ad 3)) S S5 := (c30.mono (fun _ _ z => z.elim)).trans c5 (fun a ha z => LM.of c30 k3 (fun z => z) z)
            have k05 : xKD S5 (ad 0) = some 0 := (cc.kd _ (some_ne g.k0)).trans g.k0
            have hR : ∀ r ∈ [0, 3], lv (J0 9) (nB J0) r := by intro r hr; simp [xSall] at hr; exact lv_f (by omega)
            have off0 := Off.list g (i := 3) (by omega) (by omega) hR (by simp [xSall])
            have n0 : ¬ LM S (ad 3) (ad 0) := fun z => by
              rcases z with z | ⟨z, -⟩
              · have := g.b.inj 0 3 (lv_f (by decide)) (lv_f (by decide)) z; omega
              · have := back_102 g (by decide) (by decide) z; rw [g.k0] at this; cases this
            have r05 : xFR S5 2 (ad 0) = some (ad 3) := (cc.fr _ (some_ne g.k0) n0 2).trans g.r2
            have e1 : nI (nB J0 + 1) - 1 = nI (nB J0) := by
              have : nI (nB J0 + 1) - nI 1 = nI (nB J0 + 1 - 1) := nI_s (by omega)
              exact this
            simp only [k05, r05, dr_some, true_and, l5.1, l5.size, e1]
            unfold wx_X0_well
            simp only [dr_some, k05, true_and]
            rw [em, if_pos hl, if_pos ⟨i0, i9⟩, if_pos (okeq.mp ok)]
            have hs := g.ji.she s s8
            refine ⟨10, em_rowCopy _ (n := nB J0) (by omega) (by rw [p_clamp]; omega) 9 (Nat.le_refl _) _ (by rw [ms_ne (by decide)]; exact n1) (fun J' o' e24 e25 e26 => ⟨rfl, fun r => if r = 100 + nB J0 then b else ad r, ?_, ?_⟩)⟩
            · show (if 0 = 100 + nB J0 then b else ad 0) = ad 0
              rw [if_neg (by omega)]
            · have o : ∀ k, k ∉ [1, 24, 25, 26] → J' k = J0 k := by
                intro k hk; simp [xSall] at hk; rw [o' k (by simp [xSall]; omega), ms_ne hk.1]
              have e1' : J' 1 0 = 0 := by rw [o' 1 (by simp [xSall]), ms_eq, if_pos rfl]
              have e25 : ∀ t, J' 25 t = if 9 * nB J0 ≤ t ∧ t < 9 * nB J0 + 9 then J0 11 (60 * s + i.toNatClampNeg + (t - 9 * nB J0)) else J0 25 t := by
                intro t; rw [e25, ms_ne (by decide), ms_ne (by decide)]; rfl
              have e26 : ∀ t, J' 26 t = if t = nB J0 then -1000000 else J0 26 t := by intro t; rw [e26, ms_ne (by decide)]
              have hnB : nB J' = nB J0 + 1 := by
                show (J' 24 0).toNatClampNeg = _
                rw [e24, p_tn (by omega)]
              have aS : ∀ r, r ≠ 100 + nB J0 → (fun r => if r = 100 + nB J0 then b else ad r) r = ad r := fun r z => if_neg z
              have ab : (fun r => if r = 100 + nB J0 then b else ad r) (100 + nB J0) = b := if_pos rfl
              generalize (fun r => if r = 100 + nB J0 then b else ad r) = ad' at aS ab ⊢
              have c : Chg (fun q => MR ad [0, 3] q ∨ LM S (ad 3) q) S (sFI S5 12 (ad 0) 0) := (cc.mono (fun _ _ z => Or.inr z)).sFI (Or.inr (Or.inl ⟨0, by simp [xSall], rfl⟩)) (some_ne k05)
              have off : Off ad (J0 9) (nB J0) S (fun q => MR ad [0, 3] q ∨ LM S (ad 3) q) (fun r => r ∈ [0, 3, 100 + nB J0]) := ⟨fun r hr hn => off0.live r hr (fun z => hn (by simp [xSall] at z ⊢; omega)), off0.k9, off0.k10, off0.kro, fun i h3 h7 hn => off0.bk i h3 h7 (fun z => hn (by simp [xSall] at z ⊢; omega))⟩
              have nbb : ∀ r, r ≤ 12 → b ≠ ad r := fun r hr z => by have := g.k hr; rw [← z, hbS] at this; cases this
              have nLb : ¬ LM S3 (ad 3) b := fun z => by
                rcases z with z | ⟨z, -⟩
                · exact nbb 3 (by decide) z
                · have := back_102 g3 (by decide) (by decide) z; rw [kb3] at this; cases this
              refine g.gen (K := fun k => k ∈ [1, 24, 25, 26]) (R := fun r => r ∈ [0, 3, 100 + nB J0]) c off (fun r hr => aS r (fun z => hr (by simp [xSall, z]))) o ?_ ?_ (Or.inr ?_) (Or.inl ⟨by simp [xSall]; omega, by simp [xSall]; omega, by simp [xSall], by simp [xSall], by simp [xSall]⟩) (Or.inl ⟨by simp [xSall]; omega, by simp [xSall]; omega, by intro k h1 h2; simp [xSall]; omega⟩)
                (Or.inl ⟨by simp [xSall]; omega, by simp [xSall], by simp [xSall]⟩) (Or.inr ?_) (Or.inl ⟨by simp [xSall]; omega, by simp [xSall]; omega⟩) (Or.inl ⟨by simp [xSall]; omega, by simp [xSall]; omega⟩) (Or.inl ⟨by simp [xSall]; omega, by simp [xSall]; omega⟩) (Or.inl ⟨by simp [xSall]; omega, by simp [xSall]; omega⟩) (Or.inl ⟨by simp [xSall]; omega, by simp [xSall]; omega, by simp [xSall], by simp [xSall]⟩) (Or.inr ?_)
              · have qJI := g.ji.cong (J' := fun k => if k = 24 then J0 24 else if k = 25 then J0 25 else if k = 26 then J0 26 else J' k) (fun k hk => by
                    by_cases z : k = 24
                    · rw [if_pos z, z]
                    · rw [if_neg z]
                      by_cases z2 : k = 25
                      · rw [if_pos z2, z2]
                      · rw [if_neg z2]
                        by_cases z3 : k = 26
                        · rw [if_pos z3, z3]
                        · rw [if_neg z3]; exact o k (by unfold kFree at hk; simp [xSall] at hk ⊢; omega))
                refine ⟨(⟨by rw [e24, hnB], by omega⟩), qJI.nc, qJI.ng, qJI.nl, qJI.nm, (fun t ht => ?_), (fun t ht => ?_), qJI.hal, qJI.she, qJI.tap, qJI.coi, qJI.giv, qJI.loo, qJI.mee, qJI.day, qJI.tra⟩
                · rw [hnB] at ht
                  by_cases z : t = nB J0
                  · subst z
                    refine (RowOk.cong (fun k hk => ?_)).mp (okeq.mp ok)
                    show J0 11 (60 * s + i.toNatClampNeg + k) = J' 25 (9 * nB J0 + k)
                    rw [e25, if_pos (by omega), show 9 * nB J0 + k - 9 * nB J0 = k by omega]
                  · refine (RowOk.cong (fun k hk => ?_)).mp (g.ji.row t (by omega))
                    show J0 25 (9 * t + k) = J' 25 (9 * t + k)
                    rw [e25, if_neg (by omega)]
                · rw [hnB] at ht
                  rw [e26]
                  by_cases z : t = nB J0
                  · rw [if_pos z]; exact Or.inl rfl
                  · rw [if_neg z, e25, if_neg (by omega), e25, if_neg (by omega)]
                    exact g.ji.can t (by omega)
              · refine g.b.more c [100 + nB J0] (fun r hr => ?_) (fun r hr => ?_) (fun r hr r' hr' he => by simp [xSall] at hr hr'; omega) (fun r hr => aS r (by simp [xSall] at hr; omega)) ?_
                · by_cases z1 : r = 100 + nB J0
                  · exact Or.inl (by simp [xSall, z1])
                  refine Or.inr ⟨?_, aS r z1⟩
                  rw [hnB, o 9 (by simp [xSall])] at hr
                  rcases hr with z | z | z | z | z | z | z | z
                  · exact Or.inl z
                  · exact Or.inr (Or.inl z)
                  · exact Or.inr (Or.inr (Or.inl z))
                  · exact Or.inr (Or.inr (Or.inr (Or.inl z)))
                  · exact Or.inr (Or.inr (Or.inr (Or.inr (Or.inl z))))
                  · exact Or.inr (Or.inr (Or.inr (Or.inr (Or.inr (Or.inl z)))))
                  · exact Or.inr (Or.inr (Or.inr (Or.inr (Or.inr (Or.inr (Or.inl z))))))
                  · exact Or.inr (Or.inr (Or.inr (Or.inr (Or.inr (Or.inr (Or.inr (by omega)))))))
                · simp [xSall] at hr
                  subst hr
                  rw [ab]
                  refine ⟨hbS, ((c5.kd b (some_ne kb3)).trans kb3).trans ?_⟩
                  unfold kr
                  iterate 13 rw [if_neg (by omega)]
                · rw [aS 10 (by omega)]
                  exact (c.ln _ (some_ne (g.k (show 10 ≤ 12 by decide)))).trans g.b.l10
              · have cf := g.f
                have f5 : ∀ f, xFI S5 f (ad 0) = xFI S f (ad 0) := fun f => cc.fi _ (some_ne g.k0) n0 f
                have r5 : ∀ f, xFR S5 f (ad 0) = xFR S f (ad 0) := fun f => cc.fr _ (some_ne g.k0) n0 f
                rw [o 13 (by simp [xSall]), o 14 (by simp [xSall]), o 27 (by simp [xSall]), e1']
                refine ⟨fun k hk => ?_, ?_, ?_, ?_, ?_, ?_, ?_, ?_⟩
                · rw [aS 0 (by omega), aS (k + 1) (by omega)]; exact (r5 k).trans (cf.r k hk)
                · rw [aS 0 (by omega), aS 9 (by omega)]; exact (r5 11).trans cf.r11
                · rw [aS 0 (by omega), aS 11 (by omega)]; exact (r5 13).trans cf.r13
                · rw [aS 0 (by omega), aS 12 (by omega)]; exact (r5 14).trans cf.r14
                · rw [aS 0 (by omega), xFI_ne (by decide)]; exact (f5 8).trans cf.i8
                · rw [aS 0 (by omega), xFI_ne (by decide)]; exact (f5 9).trans cf.i9
                · rw [aS 0 (by omega), xFI_ne (by decide)]; exact (f5 10).trans cf.i10
                · rw [aS 0 (by omega), xFI_eq]
              · rw [hnB]
                have l6 : LiS (sFI S5 12 (ad 0) 0) (ad 3) (nB J0 + 1) (fun i => if i = nB J0 then b else ad (100 + i)) := by
                  refine l5.kept (M := fun a => a = ad 0) ((Chg.refl c5.cl).sFI (Or.inr rfl) (some_ne k05)) (fun z => ?_) (fun e he z => ?_)
                  · have := g.b.inj 3 0 (lv_f (by decide)) (lv_f (by decide)) z; omega
                  · obtain ⟨-, e0, w1, w2, -⟩ := l5
                    rw [w1] at he
                    rw [← Option.some.inj he] at z
                    rw [z, k05] at w2; cases w2
                refine ⟨?_, fun t ht => ?_⟩
                · rw [aS 3 (by omega)]
                  refine l6.congr (fun t ht => ?_)
                  by_cases z : t = nB J0
                  · subst z; rw [ab]; exact if_pos rfl
                  · rw [aS (100 + t) (by omega)]; exact if_neg z
                · by_cases z : t = nB J0
                  · subst z
                    rw [ab, e26, if_pos rfl]
                    have q1 := (bf.kept c5 (some_ne kb3) nLb)
                    have q2 : BF (sFI S5 12 (ad 0) 0) b (nB J0) (fun k => xAI S2 q k) (-1000000) := q1.kept (M := fun a => a = ad 0) ((Chg.refl c5.cl).sFI (Or.inr rfl) (some_ne k05)) (by rw [c5.kd b (some_ne kb3)]; exact some_ne kb3) (fun z => nbb 0 (by decide) z)
                    refine ⟨q2.1, fun k hk => (q2.2.1 k hk).trans ?_, q2.2.2⟩
                    show xAI S2 q k = J' 25 (9 * nB J0 + k)
                    rw [rq2 k hk, e25, if_pos (by omega), show 9 * nB J0 + k - 9 * nB J0 = k by omega]
                  · have ht' : t < nB J0 := by omega
                    rw [aS (100 + t) (by omega), e26, if_neg z]
                    have q1 := (g.bk.f t ht').kept c (some_ne (g.kb ht')) (off0.live _ (lv_b ht') (by simp [xSall]; omega))
                    refine ⟨q1.1, fun k hk => (q1.2.1 k hk).trans ?_, q1.2.2⟩
                    show J0 25 (9 * t + k) = J' 25 (9 * t + k)
                    rw [e25, if_neg (by omega)]
              · have := BBk.grow g (i := 3) (by decide) (by decide) c (fun l l3 l7 hl => off0.live l (lv_f (by omega)) (by simp [xSall]; omega)) (fun e he => by
                  rcases e5 e he with z | z
                  · left; rw [c30.fr _ k3 (fun z => z)] at z; exact z
                  · right; exact c30.fresh z)
                intro l l' a1 a2 a3 a4
                rw [aS l (by omega), aS l' (by omega)]
                exact this l l' a1 a2 a3 a4
          · rw [if_neg ok, em, if_pos hl, if_pos ⟨i0, i9⟩, if_neg (fun z => ok (okeq.mpr z))]
            exact ⟨rfl, ad, rfl, g1⟩
        · unfold wx_X0_book_92
          simp only [dr_some, em, if_pos hl, if_neg hb]
          exact ⟨(g.same c4).k0, ex_found (J' := mset J0 1 0 2) g c4 kq hn _ J1 (by rw [ms_eq, if_pos rfl]) (fun S' g' => ⟨rfl, ad, rfl, g'⟩)⟩
      · refine ex_sheetAt0 g s8 hl _ _ (Nat.le_refl _) (Nat.le_refl _) (fun q S4 hq c4 kq hn => ?_)
        unfold wx_X0_book_92
        simp only [dr_some, em, if_neg hl]
        exact ⟨(g.same c4).k0, ex_found (J' := mset J0 1 0 1) g c4 kq hn _ J1 (by rw [ms_eq, if_pos rfl]) (fun S' g' => ⟨rfl, ad, rfl, g'⟩)⟩
  · simp only [if_neg ha]
    unfold wm_book
    simp only [em_isSheet, bI_ite, if_neg ha, hJ]
    exact ⟨rfl, ad, rfl, g⟩
end
