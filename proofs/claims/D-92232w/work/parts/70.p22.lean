/-! PLAIN SIDE 22: what is begun; sizes and marks; ask, kind -/
def bgJ (J : MS) (v : Int32) : MS := if (16 : Int32) ≤ J 53 0 then J else mset (mset J 52 (J 53 0).toNatClampNeg v) 53 0 (J 53 0 + 1)
theorem bg_ne {J : MS} {v : Int32} {k : Nat} (h : k ≠ 52) (h' : k ≠ 53) : bgJ J v k = J k := by
  unfold bgJ
  split
  · rfl
  · rw [ms_ne h', ms_ne h]
theorem oB_bg (J : MS) (v : Int32) (b k : Nat) : oB (bgJ J v) b k = oB J b k := by unfold oB; rw [bg_ne (by decide) (by decide)]
theorem fPrice_bg (J : MS) (v : Int32) (b : Nat) : fPrice (bgJ J v) b = fPrice J b := by
  unfold fPrice hB uB
  simp only [oB_bg, bg_ne (show 26 ≠ 52 by decide) (show 26 ≠ 53 by decide), bg_ne (show 7 ≠ 52 by decide) (show 7 ≠ 53 by decide), bg_ne (show 4 ≠ 52 by decide) (show 4 ≠ 53 by decide), bg_ne (show 5 ≠ 52 by decide) (show 5 ≠ 53 by decide)]
theorem nB_bg (J : MS) (v : Int32) : nB (bgJ J v) = nB J := by unfold nB; rw [bg_ne (by decide) (by decide)]
section
variable {ad : Nat → Nat} {J : MS} {S : XS} {x : Nat}
theorem JI.bg (g : JI J) (v : Int32) : JI (bgJ J v) := by
  have qJI := g.cong (J' := fun k => if k = 53 then J 53 else bgJ J v k) (fun k hk => by
      by_cases z : k = 53
      · rw [if_pos z, z]
      · rw [if_neg z]; exact bg_ne (fun w => hk (by rw [w]; decide)) z)
  refine ⟨qJI.nb, qJI.nc, qJI.ng, qJI.nl, qJI.nm, qJI.row, qJI.can, qJI.hal, qJI.she, qJI.tap, qJI.coi, qJI.giv, qJI.loo, qJI.mee, qJI.day, ?_⟩
  unfold bgJ
  have t := g.tra
  split
  · exact t
  · rename_i h
    rw [p_le] at h
    have e16 : (16 : Int32).toInt = 16 := rfl
    rw [ms_eq, if_pos rfl, p_inc (by omega)]
    omega
theorem em_began (g : JI J) (Q : MS → Prop) (v : Int32) : wm_began Q J v = Q (bgJ J v) := by
  have t := g.tra
  unfold wm_began bgJ
  by_cases h : (16 : Int32) ≤ J 53 0
  · rw [if_pos h, if_pos h]
  · rw [if_neg h, if_neg h, ms_ne (by decide)]
    rw [p_le] at h
    have e16 : (16 : Int32).toInt = 16 := rfl
    exact propext ⟨fun z => z.2, fun z => ⟨by rw [p_vp]; omega, z⟩⟩
theorem XA.nMR (g : XA ad J S) {R : List Nat} (hR : ∀ r ∈ R, lv (J 9) (nB J) r) {q k : Nat} (hq : xKD S q = some k) (hk : ∀ r ∈ R, kr r ≠ k) : ¬ MR ad R q := by
  rintro ⟨r, hr, rfl⟩
  rw [g.b.kd r (hR r hr)] at hq
  exact hk r hr (Option.some.inj hq)
/-- the trail's object takes a number -/
theorem ex_begins (g : XA ad J S) (Q : XS → Prop) (v : Int32) (k1 : ∀ S', Chg (MR ad [9, 10]) S S' → XA ad (bgJ J v) S' → Q S') : wx_X1_begins Q S (some (ad 9)) v := by
  have t := g.ji.tra
  have k9 : xKD S (ad 9) = some 1 := g.k (by decide)
  have k10 : xKD S (ad 10) = some 100 := g.k (by decide)
  unfold wx_X1_begins
  simp only [dr_some, k9, true_and, g.tr.i, g.tr.r, xKD_sFI, k10, xLN_sFI, g.b.l10]
  by_cases h : (16 : Int32) ≤ J 53 0
  · rw [if_pos h]
    refine k1 S (Chg.refl g.b.cl) ?_
    unfold bgJ; rw [if_pos h]; exact g
  · rw [if_neg h]
    have h' := h
    rw [p_le] at h'
    have e16 : (16 : Int32).toInt = 16 := rfl
    have ctn : ((J 53 0).toNatClampNeg : Int) = (J 53 0).toInt := by rw [p_clamp]; omega
    have hi := p_inc (v := J 53 0) (by omega)
    have c : Chg (MR ad [9, 10]) S (sAI (sFI S 101 (ad 9) (J 53 0 + 1)) (ad 10) (J 53 0).toNatClampNeg v) := ((Chg.refl g.b.cl).sFI (Or.inr ⟨9, by simp [xSall], rfl⟩) (some_ne k9)).sAI (Or.inr ⟨10, by simp [xSall], rfl⟩) (some_ne k10)
    refine ⟨by rw [p_vp]; omega, k1 _ c ?_⟩
    have off := Off.roles g (R := [9, 10]) (by intro r hr; simp [xSall] at hr; exact lv_f (by omega))
    have o : ∀ k, k ∉ [52, 53] → bgJ J v k = J k := fun k hk => by simp [xSall] at hk; exact bg_ne hk.1 hk.2
    have e53 : bgJ J v 53 0 = J 53 0 + 1 := by unfold bgJ; rw [if_neg h, ms_eq, if_pos rfl]
    have e52 : ∀ i, bgJ J v 52 i = if i = (J 53 0).toNatClampNeg then v else J 52 i := by intro i; unfold bgJ; rw [if_neg h, ms_ne (by decide), ms_eq]
    refine g.gen (K := fun k => k ∈ [52, 53]) (R := fun r => r ∈ [9, 10]) c off (fun _ _ => rfl) o (g.ji.bg v) ((g.b.kept c).cong (o 9 (by simp [xSall])) (nB_bg J v)) (Or.inr ?_) (Or.inl ⟨by simp [xSall], by simp [xSall]; omega, by simp [xSall], by simp [xSall], by simp [xSall]⟩) (Or.inl ⟨by simp [xSall], by simp [xSall]; omega, by intro k h1 h2; simp [xSall]; omega⟩)
      (Or.inl ⟨by simp [xSall], by simp [xSall], by simp [xSall]⟩) (Or.inl ⟨by simp [xSall], by simp [xSall]; omega, by simp [xSall], by simp [xSall], by simp [xSall]⟩) (Or.inl ⟨by simp [xSall], by simp [xSall]; omega⟩) (Or.inl ⟨by simp [xSall], by simp [xSall]; omega⟩) (Or.inl ⟨by simp [xSall], by simp [xSall]; omega⟩) (Or.inl ⟨by simp [xSall], by simp [xSall]; omega⟩) (Or.inr ?_) (Or.inl (by simp [xSall]; omega))
    · rw [o 13 (by simp [xSall]), o 14 (by simp [xSall]), o 27 (by simp [xSall]), o 1 (by simp [xSall])]
      exact g.f.kept c (some_ne g.k0) (off.live 0 (lv_f (by decide)) (by simp [xSall]))
    · refine ⟨by simpa [xSall] using g.tr.r, by rw [e53]; simp [xSall], fun i hi' => ?_⟩
      rw [e53, hi] at hi'
      rw [xAI_sAI, if_pos rfl, e52]
      unfold upd
      by_cases z : i = (J 53 0).toNatClampNeg
      · rw [if_pos z, if_pos z]
      · rw [if_neg z, if_neg z]; exact g.tr.a i (by omega)
/-- q is booking b asked as of kind k with price p -/
def AsQ (ad : Nat → Nat) (b k : Nat) (p : Int32) (S : XS) (q : Nat) : Prop := (xKD S q = some k) ∧ (k = 11 ∨ k = 12 ∨ k = 13 ∨ k = 14 ∨ k = 15) ∧ (xFR S 1100 q = some (ad (100 + b))) ∧ (k = 13 ∨ k = 14 → xFI S 1300 q = p)
theorem AsQ.kd {ad : Nat → Nat} {b k : Nat} {p : Int32} {S : XS} {q : Nat} (h : AsQ ad b k p S q) : xKD S q = some k := h.1
theorem AsQ.kin {ad : Nat → Nat} {b k : Nat} {p : Int32} {S : XS} {q : Nat} (h : AsQ ad b k p S q) : k = 11 ∨ k = 12 ∨ k = 13 ∨ k = 14 ∨ k = 15 := h.2.1
theorem AsQ.it {ad : Nat → Nat} {b k : Nat} {p : Int32} {S : XS} {q : Nat} (h : AsQ ad b k p S q) : xFR S 1100 q = some (ad (100 + b)) := h.2.2.1
theorem AsQ.pr {ad : Nat → Nat} {b k : Nat} {p : Int32} {S : XS} {q : Nat} (h : AsQ ad b k p S q) : k = 13 ∨ k = 14 → xFI S 1300 q = p := h.2.2.2
theorem AsB.q {b q : Nat} (h : AsB ad J b S q) : AsQ ad b (fK J b) (fPrice J b) S q := ⟨h.kd, fK_in J b, h.it, h.pr⟩
theorem AsQ.as {b k q : Nat} {p : Int32} (h : AsQ ad b k p S q) : xAs S q := by
  unfold xAs
  rw [h.kd]
  rcases h.kin with e | e | e | e | e <;> rw [e] <;> simp [xSall]
theorem AsQ.kept {b k q : Nat} {p : Int32} {S S' : XS} (h : AsQ ad b k p S q) (g : XA ad J S) (c : Chg (MR ad [9, 10]) S S') : AsQ ad b k p S' q := by
  have n : ¬ MR ad [9, 10] q := g.nMR (by intro r hr; simp [xSall] at hr; exact lv_f (by omega)) h.kd (by
    intro r hr
    have := h.kin
    simp [xSall] at hr
    rcases hr with rfl | rfl
    · show 1 ≠ k; omega
    · show 100 ≠ k; omega)
  have nn := some_ne h.kd
  exact ⟨(c.kd q nn).trans h.kd, h.kin, (c.fr q nn n _).trans h.it, fun e => (c.fi q nn n _).trans (h.pr e)⟩
variable {b k q : Nat} {p : Int32} (Q : Int32 → XS → Prop)
theorem ex_size12 (g : XA ad J S) (hb : b < nB J) (h : AsQ ad b k p S q) (k1 : ∀ S', XA ad (bgJ J 10) S' → AsQ ad b k p S' q → Chg (MR ad [9, 10]) S S' → Q (oB J b 5) S') : wx_X12_size Q S (some q) (some (ad 9)) := by
  have k9 : xKD S (ad 9) = some 1 := g.k (by decide)
  unfold wx_X12_size
  simp only [dr_some, k9, true_and]
  refine ex_begins g _ _ (fun S' c g' => ?_)
  have h' := h.kept g c
  have hb' : b < nB (bgJ J 10) := by rw [nB_bg]; exact hb
  simp only [h'.as, h'.it, dr_some, g'.kb hb', true_and, (g'.bf hb').2.2.2.2.2.2.1, oB_bg]
  exact k1 S' g' h' c
theorem Chg.two {M : Nat → Prop} {S S1 S2 : XS} (h : Chg M S S1) (k : Chg M S1 S2) : Chg M S S2 := h.trans k (fun _ _ z => z)
theorem ex_mark17 (g : XA ad J S) (hb : b < nB J) (h : AsQ ad b k p S q) (k1 : ∀ S', XA ad (bgJ J 20) S' → AsQ ad b k p S' q → Q (oB J b 6) S') : wx_X17_mark Q S (some q) (some (ad 9)) := by
  have k9 : xKD S (ad 9) = some 1 := g.k (by decide)
  unfold wx_X17_mark
  simp only [dr_some, k9, true_and]
  refine ex_begins g _ _ (fun S' c g' => ?_)
  have h' := h.kept g c
  have hb' : b < nB (bgJ J 20) := by rw [nB_bg]; exact hb
  have u : wx_X12_use (fun r7 S6 => Q r7 S6) S' (some q) := by
    unfold wx_X12_use
    simp only [dr_some, h'.as, h'.it, g'.kb hb', true_and, (g'.bf hb').2.2.2.2.2.2.2.1, oB_bg]
    exact k1 S' g' h'
  unfold wa_use
  rw [h'.kd]
  rcases h'.kin with e | e | e | e | e <;> subst e
  · exact Or.inl ⟨rfl, u⟩
  · exact Or.inr (Or.inl ⟨rfl, u⟩)
  · exact Or.inr (Or.inr (Or.inl ⟨rfl, u⟩))
  · exact Or.inr (Or.inr (Or.inr (Or.inl ⟨rfl, u⟩)))
  · exact Or.inr (Or.inr (Or.inr (Or.inr ⟨rfl, u⟩)))
theorem ex_size14 (g : XA ad J S) (hb : b < nB J) (h : AsQ ad b k p S q) (hk : k = 13 ∨ k = 14) (k1 : ∀ S', XA ad (bgJ (bgJ J 11) 10) S' → AsQ ad b k p S' q → Q (oB J b 5 + p) S') : wx_X14_size Q S (some q) (some (ad 9)) := by
  have k9 : xKD S (ad 9) = some 1 := g.k (by decide)
  unfold wx_X14_size
  simp only [dr_some, k9, true_and]
  refine ex_begins g _ _ (fun S' c g' => ?_)
  have h' := h.kept g c
  have hb' : b < nB (bgJ J 11) := by rw [nB_bg]; exact hb
  refine ⟨h'.as, ex_size12 _ g' hb' h' (fun S2 g2 h2 c2 => ⟨by rw [h2.kd]; rcases hk with e | e <;> rw [e] <;> simp [xSall], ?_⟩)⟩
  rw [h2.pr hk, oB_bg]
  exact k1 S2 g2 h2
theorem ex_size15 (g : XA ad J S) (hb : b < nB J) (h : AsQ ad b k p S q) (hk : k = 14) (k1 : ∀ S', XA ad (bgJ (bgJ (bgJ J 12) 11) 10) S' → AsQ ad b k p S' q → Q (2 * (oB J b 5 + p)) S') : wx_X15_size Q S (some q) (some (ad 9)) := by
  have k9 : xKD S (ad 9) = some 1 := g.k (by decide)
  unfold wx_X15_size
  simp only [dr_some, k9, true_and]
  refine ex_begins g _ _ (fun S' c g' => ?_)
  have h' := h.kept g c
  have hb' : b < nB (bgJ J 12) := by rw [nB_bg]; exact hb
  refine ⟨h'.as, ex_size14 _ g' hb' h' (Or.inr hk) (fun S2 g2 h2 => ?_)⟩
  rw [oB_bg]
  exact k1 S2 g2 h2
theorem ex_mark14 (g : XA ad J S) (hb : b < nB J) (h : AsQ ad b k p S q) (k1 : ∀ S', XA ad (bgJ (bgJ J 21) 20) S' → AsQ ad b k p S' q → Q (oB J b 6 + oB J b 2) S') : wx_X14_mark Q S (some q) (some (ad 9)) := by
  have k9 : xKD S (ad 9) = some 1 := g.k (by decide)
  unfold wx_X14_mark
  simp only [dr_some, k9, true_and]
  refine ex_begins g _ _ (fun S' c g' => ?_)
  have h' := h.kept g c
  have hb' : b < nB (bgJ J 21) := by rw [nB_bg]; exact hb
  refine ⟨h'.as, ex_mark17 _ g' hb' h' (fun S2 g2 h2 => ?_)⟩
  have hb2 : b < nB (bgJ (bgJ J 21) 20) := by rw [nB_bg]; exact hb'
  simp only [h2.as, h2.it, dr_some, g2.kb hb2, true_and, (g2.bf hb2).2.2.2.1, oB_bg]
  exact k1 S2 g2 h2
/-- what a booking of kind k answers to size, and what is begun for it -/
def szT (k : Nat) : List Int32 := if k = 12 then [13, 10, 20] else if k = 13 then [11, 10] else if k = 14 then [12, 11, 10] else [10]
def mkT (k : Nat) : List Int32 := if k = 13 then [21, 20] else if k = 14 then [22, 21, 20, 12, 11, 10] else if k = 15 then [23, 20, 10] else [20]
def bgL (J : MS) : List Int32 → MS
  | [] => J
  | v :: l => bgL (bgJ J v) l
def szV (J : MS) (b k : Nat) (p : Int32) : Int32 := if k = 12 then oB J b 5 - oB J b 6 else if k = 13 then oB J b 5 + p else if k = 14 then 2 * (oB J b 5 + p) else oB J b 5
def mkV (J : MS) (b k : Nat) (p : Int32) : Int32 := if k = 13 then oB J b 6 + oB J b 2 else if k = 14 then oB J b 6 + oB J b 2 + 2 * (oB J b 5 + p) else if k = 15 then oB J b 6 + oB J b 5 else oB J b 6
theorem ex_size (g : XA ad J S) (hb : b < nB J) (h : AsQ ad b k p S q) (k1 : ∀ S', XA ad (bgL J (szT k)) S' → Q (szV J b k p) S') : wa_size Q S q (some (ad 9)) := by
  have k9 : xKD S (ad 9) = some 1 := g.k (by decide)
  unfold wa_size
  rw [h.kd]
  rcases h.kin with e | e | e | e | e <;> subst e
  · exact Or.inl ⟨rfl, ex_size12 _ g hb h (fun S' g' _ _ => k1 S' g')⟩
  · refine Or.inr (Or.inl ⟨rfl, ?_⟩)
    unfold wx_X13_size
    simp only [dr_some, k9, true_and]
    refine ex_begins g _ _ (fun S' c g' => ?_)
    have h' := h.kept g c
    have hb' : b < nB (bgJ J 13) := by rw [nB_bg]; exact hb
    refine ⟨h'.as, ex_size12 _ g' hb' h' (fun S2 g2 h2 c2 => ?_)⟩
    have hb2 : b < nB (bgJ (bgJ J 13) 10) := by rw [nB_bg]; exact hb'
    unfold wa_mark12
    refine ⟨h2.kd, ex_mark17 _ g2 hb2 h2 (fun S3 g3 h3 => ?_)⟩
    rw [oB_bg, oB_bg, oB_bg]
    exact k1 S3 g3
  · exact Or.inr (Or.inr (Or.inl ⟨rfl, ex_size14 _ g hb h (Or.inl rfl) (fun S' g' _ => k1 S' g')⟩))
  · exact Or.inr (Or.inr (Or.inr (Or.inl ⟨rfl, ex_size15 _ g hb h rfl (fun S' g' _ => k1 S' g')⟩)))
  · exact Or.inr (Or.inr (Or.inr (Or.inr ⟨rfl, ex_size12 _ g hb h (fun S' g' _ _ => k1 S' g')⟩)))
theorem ex_mark (g : XA ad J S) (hb : b < nB J) (h : AsQ ad b k p S q) (k1 : ∀ S', XA ad (bgL J (mkT k)) S' → Q (mkV J b k p) S') : wa_mark Q S q (some (ad 9)) := by
  have k9 : xKD S (ad 9) = some 1 := g.k (by decide)
  unfold wa_mark
  rw [h.kd]
  rcases h.kin with e | e | e | e | e <;> subst e
  · exact Or.inl ⟨rfl, ex_mark17 _ g hb h (fun S' g' _ => k1 S' g')⟩
  · exact Or.inr (Or.inl ⟨rfl, ex_mark17 _ g hb h (fun S' g' _ => k1 S' g')⟩)
  · exact Or.inr (Or.inr (Or.inl ⟨rfl, ex_mark14 _ g hb h (fun S' g' _ => k1 S' g')⟩))
  · refine Or.inr (Or.inr (Or.inr (Or.inl ⟨rfl, ?_⟩)))
    unfold wx_X15_mark
    simp only [dr_some, k9, true_and]
    refine ex_begins g _ _ (fun S' c g' => ?_)
    have h' := h.kept g c
    have hb' : b < nB (bgJ J 22) := by rw [nB_bg]; exact hb
    refine ⟨h'.as, ex_mark14 _ g' hb' h' (fun S2 g2 h2 => ?_)⟩
    have hb2 : b < nB (bgJ (bgJ (bgJ J 22) 21) 20) := by rw [nB_bg, nB_bg]; exact hb'
    refine ⟨h2.kd, ex_size15 _ g2 hb2 h2 rfl (fun S3 g3 h3 => ?_)⟩
    simp only [oB_bg]
    exact k1 S3 g3
  · refine Or.inr (Or.inr (Or.inr (Or.inr ⟨rfl, ?_⟩)))
    unfold wx_X16_mark
    simp only [dr_some, k9, true_and]
    refine ex_begins g _ _ (fun S' c g' => ?_)
    have h' := h.kept g c
    have hb' : b < nB (bgJ J 23) := by rw [nB_bg]; exact hb
    refine ⟨h'.as, ex_mark17 _ g' hb' h' (fun S2 g2 h2 => ?_)⟩
    have hb2 : b < nB (bgJ (bgJ J 23) 20) := by rw [nB_bg]; exact hb'
    unfold wa_size15
    refine ⟨h2.kd, ex_size12 _ g2 hb2 h2 (fun S3 g3 h3 _ => ?_)⟩
    simp only [oB_bg]
    exact k1 S3 g3
end
