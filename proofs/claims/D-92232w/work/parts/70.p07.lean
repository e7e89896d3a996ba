/-! PLAIN SIDE 7: calls that ask, and simple ones that change -/
/-- both answer alike, and the relation stands -/
def Ans (x : Nat) (r : Int32) (S : XS) (r2 : Int32) (J : MS) : Prop := r2 = r ∧ XR x J S
def kScr : List Nat := [0, 15, 16, 17, 18, 19, 20, 21, 22, 23, 28, 29, 30, 31, 32]
def kFree : List Nat := [0, 1, 14, 15, 16, 17, 18, 19, 20, 21, 22, 23, 28, 29, 30, 31, 32, 52]
theorem JI.cong {J J' : MS} (h : JI J) (e : ∀ k, k ∉ kFree → J' k = J k) : JI J' := by
  have e2 := e 2 (by decide); have e3 := e 3 (by decide); have e4 := e 4 (by decide); have e5 := e 5 (by decide); have e6 := e 6 (by decide); have e7 := e 7 (by decide); have e8 := e 8 (by decide); have e9 := e 9 (by decide); have e10 := e 10 (by decide); have e12 := e 12 (by decide); have e13 := e 13 (by decide)
  have e24 := e 24 (by decide); have e25 := e 25 (by decide); have e26 := e 26 (by decide); have e27 := e 27 (by decide)
  have e33 := e 33 (by decide); have e34 := e 34 (by decide); have e35 := e 35 (by decide); have e36 := e 36 (by decide); have e37 := e 37 (by decide); have e38 := e 38 (by decide); have e39 := e 39 (by decide); have e40 := e 40 (by decide); have e41 := e 41 (by decide); have e42 := e 42 (by decide); have e43 := e 43 (by decide); have e44 := e 44 (by decide); have e45 := e 45 (by decide); have e46 := e 46 (by decide); have e47 := e 47 (by decide); have e48 := e 48 (by decide); have e49 := e 49 (by decide); have e50 := e 50 (by decide); have e51 := e 51 (by decide); have e53 := e 53 (by decide)
  have b : nB J' = nB J := by unfold nB; rw [e24]
  have c : nC J' = nC J := by unfold nC; rw [e33]
  have g : nG J' = nG J := by unfold nG; rw [e37]
  have l : nL J' = nL J := by unfold nL; rw [e42]
  have m : nM J' = nM J := by unfold nM; rw [e46]
  exact ⟨by rw [b, e24]; exact h.nb, by rw [c, e33]; exact h.nc, by rw [g, e37]; exact h.ng, by rw [l, e42]; exact h.nl, by rw [m, e46]; exact h.nm, by rw [b, e25]; exact h.row, by rw [b, e25, e26]; exact h.can, by rw [e2, e3, e4, e5, e6, e7, e8]; exact h.hal, by rw [e9, e10]; exact h.she, by rw [e12, e13]; exact h.tap, by rw [c, e34, e35, e36]; exact h.coi, by rw [g, e38, e39, e40, e41]; exact h.giv, by rw [l, e43, e44, e45]; exact h.loo, by rw [m, e47, e48, e49, e50, e51]; exact h.mee, by rw [e27]; exact h.day, by rw [e53]; exact h.tra⟩
theorem not_mem_mono {K K' : List Nat} (h : ∀ k ∈ K, k ∈ K') {k : Nat} (n : k ∉ K') : k ∉ K := fun z => n (h k z)
theorem Chg.nothing {S : XS} (h : xClean S) : Chg (fun _ => False) S S := Chg.refl h
section
variable {M : Nat → Prop} {ad ad' : Nat → Nat} {J J' : MS} {S S' : XS} {x : Nat}
theorem Off.none (h : XA ad J S) : Off ad (J 9) (nB J) S (fun _ => False) (fun _ => False) := ⟨fun _ _ _ z => z, fun _ _ z => z, fun _ _ z => z, fun _ _ z => z, fun _ _ _ _ _ _ z => z⟩
theorem XBs.cong {l l' : Nat → Int32} {n n' : Nat} (h : XBs ad l n S) (e : l' = l) (e' : n' = n) : XBs ad l' n' S := by rw [e, e']; exact h
/-- what an asking call leaves: the arrays turn and against, scratch of the model -/
theorem XA.ask (h : XA ad J S) (c : Chg (MR ad [11, 12]) S S') (e : ∀ k, k ∉ kScr → J' k = J k) : XA ad J' S' :=
  h.gen (K := fun k => k ∈ kScr) (R := fun r => r ∈ [11, 12]) c (Off.roles h (by intro r hr; simp [xSall] at hr; exact lv_f (by omega))) (fun _ _ => rfl) (fun k hk => e k hk) (h.ji.cong (fun k hk => e k (not_mem_mono (by decide) hk)))
    ((h.b.kept c).cong (e 9 (by decide)) (by unfold nB; rw [e 24 (by decide)]))
    (Or.inr (by rw [e 13 (by decide), e 14 (by decide), e 27 (by decide), e 1 (by decide)]; exact h.f.kept c (some_ne h.k0) ((Off.roles h (R := [11, 12]) (by intro r hr; simp [xSall] at hr; exact lv_f (by omega))).live 0 (lv_f (by decide)) (by decide))))
    (Or.inl ⟨by decide, by simp [xSall]; omega, by decide, by decide, by decide⟩) (Or.inl ⟨by decide, by simp [xSall]; omega, by intro k h2 h8; unfold kScr; simp [xSall]; omega⟩) (Or.inl ⟨by decide, by decide, by decide⟩)
    (Or.inl ⟨by decide, by simp [xSall]; omega, by decide, by decide, by decide⟩) (Or.inl ⟨by decide, by intro k h2 h8; unfold kScr; simp [xSall]; omega⟩) (Or.inl ⟨by decide, by intro k h2 h8; unfold kScr; simp [xSall]; omega⟩) (Or.inl ⟨by decide, by intro k h2 h8; unfold kScr; simp [xSall]; omega⟩) (Or.inl ⟨by decide, by intro k h2 h8; unfold kScr; simp [xSall]; omega⟩)
    (Or.inl ⟨by decide, by decide, by decide, by decide⟩) (Or.inl (by intro i h3 h7; simp [xSall]; omega))
theorem XA.scr (h : XA ad J S) (e : ∀ k, k ∉ kScr → J' k = J k) : XA ad J' S := h.ask (Chg.refl h.b.cl) e
theorem mset_scr {J : MS} {i k : Nat} {v : Int32} (hk : k ∈ kScr) : ∀ q, q ∉ kScr → mset J k i v q = J q := fun q hq => by
  funext j
  exact if_neg (fun (z : q = k ∧ j = i) => hq (z.1 ▸ hk))
theorem XA.m0 (h : XA ad J S) : XA ad (mset J 0 0 0) S := h.scr (mset_scr (by decide))
theorem ms_ne {J : MS} {k i q : Nat} {v : Int32} (h : q ≠ k) : mset J k i v q = J q := by
  funext j
  exact if_neg (fun (z : q = k ∧ j = i) => h z.1)
theorem ms_eq {J : MS} {k i j : Nat} {v : Int32} : mset J k i v k j = if j = i then v else J k j := by
  unfold mset
  simp [xSall]
/-- fields of x change, in step with the model's -/
theorem XA.xf (h : XA ad J S) {S' : XS} (c : Chg (MR ad [0]) S S') (e : ∀ k, k ∉ [0, 1, 14, 27] → J' k = J k) (hd : 0 ≤ (J' 27 0).toInt ∧ (J' 27 0).toInt ≤ 364)
    (hr : ∀ k, k < 8 → xFR S' k (ad 0) = some (ad (k + 1))) (hr11 : xFR S' 11 (ad 0) = some (ad 9)) (hr13 : xFR S' 13 (ad 0) = some (ad 11)) (hr14 : xFR S' 14 (ad 0) = some (ad 12)) (h8 : xFI S' 8 (ad 0) = J 13 0) (h9 : xFI S' 9 (ad 0) = J' 14 0) (h10 : xFI S' 10 (ad 0) = J' 27 0) (h12 : xFI S' 12 (ad 0) = J' 1 0) : XA ad J' S' :=
  h.gen (K := fun k => k ∈ [0, 1, 14, 27]) (R := fun r => r ∈ [0]) c (Off.roles h (by intro r hr; simp [xSall] at hr; exact lv_f (by omega))) (fun _ _ => rfl) (fun k hk => e k hk)
    (by
      have qJI := h.ji.cong (J' := fun k => if k = 27 then J 27 else J' k) (fun k hk => by
          by_cases z : k = 27
          · rw [if_pos z, z]
          · rw [if_neg z]; exact e k (by unfold kFree at hk; simp [xSall] at hk ⊢; omega))
      exact ⟨qJI.nb, qJI.nc, qJI.ng, qJI.nl, qJI.nm, qJI.row, qJI.can, qJI.hal, qJI.she, qJI.tap, qJI.coi, qJI.giv, qJI.loo, qJI.mee, hd, qJI.tra⟩)
    ((h.b.kept c).cong (e 9 (by decide)) (by unfold nB; rw [e 24 (by decide)]))
    (Or.inr ⟨hr, hr11, hr13, hr14, by rw [h8, e 13 (by decide)], h9, h10, h12⟩)
    (Or.inl ⟨by decide, by simp [xSall], by decide, by decide, by decide⟩) (Or.inl ⟨by decide, by simp [xSall], by intro k h2 h8; simp [xSall]; omega⟩) (Or.inl ⟨by decide, by decide, by decide⟩)
    (Or.inl ⟨by decide, by simp [xSall], by decide, by decide, by decide⟩) (Or.inl ⟨by decide, by intro k h2 h8; simp [xSall]; omega⟩) (Or.inl ⟨by decide, by intro k h2 h8; simp [xSall]; omega⟩) (Or.inl ⟨by decide, by intro k h2 h8; simp [xSall]; omega⟩) (Or.inl ⟨by decide, by intro k h2 h8; simp [xSall]; omega⟩)
    (Or.inl ⟨by decide, by decide, by decide, by decide⟩) (Or.inl (by intro i h3 h7; simp [xSall]; omega))
end

section
variable {J : MS} {S : XS} {x : Nat}
theorem op_fault (h : XR x J S) : wx_X0_fault (fun r S1 => wm_fault (fun r2 J1 => Ans x r S1 r2 J1) J) S (some x) := by
  obtain ⟨ad, rfl, h⟩ := h
  unfold wx_X0_fault wm_fault
  simp only [dr_some, h.k0, true_and]
  exact ⟨h.f.i9.symm, ad, rfl, h.m0⟩
theorem op_status (h : XR x J S) : wx_X0_status (fun r S1 => wm_status (fun r2 J1 => Ans x r S1 r2 J1) J) S (some x) := by
  obtain ⟨ad, rfl, h⟩ := h
  unfold wx_X0_status wm_status
  simp only [dr_some, h.k0, true_and]
  exact ⟨h.f.i12.symm, ad, rfl, h.m0⟩
theorem op_day (h : XR x J S) (d : Int32) : wx_X0_day (fun r S1 => wm_day (fun r2 J1 => Ans x r S1 r2 J1) J d) S (some x) d := by
  obtain ⟨ad, rfl, h⟩ := h
  unfold wx_X0_day wm_day
  simp only [ex_isDay, em_isDay, bI_ite, dr_some, h.k0, true_and]
  split
  · rename_i hd
    refine ⟨h.f.i10.symm, ad, rfl, ?_⟩
    have g := h.m0
    refine g.xf ((Chg.refl h.b.cl).sFI (Or.inr ⟨0, by simp [xSall], rfl⟩) (some_ne h.k0)) (fun k hk => ms_ne (by simp [xSall] at hk; omega)) (by rw [ms_eq]; exact hd) g.f.r g.f.r11 g.f.r13 g.f.r14 ?_ ?_ ?_ ?_
    · simpa [xSall] using g.f.i8
    · rw [ms_ne (by decide)]; simpa [xSall] using g.f.i9
    · rw [ms_eq]; simp [xSall]
    · rw [ms_ne (by decide)]; simpa [xSall] using g.f.i12
  · exact ⟨rfl, ad, rfl, h.m0⟩
theorem p_sub1 {v : Int32} (h : -100 ≤ v.toInt) : (v - 1).toInt = v.toInt - 1 := by
  have := Int32.toInt_lt v
  rw [Int32.toInt_sub]
  have : (1 : Int32).toInt = 1 := rfl
  rw [this, Int.bmod_eq_of_le] <;> omega
theorem op_trace (h : XR x J S) (i : Int32) : wx_X0_trace (fun r S1 => wm_trace (fun r2 J1 => Ans x r S1 r2 J1) J i) S (some x) i := by
  obtain ⟨ad, rfl, h⟩ := h
  have hj := h.ji.tra
  unfold wx_X0_trace wm_trace
  simp only [dr_some, h.k0, h.f.r11, h.k (show 9 ≤ 12 by decide), show kr 9 = 1 from rfl, ex_in, em_in, h.tr.i, Int32.toInt_toInt64, Int64.reduceToInt, bI_ite, true_and, ms_ne (show (53 : Nat) ≠ 0 by decide), h.tr.r, h.k (show 10 ≤ 12 by decide), show kr 10 = 100 from rfl, h.b.l10, p_sub1 (show -100 ≤ (J 53 0).toInt by omega)]
  split
  · rename_i hd
    obtain ⟨k, k1, rfl⟩ := p_ex (n := 16) hd.1 (by omega)
    rw [p_nI (by omega)] at hd
    rw [p_tn (by omega)]
    refine ⟨p_vpn k1 (by decide), p_vpn k1 (by decide), ?_, ad, rfl, h.m0⟩
    rw [ms_ne (by decide)]
    exact (h.tr.a k (by omega)).symm
  · exact ⟨rfl, ad, rfl, h.m0⟩
theorem em_isBooking0 (hj : JI J) (Q : Int32 → MS → Prop) (v : Int32) : wm_isBooking Q (mset J 0 0 0) v = Q (bI (0 ≤ v.toInt ∧ v.toInt < nB J)) (mset J 0 0 0) := em_isBooking Q (hj.cong (mset_scr (J := J) (by decide) |> fun f k hk => f k (not_mem_mono (K' := kFree) (by decide) hk))) v
theorem XA.j0 {ad : Nat → Nat} (h : XA ad J S) : JI (mset J 0 0 0) := h.m0.ji
theorem op_clash (h : XR x J S) (a b : Int32) : wx_X0_clash (fun r S1 => wm_clash (fun r2 J1 => Ans x r S1 r2 J1) J a b) S (some x) a b := by
  obtain ⟨ad, rfl, h⟩ := h
  have g := h.m0
  generalize hJ : mset J 0 0 0 = J0 at g
  unfold wx_X0_clash wm_clash
  rw [hJ]
  simp only [dr_some, g.k0, true_and, ex_isBooking _ g, em_isBooking _ g.ji, bI_ite, g.r2, g.bk.ls.1]
  split
  · rename_i ha
    split
    · rename_i hb
      split
      · exact ⟨rfl, ad, rfl, g⟩
      · rename_i hne
        obtain ⟨a, a1, rfl⟩ := p_ex ha.1 ha.2
        obtain ⟨b, b1, rfl⟩ := p_ex hb.1 hb.2
        simp only [g.k0, g.r2, g.bk.ls.1, g.bk.ls.get a1, g.bk.ls.get b1, dr_some, g.kb a1, g.kb b1, true_and, ex_clash _ g a1 b1, em_clash _ g.ji a1 b1, bI_ite, if_neg hne]
        by_cases q : pClash J0 a b
        · simp only [if_pos q]
          exact ⟨rfl, ad, rfl, g⟩
        · simp only [if_neg q]
          exact ⟨rfl, ad, rfl, g⟩
    · exact ⟨rfl, ad, rfl, g⟩
  · exact ⟨rfl, ad, rfl, g⟩
def fTold (J : MS) (b : Nat) (w : Int32) : Int32 := if 0 ≤ w.toInt ∧ w.toInt ≤ 10 then (if (9 : Int32) ≤ w then (if w = 9 then J 26 b else fPrice J b) else oB J b w.toNatClampNeg) else -1000001
theorem em_told (g : JI J) (Q : Int32 → MS → Prop) {b : Nat} (b1 : b < nB J) (w : Int32) : wm_told Q J (nI b) w = Q (fTold (mset J 0 0 0) b w) (mset J 0 0 0) := by
  have g0 : JI (mset J 0 0 0) := g.cong (fun k hk => mset_scr (by decide) k (not_mem_mono (K' := kFree) (by decide) hk))
  have b0 : b < nB (mset J 0 0 0) := b1
  generalize hJ : mset J 0 0 0 = J0 at g0 b0
  unfold wm_told
  rw [hJ]
  simp only [em_isBooking _ g0, em_in, bI_ite, em_price _ g0 b0, Int32.toInt_toInt64, Int64.reduceToInt]
  have b16 := g0.b b0
  rw [if_pos (by rw [p_nI (by omega)]; omega)]
  unfold fTold
  split
  · rename_i hw
    split
    · split
      · rw [p_tn (by omega)]
        exact propext ⟨fun h => h.2, fun h => ⟨p_vpn b16 (by decide), h⟩⟩
      · rfl
    · rename_i h9
      obtain ⟨w, w1, rfl⟩ := p_ex (n := 11) hw.1 (by omega)
      have w9 : w < 9 := by
        rcases Nat.lt_or_ge w 9 with z | z
        · exact z
        · exact absurd (show nI 9 ≤ nI w by rw [nIq_le (by omega) (by omega)]; exact z) h9
      rw [em_of _ b16 w9, p_tn (by omega)]
  · rfl
theorem ex_told {ad : Nat → Nat} (g : XA ad J S) (Q : Int32 → XS → Prop) {b : Nat} (b1 : b < nB J) (w : Int32) : wx_X0_told Q S (some (ad 0)) (nI b) w = Q (fTold J b w) S := by
  obtain ⟨f0, f1, f2, f3, f4, f5, f6, f7, f8, f9, f10⟩ := g.bf b1
  have b16 := g.ji.b b1
  unfold wx_X0_told
  simp only [dr_some, g.k0, true_and, ex_isBooking _ g, bI_ite, g.r2, g.bk.ls.1, g.bk.ls.get b1, g.kb b1, f0, f1, f2, f3, f4, f5, f6, f7, f8, f9, f10, ex_price _ g b1]
  rw [if_pos (by rw [p_nI (by omega)]; omega)]
  unfold fTold
  by_cases hw : 0 ≤ w.toInt ∧ w.toInt ≤ 10
  · rw [if_pos hw]
    obtain ⟨w, w1, rfl⟩ := p_ex (n := 11) hw.1 (by omega)
    rw [p_tn (show w < 2 ^ 31 by omega)]
    have o7 : oB J b 7 = if oB J b 7 = 0 then 0 else 1 := by
      have q7 := (g.ji.row b b1).2.2.2.2.2.2.2.1
      have : (oB J b 7).toInt = 0 ∨ (oB J b 7).toInt = 1 := by
        have q : 0 ≤ (oB J b 7).toInt ∧ (oB J b 7).toInt ≤ 1 := q7
        omega
      rcases this with z | z
      · have : oB J b 7 = 0 := p_eq.mpr z
        rw [this]; rfl
      · have : oB J b 7 = 1 := p_eq.mpr z
        rw [this]; rfl
    have N : ∀ k : Nat, k ≤ 10 → w ≠ k → ¬ nI w = nI k := fun k hk h z => h ((nI_inj (by omega) (by omega)).mp z)
    have : w = 0 ∨ w = 1 ∨ w = 2 ∨ w = 3 ∨ w = 4 ∨ w = 5 ∨ w = 6 ∨ w = 7 ∨ w = 8 ∨ w = 9 ∨ w = 10 := by omega
    have s7 : (if oB J b 7 = 0 then Q 0 S else Q 1 S) = Q (oB J b 7) S := by
      by_cases z : oB J b 7 = 0
      · rw [if_pos z, z]
      · rw [if_neg z]; rw [if_neg z] at o7; rw [o7]
    rw [s7]
    rcases this with rfl | rfl | rfl | rfl | rfl | rfl | rfl | rfl | rfl | rfl | rfl <;> rfl
  · rw [if_neg hw]
    have nw : ∀ k : Nat, k ≤ 10 → ¬ w = nI k := by
      intro k hk e
      rw [e, p_nI (by omega)] at hw
      omega
    rw [if_neg (show ¬ w = (0 : Int32) from nw 0 (by decide)), if_neg (show ¬ w = (1 : Int32) from nw 1 (by decide)), if_neg (show ¬ w = (2 : Int32) from nw 2 (by decide)), if_neg (show ¬ w = (3 : Int32) from nw 3 (by decide)), if_neg (show ¬ w = (4 : Int32) from nw 4 (by decide)), if_neg (show ¬ w = (5 : Int32) from nw 5 (by decide)), if_neg (show ¬ w = (6 : Int32) from nw 6 (by decide)), if_neg (show ¬ w = (7 : Int32) from nw 7 (by decide)), if_neg (show ¬ w = (8 : Int32) from nw 8 (by decide)), if_neg (show ¬ w = (9 : Int32) from nw 9 (by decide)), if_neg (show ¬ w = (10 : Int32) from nw 10 (by decide))]
theorem op_told (h : XR x J S) (b w : Int32) : wx_X0_told (fun r S1 => wm_told (fun r2 J1 => Ans x r S1 r2 J1) J b w) S (some x) b w := by
  obtain ⟨ad, rfl, h⟩ := h
  by_cases hb : 0 ≤ b.toInt ∧ b.toInt < nB J
  · obtain ⟨b, b1, rfl⟩ := p_ex hb.1 hb.2
    rw [ex_told h _ b1, em_told h.ji _ b1]
    exact ⟨rfl, ad, rfl, h.m0⟩
  · unfold wx_X0_told wm_told
    simp only [dr_some, h.k0, true_and, ex_isBooking _ h, em_isBooking _ h.m0.ji, bI_ite]
    rw [if_neg hb, if_neg (show ¬ (0 ≤ b.toInt ∧ b.toInt < (nB (mset J 0 0 0) : Int)) from hb)]
    exact ⟨rfl, ad, rfl, h.m0⟩
theorem op_cancel (h : XR x J S) (b d : Int32) : wx_X0_cancel (fun r S1 => wm_cancel (fun r2 J1 => Ans x r S1 r2 J1) J b d) S (some x) b d := by
  obtain ⟨ad, rfl, h⟩ := h
  have g := h.m0
  generalize hJ : mset J 0 0 0 = J0 at g
  unfold wx_X0_cancel wm_cancel
  rw [hJ]
  simp only [dr_some, g.k0, true_and, ex_isBooking _ g, em_isBooking _ g.ji, bI_ite, g.r2, g.bk.ls.1, em_in, ex_in, Int32.toInt_toInt64, Int64.reduceToInt]
  split
  · rename_i ha
    obtain ⟨b, b1, rfl⟩ := p_ex ha.1 ha.2
    obtain ⟨f0, f1, f2, f3, f4, f5, f6, f7, f8, f9, f10⟩ := g.bf b1
    have b16 := g.ji.b b1
    simp only [g.k0, g.r2, g.bk.ls.1, ex_in, Int32.toInt_toInt64, Int64.reduceToInt, g.bk.ls.get b1, dr_some, g.kb b1, true_and, f3, f9, f10, em_of8 _ b16, em_of2 _ b16, bI_ite, p_tn (show b < 2 ^ 31 by omega), p_vpn b16 (show 16 < 2 ^ 31 by decide)]
    by_cases hd : (oB J0 b 8).toInt ≤ d.toInt ∧ d.toInt ≤ (oB J0 b 2).toInt
    · simp only [if_pos hd]
      by_cases hc : J0 26 b = -1000000
      · simp only [if_pos hc]
        refine ⟨rfl, ad, rfl, ?_⟩
        have o := Off.roles g (R := [100 + b]) (by intro r hr; simp [xSall] at hr; rw [hr]; exact lv_b b1)
        refine g.gen (K := fun k => k ∈ [26]) (R := fun r => r ∈ [100 + b]) (M := MR ad [100 + b]) ((Chg.refl g.b.cl).sFI (Or.inr ⟨100 + b, by simp [xSall], rfl⟩) (some_ne (g.kb b1))) o (fun _ _ => rfl) (fun k hk => ms_ne (by simpa [xSall] using hk)) ?_ ((g.b.kept ((Chg.refl (M := fun _ => True) g.b.cl).sFI (Or.inr trivial) (some_ne (g.kb b1)))).cong (ms_ne (by decide)) (by unfold nB; rw [ms_ne (by decide)]))
          (Or.inl ⟨by simp [xSall]; omega, by simp [xSall]; omega, by simp [xSall]; omega, by simp [xSall]; omega, by simp [xSall]; omega, by decide, by decide, by decide, by decide⟩) (Or.inl ⟨by simp [xSall]; omega, by simp [xSall]; omega, by decide, by decide, by decide⟩) (Or.inl ⟨by simp [xSall]; omega, by simp [xSall]; omega, by simp [xSall]; omega⟩) (Or.inl ⟨by simp [xSall]; omega, by decide, by decide⟩) (Or.inr ?_)
          (Or.inl ⟨by simp [xSall]; omega, by simp [xSall]; omega⟩) (Or.inl ⟨by simp [xSall]; omega, by simp [xSall]; omega⟩) (Or.inl ⟨by simp [xSall]; omega, by simp [xSall]; omega⟩) (Or.inl ⟨by simp [xSall]; omega, by simp [xSall]; omega⟩) (Or.inl ⟨by simp [xSall]; omega, by simp [xSall]; omega, by decide, by decide⟩) (Or.inl (by simp [xSall]; omega))
        · have e24 : nB (mset J0 26 b d) = nB J0 := by unfold nB; rw [ms_ne (by decide)]
          have qJI := g.ji.cong (J' := fun k => if k = 26 then J0 26 else mset J0 26 b d k) (fun k hk => by
              by_cases z : k = 26
              · rw [if_pos z, z]
              · rw [if_neg z]; exact ms_ne z)
          refine ⟨qJI.nb, qJI.nc, qJI.ng, qJI.nl, qJI.nm, qJI.row, ?_, qJI.hal, qJI.she, qJI.tap, qJI.coi, qJI.giv, qJI.loo, qJI.mee, qJI.day, qJI.tra⟩
          intro c hc'
          rw [e24] at hc'
          show mset J0 26 b d 26 c = -1000000 ∨ (mset J0 26 b d 25 (9 * c + 8)).toInt ≤ (mset J0 26 b d 26 c).toInt ∧ (mset J0 26 b d 26 c).toInt ≤ (mset J0 26 b d 25 (9 * c + 2)).toInt
          rw [ms_eq, ms_ne (show 25 ≠ 26 by decide)]
          by_cases z : c = b
          · rw [if_pos z, z]; exact Or.inr hd
          · rw [if_neg z]; exact g.ji.can c hc'
        · have e24 : nB (mset J0 26 b d) = nB J0 := by unfold nB; rw [ms_ne (by decide)]
          rw [e24, ms_ne (show 25 ≠ 26 by decide)]
          refine ⟨?_, fun c hc' => ?_⟩
          · obtain ⟨z1, e, z2, z3, z4, z5⟩ := g.bk.ls
            exact ⟨z1, e, z2, z3, by simpa [xSall] using z4, z5⟩
          · have q := g.bk.f c hc'
            refine ⟨by simpa [xSall] using q.1, fun k hk => ?_, ?_⟩
            · rw [xFI_sFI, if_neg (by omega)]; exact q.2.1 k hk
            · rw [xFI_sFI, ms_eq]
              by_cases z : c = b
              · rw [if_pos ⟨rfl, by rw [z]⟩, if_pos z]
              · have : ad (100 + c) ≠ ad (100 + b) := fun w => z (by have := g.b.inj _ _ (lv_b hc') (lv_b b1) w; omega)
                rw [if_neg (fun w => this w.2), if_neg z]
                exact q.2.2
      · simp only [if_neg hc]
        exact ⟨rfl, ad, rfl, g⟩
    · simp only [if_neg hd]
      exact ⟨rfl, ad, rfl, g⟩
  · exact ⟨rfl, ad, rfl, g⟩
end
