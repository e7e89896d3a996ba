/-! PLAIN SIDE 12: findings; sheets -/
theorem XBs.more {M : Nat → Prop} {ad ad' : Nat → Nat} {l l' : Nat → Int32} {n n' : Nat} {S S' : XS} (h : XBs ad l n S) (c : Chg M S S') (N : List Nat) (hlv : ∀ r, lv l' n' r → r ∈ N ∨ (lv l n r ∧ ad' r = ad r)) (hN : ∀ r ∈ N, xKD S (ad' r) = none ∧ xKD S' (ad' r) = some (kr r)) (hinj : ∀ r ∈ N, ∀ r' ∈ N, ad' r = ad' r' → r = r') (h12 : ∀ r ∈ [1, 2, 8, 11, 12], ad' r = ad r) (h10 : xLN S' (ad' 10) = 16) : XBs ad' l' n' S' := by
  have e : ∀ r ∈ [1, 2, 8, 11, 12], xLN S' (ad' r) = xLN S (ad r) := fun r hr => by
    rw [h12 r hr]
    exact c.ln _ (some_ne (h.kd r (lv_f (by simp [xSall] at hr; omega))))
  refine ⟨c.cl, fun r hr => ?_, fun r hr => ?_, fun r r' hr hr' he => ?_, (e 1 (by simp [xSall])).trans h.l1, (e 2 (by simp [xSall])).trans h.l2, (e 8 (by simp [xSall])).trans h.l8, h10, (e 11 (by simp [xSall])).trans h.l11, (e 12 (by simp [xSall])).trans h.l12⟩
  · rcases hlv r hr with z | ⟨z, w⟩
    · exact (hN r z).2
    · rw [w, c.kd _ (some_ne (h.kd r z))]
      exact h.kd r z
  · rw [c.ro]
    rcases hlv r hr with z | ⟨z, w⟩
    · exact h.cl.ro (hN r z).1
    · rw [w]; exact h.ro r z
  · rcases hlv r hr with z | ⟨z, w⟩
    · rcases hlv r' hr' with z' | ⟨z', w'⟩
      · exact hinj r z r' z' he
      · rw [w'] at he
        have := (hN r z).1
        rw [he, h.kd r' z'] at this
        cases this
    · rcases hlv r' hr' with z' | ⟨z', w'⟩
      · rw [w] at he
        have := (hN r' z').1
        rw [← he, h.kd r z] at this
        cases this
      · rw [w, w'] at he
        exact h.inj r r' z z' he
theorem XBs.sub {ad : Nat → Nat} {l l' : Nat → Int32} {n n' : Nat} {S : XS} (h : XBs ad l n S) (hl : ∀ r, lv l' n' r → lv l n r) : XBs ad l' n' S :=
  ⟨h.cl, fun r hr => h.kd r (hl r hr), fun r hr => h.ro r (hl r hr), fun r r' a b => h.inj r r' (hl r a) (hl r' b), h.l1, h.l2, h.l8, h.l10, h.l11, h.l12⟩
section
variable {ad : Nat → Nat} {J J' : MS} {S S4 : XS} {x : Nat}
theorem XA.same (g : XA ad J S) (c : Chg (fun _ => False) S S4) : XA ad J S4 := g.ask (c.mono (fun _ _ z => z.elim)) (fun _ _ => rfl)
theorem XA.status (g : XA ad J S) (c : Chg (fun _ => False) S S4) {v : Int32} (hJ : ∀ k, k ≠ 1 → J' k = J k) (h1 : J' 1 0 = v) : XA ad J' (sFI S4 12 (ad 0) v) := by
  have g4 := g.same c
  refine g4.xf ((Chg.refl c.cl).sFI (Or.inr ⟨0, by simp [xSall], rfl⟩) (some_ne g4.k0)) (fun k hk => hJ k (by simp [xSall] at hk; omega)) (by rw [hJ 27 (by decide)]; exact g.ji.day) g4.f.r g4.f.r11 g4.f.r13 g4.f.r14 ?_ ?_ ?_ ?_
  · simpa [xSall] using g4.f.i8
  · rw [hJ 14 (by decide)]; simpa [xSall] using g4.f.i9
  · rw [hJ 27 (by decide)]; simpa [xSall] using g4.f.i10
  · rw [h1]; simp [xSall]
theorem ex_must1 (Q : XS → Prop) (X : Nat → XS → Prop) (mc ms : Nat) (S : XS) (n : Int32) : wx_X0_must Q X mc ms S 1 n = Q S := by
  unfold wx_X0_must
  rw [if_neg (by decide)]
theorem ex_must0 (Q : XS → Prop) (X : Nat → XS → Prop) {mc ms : Nat} {S : XS} (n : Int32) (hcl : xClean S) (hc : 1 ≤ mc) (hm : 7 ≤ ms) (k : ∀ q S4, xKD S q = none → Chg (fun _ => False) S S4 → xKD S4 q = some 3 → xFI S4 300 q = n → X q S4) : wx_X0_must Q X mc ms S 0 n := by
  unfold wx_X0_must
  rw [if_pos rfl]
  refine ⟨hc, hm, fun q hq => ?_⟩
  unfold wx_X4_init wx_J4_init_k3 wx_J3_init_2_k3 wx_J3_init_2_k3_41
  simp only [dr_some, xKD_sNew, xKD_sFR, xKD_sFI, if_true, true_and]
  have k3 : xKD (sNew S q 3) q = some 3 := by simp [xSall]
  refine k q _ hq ?_ (by simp [xSall]) (by simp [xSall])
  exact (((((((((Chg.refl hcl).sNew hq).sFR (Or.inl hq) (some_ne k3)).sFR (Or.inl hq) (some_ne k3)).sFR (Or.inl hq) (some_ne k3)).sFR (Or.inl hq) (some_ne k3)).sFR (Or.inl hq) (some_ne k3)).sFR (Or.inl hq) (some_ne k3)).sFR (Or.inl hq) (some_ne k3)).sFI (Or.inl hq) (some_ne k3)
theorem ex_found (g : XA ad J S) (c : Chg (fun _ => False) S S4) {q : Nat} {n : Int32} (kq : xKD S4 q = some 3) (hn : xFI S4 300 q = n) (Q : Int32 → XS → Prop) (hJ : ∀ k, k ≠ 1 → J' k = J k) (h1 : J' 1 0 = n) (k : ∀ S', XA ad J' S' → Q (-1000010 - n) S') : wx_X0_found Q S4 (some (ad 0)) (some q) := by
  unfold wx_X0_found
  have k0 := (g.same c).k0
  have e : xFI (sFI S4 12 (ad 0) n) 300 q = n := by simp [xSall, hn]
  simp only [dr_some, kq, k0, true_and, hn, e]
  exact k _ (g.status c hJ h1)
theorem ex_well (g : XA ad J S) (Q : Int32 → XS → Prop) (v : Int32) : wx_X0_well Q S (some (ad 0)) v = Q v (sFI S 12 (ad 0) 0) := by
  unfold wx_X0_well
  simp only [dr_some, g.k0, true_and]
theorem ex_sheetAt1 (g : XA ad J S) {s : Nat} (hs : s < 8) (hl : 0 ≤ J 9 s) (Q : Option Nat → XS → Prop) (X : Nat → XS → Prop) (mc ms : Nat) (k : Q (some (ad (60 + s))) S) : wx_X0_sheetAt Q X mc ms S (some (ad 0)) (nI s) := by
  unfold wx_X0_sheetAt wx_X0_sheetAt_14
  have k1 : xKD S (ad 1) = some 105 := g.k (by decide)
  have v : vp_in (nI s) 8 := p_vpn hs (by decide)
  simp only [dr_some, g.k0, g.r0, k1, g.b.l1, true_and, v, p_tn (show s < 2 ^ 31 by omega), (g.sh.sm s hs hl).1]
  rw [if_neg (by simp [xSall])]
  refine ⟨0, 0, by omega, by omega, ?_⟩
  rw [ex_must1]
  simp only [dr_some, g.k0, g.r0, k1, g.b.l1, true_and, v, (g.sh.sm s hs hl).1]
  exact k
theorem ex_sheetAt0 (g : XA ad J S) {s : Nat} (hs : s < 8) (hl : ¬ 0 ≤ J 9 s) (Q : Option Nat → XS → Prop) (X : Nat → XS → Prop) {mc ms : Nat} (hc : 1 ≤ mc) (hm : 7 ≤ ms) (k : ∀ q S4, xKD S q = none → Chg (fun _ => False) S S4 → xKD S4 q = some 3 → xFI S4 300 q = 1 → X q S4) : wx_X0_sheetAt Q X mc ms S (some (ad 0)) (nI s) := by
  unfold wx_X0_sheetAt wx_X0_sheetAt_14
  have k1 : xKD S (ad 1) = some 105 := g.k (by decide)
  have v : vp_in (nI s) 8 := p_vpn hs (by decide)
  simp only [dr_some, g.k0, g.r0, k1, g.b.l1, true_and, v, p_tn (show s < 2 ^ 31 by omega), g.sh.nn s hs hl]
  rw [if_pos trivial]
  exact ⟨1, 7, hc, hm, ex_must0 _ _ 1 g.b.cl (Nat.le_refl _) (Nat.le_refl _) k⟩
theorem em_finding (Q : Int32 → MS → Prop) (J : MS) (v : Int32) : wm_finding Q J v = Q (-1000010 - v) (mset J 1 0 v) := rfl
theorem p_ge0 {v : Int32} : (0 : Int32) ≤ v ↔ 0 ≤ v.toInt := p_le
theorem J1 {J0 : MS} {v : Int32} : ∀ k, k ≠ 1 → mset J0 1 0 v k = J0 k := fun k hk => ms_ne hk
theorem J11 {J0 : MS} {v w : Int32} : ∀ k, k ≠ 1 → mset (mset J0 1 0 v) 1 0 w k = J0 k := fun k hk => (ms_ne hk).trans (ms_ne hk)
theorem op_drop (h : XR x J S) {mc ms : Nat} (hc : 100 ≤ mc) (hm : 1000 ≤ ms) (a : Int32) : wx_X0_drop (fun r S1 => wm_drop (fun r2 J1 => Ans x r S1 r2 J1) J a) mc ms S (some x) a := by
  obtain ⟨ad, rfl, h⟩ := h
  have g := h.m0
  generalize hJ : mset J 0 0 0 = J0 at g
  unfold wx_X0_drop wm_drop
  rw [hJ]
  simp only [ex_isSheet, em_isSheet, bI_ite]
  by_cases ha : 0 ≤ a.toInt ∧ a.toInt ≤ 7
  · simp only [if_pos ha]
    obtain ⟨s, s8, rfl⟩ := p_ex (n := 8) ha.1 (by omega)
    have v : vp_in (nI s) 8 := p_vpn s8 (by decide)
    simp only [dr_some, g.k0, true_and, v, p_tn (show s < 2 ^ 31 by omega), ms_ne (show 9 ≠ 1 by decide), em_finding]
    refine ⟨1, 7, by omega, by omega, ?_⟩
    by_cases hl : 0 ≤ J0 9 s
    · obtain ⟨q0, q1, q2, q3, q4, q5⟩ := g.sh.sm s s8 hl
      have k1 : xKD S (ad 1) = some 105 := g.k (by decide)
      refine ex_sheetAt1 g s8 hl _ _ _ _ ?_
      have ks : xKD S (ad (60 + s)) = some 4 := by
        rw [g.b.kd _ (lv_s s8 hl)]; unfold kr
        iterate 9 rw [if_neg (by omega)]
        rw [if_neg (by omega), if_neg (by omega), if_pos (by omega)]
      have ki : xKD S (ad (70 + s)) = some 100 := by
        rw [g.b.kd _ (lv_i s8 hl)]; unfold kr
        iterate 9 rw [if_neg (by omega)]
        rw [if_neg (by omega), if_neg (by omega), if_neg (by omega), if_pos (by omega)]
      have r1 : xRO S (ad 1) = false := g.b.ro 1 (lv_f (by decide))
      simp only [dr_some, ks, q2, ki, g.k0, g.r0, k1, r1, g.b.l1, v, true_and, if_pos hl]
      unfold wx_X0_well
      simp only [dr_some, xKD_sAR, g.k0, true_and]
      refine ⟨?_, ad, rfl, ?_⟩
      · rw [ms_ne (by decide), ms_ne (by decide)]; exact q3.symm
      · have hR : ∀ r ∈ [0, 1], lv (J0 9) (nB J0) r := by intro r hr; simp [xSall] at hr; exact lv_f (by omega)
        have off := Off.roles g hR
        have c : Chg (MR ad [0, 1]) S (sFI (sAR S (ad 1) s none) 12 (ad 0) 0) := ((Chg.refl g.b.cl).sAR (Or.inr ⟨1, by simp [xSall], rfl⟩) (some_ne k1)).sFI (Or.inr ⟨0, by simp [xSall], rfl⟩) (some_ne g.k0)
        have e9 : ∀ i, mset (mset J0 1 0 0) 9 s (-1) 9 i = if i = s then -1 else J0 9 i := by intro i; rw [ms_eq, ms_ne (by decide)]
        have o : ∀ k, k ∉ [1, 9] → mset (mset J0 1 0 0) 9 s (-1) k = J0 k := by
          intro k hk; simp [xSall] at hk; rw [ms_ne hk.2, ms_ne hk.1]
        have e1 : mset (mset J0 1 0 0) 9 s (-1) 1 0 = 0 := by rw [ms_ne (by decide), ms_eq, if_pos rfl]
        generalize mset (mset J0 1 0 0) 9 s (-1) = J' at o e9 e1 ⊢
        have hnB : nB J' = nB J0 := by unfold nB; rw [o 24 (by simp [xSall])]
        refine g.gen (K := fun k => k ∈ [1, 9]) (R := fun r => r ∈ [0, 1]) c off (fun _ _ => rfl) o ?_ ?_ (Or.inr ?_) (Or.inr ?_) (Or.inl ⟨by simp [xSall], by simp [xSall]; omega, by intro k h1 h2; simp [xSall]; omega⟩)
          (Or.inl ⟨by simp [xSall], by simp [xSall], by simp [xSall]⟩) (Or.inl ⟨by simp [xSall], by simp [xSall]; omega, by simp [xSall], by simp [xSall], by simp [xSall]⟩) (Or.inl ⟨by simp [xSall], by simp [xSall]; omega⟩) (Or.inl ⟨by simp [xSall], by simp [xSall]; omega⟩) (Or.inl ⟨by simp [xSall], by simp [xSall]; omega⟩) (Or.inl ⟨by simp [xSall], by simp [xSall]; omega⟩) (Or.inl ⟨by simp [xSall], by simp [xSall], by simp [xSall], by simp [xSall]⟩) (Or.inl (by simp [xSall]; omega))
        · have qJI := g.ji.cong (J' := fun k => if k = 9 then J0 9 else J' k) (fun k hk => by
              by_cases z : k = 9
              · rw [if_pos z, z]
              · rw [if_neg z]; exact o k (by unfold kFree at hk; simp [xSall] at hk ⊢; omega))
          refine ⟨qJI.nb, qJI.nc, qJI.ng, qJI.nl, qJI.nm, qJI.row, qJI.can, qJI.hal, (fun t ht => ?_), qJI.tap, qJI.coi, qJI.giv, qJI.loo, qJI.mee, qJI.day, qJI.tra⟩
          have := g.ji.she t ht
          rw [e9, o 10 (by simp [xSall])]
          by_cases z : t = s
          · rw [if_pos z]; exact ⟨by decide, this.2⟩
          · rw [if_neg z]; exact this
        · refine (g.b.kept c).sub (fun r hr => ?_)
          rw [hnB] at hr
          rcases hr with z | z | z | z | z | z | z | z
          · exact Or.inl z
          · exact Or.inr (Or.inl z)
          · exact Or.inr (Or.inr (Or.inl z))
          · exact Or.inr (Or.inr (Or.inr (Or.inl z)))
          · exact Or.inr (Or.inr (Or.inr (Or.inr (Or.inl z))))
          · refine Or.inr (Or.inr (Or.inr (Or.inr (Or.inr (Or.inl ⟨z.1, z.2.1, ?_⟩)))))
            have z3 := z.2.2
            rw [e9] at z3
            by_cases w : r - 60 = s
            · rw [w]; exact hl
            · rw [if_neg w] at z3; exact z3
          · refine Or.inr (Or.inr (Or.inr (Or.inr (Or.inr (Or.inr (Or.inl ⟨z.1, z.2.1, ?_⟩))))))
            have z3 := z.2.2
            rw [e9] at z3
            by_cases w : r - 70 = s
            · rw [w]; exact hl
            · rw [if_neg w] at z3; exact z3
          · exact Or.inr (Or.inr (Or.inr (Or.inr (Or.inr (Or.inr (Or.inr z))))))
        · rw [o 13 (by simp [xSall]), o 14 (by simp [xSall]), o 27 (by simp [xSall]), e1]
          exact ⟨g.f.r, g.f.r11, g.f.r13, g.f.r14, by simpa [xSall] using g.f.i8, by simpa [xSall] using g.f.i9, by simpa [xSall] using g.f.i10, by simp [xSall]⟩
        · rw [o 10 (by simp [xSall]), o 11 (by simp [xSall])]
          have cs : ∀ t, t < 8 → 0 ≤ J0 9 t → SH (sFI (sAR S (ad 1) s none) 12 (ad 0) 0) (ad (60 + t)) (ad (70 + t)) (J0 9 t) (J0 10 t) (fun k => J0 11 (60 * t + k)) := fun t ht hl' =>
            (g.sh.sm t ht hl').2.kept c (some_ne (g.b.kd _ (lv_s ht hl'))) (some_ne (g.b.kd _ (lv_i ht hl'))) (off.live _ (lv_s ht hl') (by simp [xSall]; omega)) (off.live _ (lv_i ht hl') (by simp [xSall]; omega))
          refine ⟨fun t ht hl' => ?_, fun t ht hl' => ?_⟩
          · rw [e9] at hl' ⊢
            by_cases z : t = s
            · rw [if_pos z] at hl'; exact absurd hl' (by decide)
            · rw [if_neg z] at hl' ⊢
              refine ⟨?_, cs t ht hl'⟩
              rw [xAR_sFI, xAR_sAR, if_pos rfl]
              unfold va_up
              rw [if_neg z]
              exact (g.sh.sm t ht hl').1
          · rw [xAR_sFI, xAR_sAR, if_pos rfl]
            unfold va_up
            rw [e9] at hl'
            by_cases z : t = s
            · rw [if_pos z]
            · rw [if_neg z] at hl' ⊢
              exact g.sh.nn t ht hl'
    · refine ex_sheetAt0 g s8 hl _ _ (Nat.le_refl _) (Nat.le_refl _) (fun q S4 hq c4 kq hn => ?_)
      simp only [if_neg hl]
      exact ⟨(g.same c4).k0, ex_found (J' := mset (mset J0 1 0 0) 1 0 1) g c4 kq hn _ J11 (by rw [ms_eq, if_pos rfl]) (fun S' g' => ⟨rfl, ad, rfl, g'⟩)⟩
  · simp only [if_neg ha]
    exact ⟨rfl, ad, rfl, g⟩
end
