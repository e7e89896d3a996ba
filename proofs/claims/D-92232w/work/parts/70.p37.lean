/-! PLAIN SIDE 37: a funeral made (class side) -/
theorem pl_h : ∀ i : Fin 8, ∀ h : Fin 4, ((nI h.val + (nI i.val / (2 : Int32))) - (nI h.val + (nI i.val / (2 : Int32))) / (4 : Int32) * (4 : Int32)) = nI ((h.val + i.val / 2) % 4) := by decide +kernel
theorem pl_f : ∀ i : Fin 8, nI i.val - nI i.val / (2 : Int32) * (2 : Int32) = nI (i.val % 2) := by decide +kernel
section
variable {ad : Nat → Nat} {J : MS} {S S0 : XS} {q p h : Nat} {d fr to : Int32} {hs : Nat} {fl : Int32} {mv : Nat} {pl : Nat → Int32}
theorem ex_placeFor (g : XA ad J S) {flo : Option Nat} (hfl : flo = none ∨ ∃ a, a < 2 ∧ flo = some a) (F : FuO ad S q p h d fr to hs (encO flo) mv pl) (hh : h < 4) (hs16 : hs < 2 ^ 16) (mv16 : mv < 2 ^ 16) {b : Nat} (hb : b < nB J) (h0 : oB J b 0 = nI h) (hd : oB J b 2 = d) (Q : Int32 → XS → Prop) (k1 : Q (pfF J hs mv h fr to flo pl b 8) S) : wx_X9_placeFor Q S (some q) (some (ad (100 + b))) := by
  have L : ∀ r, r ≤ 8 → Q (pfF J hs mv h fr to flo pl b r) S → wx_X9_placeFor_2 Q (r + 1) S (some q) (some (ad (100 + b))) (nI (8 - r)) := by
    intro r
    induction r with
    | zero =>
      intro _ k
      unfold wx_X9_placeFor_2
      rw [if_pos (by decide)]
      exact k
    | succ r ih =>
      intro hr k
      obtain ⟨f0, f1, f2', f3, f4, f5, f6, f7, f8, f9, f10⟩ := g.bf hb
      unfold wx_X9_placeFor_2
      rw [if_neg (by show ¬ nI 8 ≤ nI (8 - (r + 1)); rw [nIq_le (by omega) (by omega)]; omega)]
      have e1 := pl_h ⟨8 - (r + 1), by omega⟩ ⟨h, hh⟩
      have e2 := pl_f ⟨8 - (r + 1), by omega⟩
      have cod : (2 : Int32) * nI ((h + (8 - (r + 1)) / 2) % 4) + nI ((8 - (r + 1)) % 2) = nI (2 * ((h + (8 - (r + 1)) / 2) % 4) + (8 - (r + 1)) % 2) := by
        have e9 : (2 : Int32) = nI 2 := rfl
        rw [e9, nI_m, nI_a]
      simp only [dr_some, g.kb hb, F.1, f1, h0, true_and]
      simp only [] at e1 e2
      rw [e1, e2]
      refine ex_isFreeFor g hfl F hh hs16 mv16 hb hd (Nat.mod_lt _ (by decide)) (Nat.mod_lt _ (by decide)) _ ?_
      rw [bI_ite, cod]
      unfold pfF at k
      by_cases z : frB J hs mv h fr to flo pl b ((h + (8 - (r + 1)) / 2) % 4) ((8 - (r + 1)) % 2)
      · rw [if_pos z] at k ⊢; exact k
      · rw [if_neg z] at k ⊢
        rw [nI_tInc, show 8 - (r + 1) + 1 = 8 - r by omega]
        exact ih (by omega) k
  exact ⟨9, L 8 (Nat.le_refl 8) k1⟩
theorem FuO.pls (F : FuO ad S q p h d fr to hs fl mv pl) {pl' : Nat → Int32} (e : ∀ i, i < 16 → pl i = pl' i) : FuO ad S q p h d fr to hs fl mv pl' := by
  obtain ⟨a1, a2, a3, a4, a5, a6, a7, a8, a9, a10, a11, a12, a13⟩ := F
  exact ⟨a1, a2, a3, a4, a5, a6, a7, a8, a9, a10, a11, a12, fun i hi => by rw [a13 i hi, e i hi]⟩
theorem FuO.setPl (F : FuO ad S q p h d fr to hs fl mv pl) (k : Nat) (v : Int32) : FuO ad (sAI S p k v) q p h d fr to hs fl mv (upd pl k v) := by
  obtain ⟨a1, a2, a3, a4, a5, a6, a7, a8, a9, a10, a11, a12, a13⟩ := F
  refine ⟨a1, a2, a3, a4, a5, a6, a7, a8, a9, a10, a11, a12, fun i hi => ?_⟩
  rw [xAI_sAI, if_pos rfl]
  unfold upd
  by_cases z : i = k
  · rw [if_pos z, if_pos z]
  · rw [if_neg z, if_neg z]; exact a13 i hi
theorem FuO.setFl (F : FuO ad S q p h d fr to hs fl mv pl) (v : Int32) : FuO ad (sFI S 805 q v) q p h d fr to hs v mv pl := by
  obtain ⟨a1, a2, a3, a4, a5, a6, a7, a8, a9, a10, a11, a12, a13⟩ := F
  exact ⟨a1, a2, a3, a4, a5, by rw [xFI_ne (by decide)]; exact a6, by rw [xFI_ne (by decide)]; exact a7, by rw [xFI_ne (by decide)]; exact a8, by rw [xFI_ne (by decide)]; exact a9, by rw [xFI_ne (by decide)]; exact a10, xFI_eq, by rw [xFI_ne (by decide)]; exact a12, a13⟩
theorem FuO.setMv (F : FuO ad S q p h d fr to hs fl mv pl) (m : Nat) : FuO ad (sFI S 806 q (nI m)) q p h d fr to hs fl m pl := by
  obtain ⟨a1, a2, a3, a4, a5, a6, a7, a8, a9, a10, a11, a12, a13⟩ := F
  exact ⟨a1, a2, a3, a4, a5, by rw [xFI_ne (by decide)]; exact a6, by rw [xFI_ne (by decide)]; exact a7, by rw [xFI_ne (by decide)]; exact a8, by rw [xFI_ne (by decide)]; exact a9, by rw [xFI_ne (by decide)]; exact a10, by rw [xFI_ne (by decide)]; exact a11, xFI_eq, a13⟩
theorem FuO.setHs (F : FuO ad S q p h d fr to hs fl mv pl) (m : Nat) : FuO ad (sFI S 804 q (nI m)) q p h d fr to m fl mv pl := by
  obtain ⟨a1, a2, a3, a4, a5, a6, a7, a8, a9, a10, a11, a12, a13⟩ := F
  exact ⟨a1, a2, a3, a4, a5, by rw [xFI_ne (by decide)]; exact a6, by rw [xFI_ne (by decide)]; exact a7, by rw [xFI_ne (by decide)]; exact a8, by rw [xFI_ne (by decide)]; exact a9, xFI_eq, by rw [xFI_ne (by decide)]; exact a11, by rw [xFI_ne (by decide)]; exact a12, a13⟩
theorem FuO.kept {M : Nat → Prop} {S' : XS} (F : FuO ad S q p h d fr to hs fl mv pl) (c : Chg M S S') (nq : ¬ M q) (np : ¬ M p) : FuO ad S' q p h d fr to hs fl mv pl := by
  obtain ⟨a1, a2, a3, a4, a5, a6, a7, a8, a9, a10, a11, a12, a13⟩ := F
  have kq := some_ne a1; have kp := some_ne a2
  exact ⟨(c.kd q kq).trans a1, (c.kd p kp).trans a2, (c.ln p kp).trans a3, (c.fr q kq nq _).trans a4, (c.fr q kq nq _).trans a5, (c.fi q kq nq _).trans a6, (c.fi q kq nq _).trans a7, (c.fi q kq nq _).trans a8, (c.fi q kq nq _).trans a9, (c.fi q kq nq _).trans a10, (c.fi q kq nq _).trans a11, (c.fi q kq nq _).trans a12, fun i hi => by rw [c.ai p kp np]; exact a13 i hi⟩
theorem flF_in (J : MS) (hs h : Nat) (d fr to pe : Int32) : ∀ f, flF J hs h d fr to pe f = none ∨ ∃ a, a < f ∧ flF J hs h d fr to pe f = some a
  | 0 => Or.inl rfl
  | f + 1 => by
    unfold flF
    split
    · exact Or.inr ⟨f, by omega, rfl⟩
    · rcases flF_in J hs h d fr to pe f with w | ⟨a, a1, a2⟩
      · exact Or.inl w
      · exact Or.inr ⟨a, by omega, a2⟩
theorem ex_funeral (g : XA ad J S0) (hh : h < 4) (hs16 : fHeld J (J 27 0) < 2 ^ 16) (pe : Int32) {mc ms : Nat} (hc : 1 ≤ mc) (hm : 16 ≤ ms) (hq : xKD S0 q = none) (Q : XS → Prop)
    (k1 : ∀ S' p, Chg (MR ad [11]) S0 S' → FuO ad S' q p h d fr to (fHeld J (J 27 0)) (encO (flF J (fHeld J (J 27 0)) h d fr to pe 2)) (mvF J (fHeld J (J 27 0)) h d fr to (flF J (fHeld J (J 27 0)) h d fr to pe 2)) (plF J (fHeld J (J 27 0)) (mvF J (fHeld J (J 27 0)) h d fr to (flF J (fHeld J (J 27 0)) h d fr to pe 2)) h fr to (flF J (fHeld J (J 27 0)) h d fr to pe 2) (nB J)) → Q S') : wx_X9_init Q mc ms (sNew S0 q 8) (some q) (some (ad 0)) (nI h) d fr to pe := by
  have nb := g.ji.nb.2
  have p16 : 2 ^ nB J ≤ 2 ^ 16 := Nat.pow_le_pow_right (by decide) nb
  have t16 : Int32.toNatClampNeg (16 : Int32) = 16 := rfl
  have kq0 : xKD (sNew S0 q 8) q = some 8 := by simp [xSall]
  have c0 : Chg (MR ad [11]) S0 (sFI (sFR (sNew S0 q 8) 808 q (some (ad 0))) 805 q (-1000000)) := (((Chg.refl g.b.cl).sNew hq).sFR (Or.inl hq) (some_ne kq0)).sFI (Or.inl hq) (some_ne kq0)
  unfold wx_X9_init
  simp only [dr_some, kq0, true_and, t16]
  refine ⟨by decide, by decide, hc, hm, fun p hp => ?_⟩
  have hp0 : xKD S0 p = none := c0.fresh hp
  have hqp : q ≠ p := fun z => by rw [← z] at hp; rw [show xKD (sFI (sFR (sNew S0 q 8) 808 q (some (ad 0))) 805 q (-1000000)) q = some 8 from kq0] at hp; cases hp
  have c1 := c0.sNewA (n := 100) (k := 16) hp
  have kq1 : xKD (sNewA (sFI (sFR (sNew S0 q 8) 808 q (some (ad 0))) 805 q (-1000000)) p 100 16) q = some 8 := by
    rw [xKD_sNewA, if_neg hqp]; exact kq0
  have c2 : Chg (MR ad [11]) S0 (sFI (sFI (sFI (sFI (sFR (sNewA (sFI (sFR (sNew S0 q 8) 808 q (some (ad 0))) 805 q (-1000000)) p 100 16) 807 q (some p)) 800 q (nI h)) 801 q d) 802 q fr) 803 q to) := ((((c1.sFR (Or.inl hq) (some_ne kq1)).sFI (Or.inl hq) (some_ne kq1)).sFI (Or.inl hq) (some_ne kq1)).sFI (Or.inl hq) (some_ne kq1)).sFI (Or.inl hq) (some_ne kq1)
  have F0 : FuO ad (sFI (sFI (sFI (sFI (sFR (sNewA (sFI (sFR (sNew S0 q 8) 808 q (some (ad 0))) 805 q (-1000000)) p 100 16) 807 q (some p)) 800 q (nI h)) 801 q d) 802 q fr) 803 q to) q p h d fr to 0 (encO none) 0 (fun _ => 0) := by
    refine ⟨kq1, by simp [xSall], by simp [xSall], ?_, ?_, ?_, ?_, ?_, xFI_eq, ?_, ?_, ?_, fun i _ => g.b.cl.ai hp0 i⟩
    · show xFR (sFR _ 807 q (some p)) 807 q = some p
      rw [xFR_sFR, if_pos ⟨rfl, rfl⟩]
    · show xFR (sFR _ 807 q (some p)) 808 q = some (ad 0)
      rw [xFR_sFR, if_neg (by omega)]
      show xFR (sFR _ 808 q (some (ad 0))) 808 q = _
      rw [xFR_sFR, if_pos ⟨rfl, rfl⟩]
    · rw [xFI_ne (by decide), xFI_ne (by decide), xFI_ne (by decide), xFI_eq]
    · rw [xFI_ne (by decide), xFI_ne (by decide), xFI_eq]
    · rw [xFI_ne (by decide), xFI_eq]
    · rw [xFI_ne (by decide), xFI_ne (by decide), xFI_ne (by decide), xFI_ne (by decide)]
      show xFI (sFI _ 805 q (-1000000)) 804 q = _
      rw [xFI_ne (by decide)]
      exact g.b.cl.fi hq 804
    · rw [xFI_ne (by decide), xFI_ne (by decide), xFI_ne (by decide), xFI_ne (by decide)]
      show xFI (sFI _ 805 q (-1000000)) 805 q = _
      rw [xFI_eq]; rfl
    · rw [xFI_ne (by decide), xFI_ne (by decide), xFI_ne (by decide), xFI_ne (by decide)]
      show xFI (sFI _ 805 q (-1000000)) 806 q = _
      rw [xFI_ne (by decide)]
      exact g.b.cl.fi hq 806
  generalize sFI (sFI (sFI (sFI (sFR (sNewA (sFI (sFR (sNew S0 q 8) 808 q (some (ad 0))) 805 q (-1000000)) p 100 16) 807 q (some p)) 800 q (nI h)) 801 q d) 802 q fr) 803 q to = S2 at c2 F0 ⊢
  have g2 := g.tu c2
  refine ⟨g2.k0, ?_⟩
  rw [g2.f.i10]
  refine ex_held g2 _ _ (fun S3 c3 => ?_)
  have hR : ∀ r ∈ [11], lv (J 9) (nB J) r := by intro r hr; simp at hr; exact lv_f (by omega)
  have nq : ¬ MR ad [11] q := g2.nMR hR F0.1 (by intro r hr; simp at hr; subst hr; decide)
  have np : ¬ MR ad [11] p := g2.nMR hR F0.2.1 (by intro r hr; simp at hr; subst hr; decide)
  have c3' : Chg (MR ad [11]) S0 S3 := c2.two c3
  have F3 := (F0.kept c3 nq np).setHs (fHeld J (J 27 0))
  have c4 : Chg (MR ad [11]) S0 (sFI S3 804 q (nI (fHeld J (J 27 0)))) := c3'.sFI (Or.inl hq) (some_ne (F0.kept c3 nq np).1)
  refine ⟨(F0.kept c3 nq np).1, ?_⟩
  generalize sFI S3 804 q (nI (fHeld J (J 27 0))) = S4 at F3 c4 ⊢
  generalize hhs : fHeld J (J 27 0) = hs at hs16 k1 F3 ⊢
  -- the places
  have L3 : ∀ (flo : Option Nat), (flo = none ∨ ∃ a, a < 2 ∧ flo = some a) → flo = flF J hs h d fr to pe 2 → ∀ r k, k + r = nB J → ∀ mc ms S', Chg (MR ad [11]) S0 S' → FuO ad S' q p h d fr to hs (encO flo) (mvF J hs h d fr to flo) (plF J hs (mvF J hs h d fr to flo) h fr to flo k) → wx_X9_init_180 Q (r + 1) mc ms S' (some q) (some (ad 0)) (nI k) := by
    intro flo hfl hfe r
    have mv16 : mvF J hs h d fr to flo < 2 ^ 16 := by
      rcases hfl with w | ⟨a, a1, a2⟩
      · rw [w]; exact Nat.two_pow_pos 16
      · rw [a2]
        have := iwM_lt J hs h d fr to a (nB J)
        show iwM J hs h d fr to a (nB J) < _
        omega
    induction r with
    | zero =>
      intro k hk mc ms S' c F
      have : k = nB J := by omega
      subst this
      have g' := g.tu c
      unfold wx_X9_init_180
      simp only [dr_some, g'.k0, g'.r2, g'.bk.ls.1, g'.bk.ls.size, true_and]
      rw [if_pos (by grind)]
      rw [hfe] at F
      exact k1 S' p c F
    | succ r ih =>
      intro k hk mc ms S' c F
      have hk' : k < nB J := by omega
      have g' := g.tu c
      unfold wx_X9_init_180 wx_X9_init_232
      simp only [dr_some, g'.k0, g'.r2, g'.bk.ls.1, g'.bk.ls.size, true_and]
      rw [if_neg (by rw [nIq_le (by omega) (by omega)]; omega)]
      obtain ⟨a1, a2, a3, a4, a5, a6, a7, a8, a9, a10, a11, a12, a13⟩ := id F
      simp only [a1, a12, dr_some, g'.k0, g'.r2, g'.bk.ls.1, g'.bk.ls.get hk', g'.kb hk', true_and, nI_tInc]
      rw [nI_bit (by omega) (by omega)]
      have es : plF J hs (mvF J hs h d fr to flo) h fr to flo (k + 1) = if (mvF J hs h d fr to flo).testBit k = true then upd (plF J hs (mvF J hs h d fr to flo) h fr to flo k) k (pfF J hs (mvF J hs h d fr to flo) h fr to flo (plF J hs (mvF J hs h d fr to flo) h fr to flo k) k 8) else plF J hs (mvF J hs h d fr to flo) h fr to flo k := rfl
      by_cases z : (mvF J hs h d fr to flo).testBit k = true
      · rw [bI_t z, if_pos rfl]
        rw [if_pos z] at es
        have at_ : oB J k 0 = nI h ∧ oB J k 2 = d := by
          rcases hfl with w | ⟨a, b1, b2⟩
          · rw [w] at z
            rw [show mvF J hs h d fr to none = 0 from rfl, Nat.zero_testBit] at z
            cases z
          · rw [b2] at z
            have := ((iwM_bit J hs h d fr to a (nB J) k).mp z).2.2.1
            exact ⟨this.1, this.2.2⟩
        refine ex_placeFor g' hfl F hh hs16 mv16 hk' at_.1 at_.2 _ ?_
        simp only [a4, dr_some, a2, a3, p_vpn (show k < 16 by omega) (show 16 < 2 ^ 31 by decide), p_tn (show k < 2 ^ 31 by omega), true_and]
        refine ih (k + 1) (by omega) _ _ _ (c.sAI (Or.inl hp0) (some_ne a2)) ?_
        rw [es]
        exact F.setPl k _
      · rw [bI_f z, if_neg (by decide)]
        rw [if_neg z] at es
        refine ih (k + 1) (by omega) _ _ _ c ?_
        rw [es]
        exact F
  -- the floor
  have L2 : ∀ r f, f + r = 2 → ∀ mc ms S', Chg (MR ad [11]) S0 S' → FuO ad S' q p h d fr to hs (encO (flF J hs h d fr to pe f)) 0 (fun _ => -1000000) → wx_X9_init_85 Q (r + 1) mc ms S' (some q) (some (ad 0)) (nI h) pe (nI f) := by
    intro r
    induction r with
    | zero =>
      intro f hf mc ms S' c F
      have : f = 2 := by omega
      subst this
      have g' := g.tu c
      unfold wx_X9_init_85
      rw [if_pos (by decide)]
      simp only [dr_some, F.1, F.2.2.2.2.2.2.2.2.2.2.1, true_and]
      have hfl : flF J hs h d fr to pe 2 = none ∨ ∃ a, a < 2 ∧ flF J hs h d fr to pe 2 = some a := flF_in J hs h d fr to pe 2
      have go : wx_X9_init_174 Q mc ms S' (some q) (some (ad 0)) (some q) (nI (mvF J hs h d fr to (flF J hs h d fr to pe 2))) := by
        unfold wx_X9_init_174
        simp only [dr_some, F.1, true_and]
        exact ⟨nB J + 1, L3 _ hfl rfl (nB J) 0 (by omega) mc ms _ (c.sFI (Or.inl hq) (some_ne F.1)) (F.setMv _)⟩
      rcases hfl with w | ⟨a, a1, a2⟩
      · rw [w] at go ⊢
        rw [if_pos (show encO none = -1000000 from rfl)]
        exact go
      · rw [a2] at go F ⊢
        rw [if_neg (show ¬ encO (some a) = -1000000 from enc_ne (by omega))]
        exact ex_inWay g' F hh hs16 _ go
    | succ r ih =>
      intro f hf mc ms S' c F
      have g' := g.tu c
      have f2 : f < 2 := by omega
      obtain ⟨g0, g1⟩ := g'.ha h hh
      unfold wx_X9_init_85 wx_X9_init_140 wx_X9_init_146
      rw [if_neg (by show ¬ nI 2 ≤ nI f; rw [nIq_le (by omega) (by omega)]; omega)]
      simp only [dr_some, F.1, F.2.2.2.2.2.2.2.2.2.2.1, g'.k0, g'.r1, g'.k (show 2 ≤ 12 by decide), show kr 2 = 104 from rfl, g'.b.l2, p_vpn hh (show 4 < 2 ^ 31 by decide), p_tn (show h < 2 ^ 31 by omega), g0, g1.ka, g1.r4, g1.kf, g1.lf, p_vpn f2 (show 2 < 2 ^ 31 by decide), p_tn (show f < 2 ^ 31 by omega), g1.af f f2, true_and, nI_tInc]
      have es : flF J hs h d fr to pe (f + 1) = if pe ≤ J 6 (2 * h + f) ∧ (∀ a, flF J hs h d fr to pe f = some a → pcN (iwA J hs h d fr to f) 16 < pcN (iwA J hs h d fr to a) 16) then some f else flF J hs h d fr to pe f := rfl
      have keep : ¬ (pe ≤ J 6 (2 * h + f) ∧ (∀ a, flF J hs h d fr to pe f = some a → pcN (iwA J hs h d fr to f) 16 < pcN (iwA J hs h d fr to a) 16)) → wx_X9_init_85 Q (r + 1) mc ms S' (some q) (some (ad 0)) (nI h) pe (nI (f + 1)) := by
        intro hn
        refine ih (f + 1) (by omega) mc ms S' c ?_
        rw [es, if_neg hn]; exact F
      have take : (pe ≤ J 6 (2 * h + f) ∧ (∀ a, flF J hs h d fr to pe f = some a → pcN (iwA J hs h d fr to f) 16 < pcN (iwA J hs h d fr to a) 16)) → wx_X9_init_85 Q (r + 1) mc ms (sFI S' 805 q (nI f)) (some q) (some (ad 0)) (nI h) pe (nI (f + 1)) := by
        intro hn
        refine ih (f + 1) (by omega) mc ms _ (c.sFI (Or.inl hq) (some_ne F.1)) ?_
        rw [es, if_pos hn]; exact F.setFl (nI f)
      by_cases z1 : J 6 (2 * h + f) < pe
      · rw [if_pos z1]; exact keep (fun y => by have := y.1; grind)
      · rw [if_neg z1]
        have z1' : pe ≤ J 6 (2 * h + f) := by grind
        rcases flF_in J hs h d fr to pe f with w | ⟨a, a1, a2⟩
        · rw [if_pos (by rw [w]; rfl)]
          exact take ⟨z1', fun a e => by rw [w] at e; cases e⟩
        · rw [if_neg (show ¬ encO (flF J hs h d fr to pe f) = -1000000 by rw [a2]; exact enc_ne (by omega))]
          have l1 := iwM_lt J hs h d fr to f (nB J)
          have l2 := iwM_lt J hs h d fr to a (nB J)
          have b1 : bcF (nI (iwA J hs h d fr to f)) = nI (pcN (iwA J hs h d fr to f) 16) := bc_pc (show iwM J hs h d fr to f (nB J) < 2 ^ 16 by omega)
          have b2 : bcF (nI (iwA J hs h d fr to a)) = nI (pcN (iwA J hs h d fr to a) 16) := bc_pc (show iwM J hs h d fr to a (nB J) < 2 ^ 16 by omega)
          have pl1 := pcN_le (iwA J hs h d fr to f) 16
          have pl2 := pcN_le (iwA J hs h d fr to a) 16
          refine ex_inWay g' F hh hs16 _ ?_
          rw [ex_bc, b1]
          refine ⟨F.1, ?_⟩
          rw [F.2.2.2.2.2.2.2.2.2.2.1, a2]
          refine ex_inWay (f := a) g' F hh hs16 _ ?_
          rw [ex_bc, b2]
          by_cases z2 : pcN (iwA J hs h d fr to f) 16 < pcN (iwA J hs h d fr to a) 16
          · rw [if_neg (by rw [nIq_le (by omega) (by omega)]; omega)]
            exact ⟨F.1, take ⟨z1', fun a' e => by rw [a2] at e; cases e; exact z2⟩⟩
          · rw [if_pos (by rw [nIq_le (by omega) (by omega)]; omega)]
            exact keep (fun y => z2 (y.2 a a2))
  -- no place yet
  have L1 : ∀ r i, i + r = 16 → ∀ mc ms S', Chg (MR ad [11]) S0 S' → FuO ad S' q p h d fr to hs (encO none) 0 (fun j => if j < i then -1000000 else 0) → wx_X9_init_60 Q (r + 1) mc ms S' (some q) (some (ad 0)) (nI h) pe (nI i) := by
    intro r
    induction r with
    | zero =>
      intro i hi mc ms S' c F
      have : i = 16 := by omega
      subst this
      unfold wx_X9_init_60
      rw [if_pos (by decide)]
      exact ⟨3, L2 2 0 rfl mc ms S' c (F.pls (fun j hj => if_pos hj))⟩
    | succ r ih =>
      intro i hi mc ms S' c F
      unfold wx_X9_init_60
      rw [if_neg (by show ¬ nI 16 ≤ nI i; rw [nIq_le (by omega) (by omega)]; omega)]
      simp only [dr_some, F.1, F.2.2.2.1, F.2.1, F.2.2.1, p_vpn (show i < 16 by omega) (show 16 < 2 ^ 31 by decide), p_tn (show i < 2 ^ 31 by omega), true_and, nI_tInc]
      refine ih (i + 1) (by omega) mc ms _ (c.sAI (Or.inl hp0) (some_ne F.2.1)) ((F.setPl i _).pls (fun j hj => ?_))
      unfold upd
      by_cases z : j = i
      · rw [if_pos z, if_pos (by omega)]
      · rw [if_neg z]
        show (if j < i then (-1000000 : Int32) else 0) = _
        by_cases y : j < i
        · rw [if_pos y, if_pos (by omega)]
        · rw [if_neg y, if_neg (by omega)]
  exact ⟨17, L1 16 0 rfl _ _ S4 c4 (F3.pls (fun j _ => by rw [if_neg (Nat.not_lt_zero j)]))⟩
theorem ex_lost (F : FuO ad S q p h d fr to hs fl mv pl) (mv16 : mv < 2 ^ 16) (Q : Int32 → XS → Prop) (k1 : Q (loS mv pl 16) S) : wx_X9_lost Q S (some q) := by
  have L : ∀ r k, k + r = 16 → wx_X9_lost_4 Q (r + 1) S (some q) (loS mv pl k) (nI k) := by
    intro r
    induction r with
    | zero =>
      intro k hk
      have : k = 16 := by omega
      subst this
      unfold wx_X9_lost_4
      rw [if_pos (by decide)]
      exact k1
    | succ r ih =>
      intro k hk
      have ih' := ih (k + 1) (by omega)
      obtain ⟨a1, a2, a3, a4, a5, a6, a7, a8, a9, a10, a11, a12, a13⟩ := F
      unfold wx_X9_lost_4 wx_X9_lost_38 wx_X9_lost_39
      rw [if_neg (by show ¬ nI 16 ≤ nI k; rw [nIq_le (by omega) (by omega)]; omega)]
      simp only [dr_some, a1, a12, a4, a2, a3, p_vpn (show k < 16 by omega) (show 16 < 2 ^ 31 by decide), p_tn (show k < 2 ^ 31 by omega), a13 k (by omega), true_and, nI_tInc]
      rw [nI_bit (by omega) (by omega)]
      unfold loS at ih'
      by_cases z1 : mv.testBit k = true
      · rw [bI_t z1, if_pos rfl]
        by_cases z2 : pl k = -1000000
        · rw [if_pos z2]; rw [if_pos ⟨z1, z2⟩] at ih'; exact ih'
        · rw [if_neg z2]; rw [if_neg (fun y => z2 y.2)] at ih'; exact ih'
      · rw [bI_f z1, if_neg (by decide)]; rw [if_neg (fun y => z1 y.1)] at ih'; exact ih'
  exact ⟨17, L 16 0 rfl⟩
end
