/-! PLAIN SIDE 11: meetings told -/
section
variable {J : MS} {S : XS} {x : Nat}
theorem p_subB {a b : Int32} (ha : 0 ≤ a.toInt ∧ a.toInt ≤ 1000) (hb : 0 ≤ b.toInt ∧ b.toInt ≤ 1000) : (a - b).toInt = a.toInt - b.toInt := by
  rw [Int32.toInt_sub, Int.bmod_eq_of_le] <;> omega
theorem p_addB {a b : Int32} (ha : -1000000 ≤ a.toInt ∧ a.toInt ≤ 1000000) (hb : -1000000 ≤ b.toInt ∧ b.toInt ≤ 1000000) : (a + b).toInt = a.toInt + b.toInt := by
  rw [Int32.toInt_add, Int.bmod_eq_of_le] <;> omega
theorem meet_fresh {S : XS} {q : Nat} (hcl : xClean S) (hq : xKD S q = none) (v0 v1 v2 v3 v4 : Int32) : Chg (fun _ => False) S (sFI (sFI (sFI (sFI (sFI (sNew S q 10) 1000 q v0) 1001 q v1) 1002 q v2) 1003 q v3) 1004 q v4) := by
  have k : xKD (sNew S q 10) q = some 10 := by simp [xSall]
  exact ((((((Chg.refl hcl).sNew hq).sFI (Or.inl hq) (some_ne k)).sFI (Or.inl hq) (some_ne k)).sFI (Or.inl hq) (some_ne k)).sFI (Or.inl hq) (some_ne k)).sFI (Or.inl hq) (some_ne k)
theorem op_meeting (h : XR x J S) {mc ms : Nat} (hc : 100 ≤ mc) (hm : 1000 ≤ ms) (a b c d e : Int32) : wx_X0_meeting (fun r S1 => wm_meeting (fun r2 J1 => Ans x r S1 r2 J1) J a b c d e) mc ms S (some x) a b c d e := by
  obtain ⟨ad, rfl, h⟩ := h
  have g := h.m0
  generalize hJ : mset J 0 0 0 = J0 at g
  have l4 := g.me
  obtain ⟨n1, n2⟩ := g.ji.nm
  obtain ⟨L, l, hl⟩ := id l4
  have nm1 : (nI (nM J0) - 1).toInt = (nM J0 : Int) - 1 := by
    rw [p_sub1 (by rw [p_nI (by omega)]; omega), p_nI (by omega)]
  have em : ∀ Q : Int32 → MS → Prop, wm_meeting Q J a b c d e = if (1 ≤ a.toInt ∧ a.toInt ≤ 99) then (if 0 ≤ b.toInt ∧ b.toInt ≤ 99 then (if 0 ≤ c.toInt ∧ c.toInt ≤ 99 then (if a < b + c then Q (-1000001) J0 else if 0 ≤ d.toInt ∧ d.toInt ≤ 99 then (if e = -1000000 ∨ (0 ≤ e.toInt ∧ e.toInt < nM J0) then (if nM J0 = 10 then Q (-1000003) J0 else Q (nI (nM J0)) (mset (mset (mset (mset (mset (mset J0 47 (nM J0) a) 48 (nM J0) b) 49 (nM J0) c) 50 (nM J0) d) 51 (nM J0) e) 46 0 (nI (nM J0 + 1)))) else Q (-1000001) J0) else Q (-1000001) J0) else Q (-1000001) J0) else Q (-1000001) J0) else Q (-1000001) J0 := by
    intro Q
    have e88 : wm_meeting_88 Q J0 a b c d e = (if nM J0 = 10 then Q (-1000003) J0 else Q (nI (nM J0)) (mset (mset (mset (mset (mset (mset J0 47 (nM J0) a) 48 (nM J0) b) 49 (nM J0) c) 50 (nM J0) d) 51 (nM J0) e) 46 0 (nI (nM J0 + 1)))) := by
      unfold wm_meeting_88
      simp only [ms_ne (show 46 ≠ 47 by decide), ms_ne (show 46 ≠ 48 by decide), ms_ne (show 46 ≠ 49 by decide), ms_ne (show 46 ≠ 50 by decide), ms_ne (show 46 ≠ 51 by decide), ms_eq, if_true, n1, p_tn (show nM J0 < 2 ^ 31 by omega), nI_tInc]
      by_cases z : nM J0 = 10
      · simp only [if_pos z, if_pos (show nI (nM J0) = (10 : Int32) by rw [z]; rfl)]
      · have v := p_vpn (show nM J0 < 10 by omega) (by decide)
        have e1 : nI (nM J0 + 1) - 1 = nI (nM J0) := by
          have : nI (nM J0 + 1) - nI 1 = nI (nM J0 + 1 - 1) := nI_s (by omega)
          exact this
        simp only [if_neg z, if_neg (show ¬ nI (nM J0) = (10 : Int32) from nI_ne (b := 10) (by omega) (by decide) z), v, true_and, e1]
    unfold wm_meeting
    rw [hJ]
    simp only [em_in, bI_ite, Int32.toInt_toInt64, Int64.reduceToInt, n1, nm1, e88]
    by_cases z : e = -1000000
    · simp only [if_pos z, if_pos (show e = -1000000 ∨ (0 ≤ e.toInt ∧ e.toInt < nM J0) from Or.inl z)]
    · by_cases z2 : 0 ≤ e.toInt ∧ e.toInt < nM J0
      · simp only [if_neg z, if_pos (show e = -1000000 ∨ (0 ≤ e.toInt ∧ e.toInt < nM J0) from Or.inr z2), if_pos (show 0 ≤ e.toInt ∧ e.toInt ≤ (nM J0 : Int) - 1 by omega)]
      · simp only [if_neg z, if_neg (show ¬ (e = -1000000 ∨ (0 ≤ e.toInt ∧ e.toInt < nM J0)) from fun w => w.elim z z2), if_neg (show ¬ (0 ≤ e.toInt ∧ e.toInt ≤ (nM J0 : Int) - 1) by omega)]
  have e68 : (1 ≤ a.toInt ∧ a.toInt ≤ 99) → (0 ≤ b.toInt ∧ b.toInt ≤ 99) → (0 ≤ c.toInt ∧ c.toInt ≤ 99) → (0 ≤ d.toInt ∧ d.toInt ≤ 99) → (e = -1000000 ∨ (0 ≤ e.toInt ∧ e.toInt < nM J0)) → wx_X0_meeting_68 (fun r S1 => if nM J0 = 10 then Ans (ad 0) r S1 (-1000003) J0 else Ans (ad 0) r S1 (nI (nM J0)) (mset (mset (mset (mset (mset (mset J0 47 (nM J0) a) 48 (nM J0) b) 49 (nM J0) c) 50 (nM J0) d) 51 (nM J0) e) 46 0 (nI (nM J0 + 1)))) mc ms S (some (ad 0)) a b c d e := by
    intro qa qb qc qd qe
    unfold wx_X0_meeting_68
    simp only [dr_some, g.k0, g.r6, l.1, l.size, true_and]
    by_cases z : nM J0 = 10
    · simp only [if_pos z, if_pos (show nI (nM J0) = (10 : Int32) by rw [z]; rfl)]
      exact ⟨rfl, ad, rfl, g⟩
    · simp only [if_neg z, if_neg (show ¬ nI (nM J0) = (10 : Int32) from nI_ne (b := 10) (by omega) (by decide) z)]
      refine ⟨by omega, by omega, fun q hq => ?_⟩
      unfold wx_X11_init
      have o : ∀ k, k ∉ [46, 47, 48, 49, 50, 51] → mset (mset (mset (mset (mset (mset J0 47 (nM J0) a) 48 (nM J0) b) 49 (nM J0) c) 50 (nM J0) d) 51 (nM J0) e) 46 0 (nI (nM J0 + 1)) k = J0 k := by
        intro k hk
        simp [xSall] at hk
        rw [ms_ne hk.1, ms_ne hk.2.2.2.2.2, ms_ne hk.2.2.2.2.1, ms_ne hk.2.2.2.1, ms_ne hk.2.2.1, ms_ne hk.2.1]
      have e46 : mset (mset (mset (mset (mset (mset J0 47 (nM J0) a) 48 (nM J0) b) 49 (nM J0) c) 50 (nM J0) d) 51 (nM J0) e) 46 0 (nI (nM J0 + 1)) 46 0 = nI (nM J0 + 1) := by rw [ms_eq, if_pos rfl]
      have e47 : ∀ i, mset (mset (mset (mset (mset (mset J0 47 (nM J0) a) 48 (nM J0) b) 49 (nM J0) c) 50 (nM J0) d) 51 (nM J0) e) 46 0 (nI (nM J0 + 1)) 47 i = if i = nM J0 then a else J0 47 i := by intro i; rw [ms_ne (by decide), ms_ne (by decide), ms_ne (by decide), ms_ne (by decide), ms_ne (by decide), ms_eq]
      have e48 : ∀ i, mset (mset (mset (mset (mset (mset J0 47 (nM J0) a) 48 (nM J0) b) 49 (nM J0) c) 50 (nM J0) d) 51 (nM J0) e) 46 0 (nI (nM J0 + 1)) 48 i = if i = nM J0 then b else J0 48 i := by intro i; rw [ms_ne (by decide), ms_ne (by decide), ms_ne (by decide), ms_ne (by decide), ms_eq, ms_ne (by decide)]
      have e49 : ∀ i, mset (mset (mset (mset (mset (mset J0 47 (nM J0) a) 48 (nM J0) b) 49 (nM J0) c) 50 (nM J0) d) 51 (nM J0) e) 46 0 (nI (nM J0 + 1)) 49 i = if i = nM J0 then c else J0 49 i := by intro i; rw [ms_ne (by decide), ms_ne (by decide), ms_ne (by decide), ms_eq, ms_ne (by decide), ms_ne (by decide)]
      have e50 : ∀ i, mset (mset (mset (mset (mset (mset J0 47 (nM J0) a) 48 (nM J0) b) 49 (nM J0) c) 50 (nM J0) d) 51 (nM J0) e) 46 0 (nI (nM J0 + 1)) 50 i = if i = nM J0 then d else J0 50 i := by intro i; rw [ms_ne (by decide), ms_ne (by decide), ms_eq, ms_ne (by decide), ms_ne (by decide), ms_ne (by decide)]
      have e51 : ∀ i, mset (mset (mset (mset (mset (mset J0 47 (nM J0) a) 48 (nM J0) b) 49 (nM J0) c) 50 (nM J0) d) 51 (nM J0) e) 46 0 (nI (nM J0 + 1)) 51 i = if i = nM J0 then e else J0 51 i := by intro i; rw [ms_ne (by decide), ms_eq, ms_ne (by decide), ms_ne (by decide), ms_ne (by decide), ms_ne (by decide)]
      generalize mset (mset (mset (mset (mset (mset J0 47 (nM J0) a) 48 (nM J0) b) 49 (nM J0) c) 50 (nM J0) d) 51 (nM J0) e) 46 0 (nI (nM J0 + 1)) = J' at o e46 e47 e48 e49 e50 e51 ⊢
      have hn : nM J' = nM J0 + 1 := by
        show (J' 46 0).toNatClampNeg = _
        rw [e46, p_tn (by omega)]
      have c1 := meet_fresh g.b.cl hq a b c d e
      have kq : xKD (sFI (sFI (sFI (sFI (sFI (sNew S q 10) 1000 q a) 1001 q b) 1002 q c) 1003 q d) 1004 q e) q = some 10 := by simp [xSall]
      have f0 : ∀ i, i < 5 → xFI (sFI (sFI (sFI (sFI (sFI (sNew S q 10) 1000 q a) 1001 q b) 1002 q c) 1003 q d) 1004 q e) (1000 + i) q = J' (47 + i) (nM J0) := by
        intro i hi
        have : i = 0 ∨ i = 1 ∨ i = 2 ∨ i = 3 ∨ i = 4 := by omega
        rcases this with rfl | rfl | rfl | rfl | rfl
        · rw [e47, if_pos rfl]; simp [xSall]
        · rw [e48, if_pos rfl]; simp [xSall]
        · rw [e49, if_pos rfl]; simp [xSall]
        · rw [e50, if_pos rfl]; simp [xSall]
        · rw [e51, if_pos rfl]; simp [xSall]
      have hk := some_ne (g.k (show 7 ≤ 12 by decide))
      simp only [dr_some, xKD_sNew, if_true, true_and]
      generalize sFI (sFI (sFI (sFI (sFI (sNew S q 10) 1000 q a) 1001 q b) 1002 q c) 1003 q d) 1004 q e = S1 at c1 kq f0 ⊢
      have l1 : LiS S1 (ad 7) (nM J0) L := l.kept c1 (fun z => z) (fun _ _ z => z)
      refine ⟨l1.1, 1, 400, by omega, by omega, ?_⟩
      refine l1.add c1.cl (fun i hi => Or.inr (Or.inr ?_)) (by omega) (Or.inr (Or.inr kq)) (Nat.le_refl _) (Nat.le_refl _) _ (fun S' l' c2 ee => ?_)
      · rw [c1.kd _ (some_ne (hl i hi).1)]
        exact (hl i hi).1
      have cc : Chg (LM S (ad 7)) S S' := (c1.mono (fun _ _ z => z.elim)).trans c2 (fun a ha z => LM.of c1 hk (fun z => z) z)
      have hR : ∀ r ∈ [7], lv (J0 9) (nB J0) r := by intro r hr; simp [xSall] at hr; exact lv_f (by omega)
      have off := Off.list g (i := 7) (by omega) (by omega) hR (by simp [xSall])
      have cM : Chg (fun q => MR ad [7] q ∨ LM S (ad 7) q) S S' := cc.mono (fun _ _ z => Or.inr z)
      have e' : ∀ e, xFR S' 1600 (ad 7) = some e → xFR S 1600 (ad 7) = some e ∨ xKD S e = none := by
        intro b hb
        rcases ee b hb with z | z
        · left; rw [c1.fr _ hk (fun z => z)] at z; exact z
        · right; exact c1.fresh z
      have nK : ∀ k, (k < 46 ∨ 51 < k) → k ∉ [46, 47, 48, 49, 50, 51] := fun k hk z => by simp [xSall] at z; omega
      have XAn : XA ad J' S' := by
        refine g.gen (K := fun k => k ∈ [46, 47, 48, 49, 50, 51]) (R := fun r => r ∈ [7]) cM off (fun _ _ => rfl) o ?_
          ((g.b.kept cc).cong (o 9 (nK 9 (by decide))) (by unfold nB; rw [o 24 (nK 24 (by decide))]))
          (Or.inr (by rw [o 13 (nK 13 (by decide)), o 14 (nK 14 (by decide)), o 27 (nK 27 (by decide)), o 1 (nK 1 (by decide))]; exact g.f.kept cM (some_ne g.k0) (off.live 0 (lv_f (by decide)) (by simp [xSall])))) (Or.inl ⟨by simp [xSall], by simp [xSall]; omega, nK _ (by decide), nK _ (by decide), nK _ (by decide)⟩) (Or.inl ⟨by simp [xSall], by simp [xSall]; omega, fun k h2 h8 => nK k (by omega)⟩) (Or.inl ⟨by simp [xSall], nK _ (by decide), nK _ (by decide)⟩)
          (Or.inl ⟨by simp [xSall], by simp [xSall]; omega, nK _ (by decide), nK _ (by decide), nK _ (by decide)⟩) (Or.inl ⟨by simp [xSall], fun k h2 h8 => nK k (by omega)⟩) (Or.inl ⟨by simp [xSall], fun k h2 h8 => nK k (by omega)⟩) (Or.inl ⟨by simp [xSall], fun k h2 h8 => nK k (by omega)⟩) (Or.inr ?_)
          (Or.inl ⟨by simp [xSall], by simp [xSall], nK _ (by decide), nK _ (by decide)⟩) (Or.inr (BBk.grow g (by omega) (by omega) cc (fun l l3 l7 hl z => off.live l (lv_f (by omega)) (by simpa [xSall] using hl) (Or.inr z)) e'))
        · have qJI := g.ji.cong (J' := fun k => if 46 ≤ k ∧ k ≤ 51 then J0 k else J' k) (fun k hk => by
              by_cases z : 46 ≤ k ∧ k ≤ 51
              · rw [if_pos z]
              · rw [if_neg z]; exact o k (nK k (by omega)))
          refine ⟨qJI.nb, qJI.nc, qJI.ng, qJI.nl, (⟨by rw [e46, hn], by omega⟩), qJI.row, qJI.can, qJI.hal, qJI.she, qJI.tap, qJI.coi, qJI.giv, qJI.loo, (fun k hk => ?_), qJI.day, qJI.tra⟩
          rw [hn] at hk
          rw [e47, e48, e49, e50, e51]
          by_cases zk : k = nM J0
          · simp only [if_pos zk]
            refine ⟨qa, qb, qc, qd, ?_⟩
            rcases qe with w | w
            · exact Or.inl w
            · obtain ⟨j, j1, j2⟩ := p_ex w.1 w.2
              exact Or.inr ⟨j, by omega, j2⟩
          · simp only [if_neg zk]
            exact g.ji.mee k (by omega)
        · rw [hn]
          refine ⟨_, l', fun k hk => ?_⟩
          by_cases zk : k = nM J0
          · subst zk
            simp only [if_true]
            have nq : ¬ LM S1 (ad 7) q := by
              obtain ⟨-, e9, g1, g2, -⟩ := id l1
              rintro (w | ⟨w, -⟩)
              · rw [w, l1.1] at kq; cases kq
              · rw [g1] at w; rw [← Option.some.inj w, g2] at kq; cases kq
            exact ⟨(c2.kd q (some_ne kq)).trans kq, fun i hi => (c2.fi q (some_ne kq) nq _).trans (f0 i hi)⟩
          · simp only [if_neg zk]
            obtain ⟨w1, w2⟩ := hl k (by omega)
            have nq : ¬ LM S (ad 7) (L k) := by
              obtain ⟨-, e9, g1, g2, -⟩ := id l
              rintro (w | ⟨w, -⟩)
              · rw [w, l.1] at w1; cases w1
              · rw [g1] at w; rw [← Option.some.inj w, g2] at w1; cases w1
            refine ⟨(cc.kd _ (some_ne w1)).trans w1, fun i hi => ?_⟩
            rw [cc.fi _ (some_ne w1) nq, w2 i hi]
            have : i = 0 ∨ i = 1 ∨ i = 2 ∨ i = 3 ∨ i = 4 := by omega
            rcases this with rfl | rfl | rfl | rfl | rfl
            · exact ((e47 k).trans (if_neg zk)).symm
            · exact ((e48 k).trans (if_neg zk)).symm
            · exact ((e49 k).trans (if_neg zk)).symm
            · exact ((e50 k).trans (if_neg zk)).symm
            · exact ((e51 k).trans (if_neg zk)).symm
      have e1 : nI (nM J0 + 1) - 1 = nI (nM J0) := by
        have : nI (nM J0 + 1) - nI 1 = nI (nM J0 + 1 - 1) := nI_s (by omega)
        exact this
      simp only [XAn.k0, XAn.r6, dr_some, true_and, l'.1, l'.size, e1]
      exact ⟨rfl, ad, rfl, XAn⟩
  unfold wx_X0_meeting wx_X0_isMeeting
  simp only [ex_in, bI_ite, Int32.toInt_toInt64, Int64.reduceToInt, dr_some, g.k0, g.r6, l.1, l.size, true_and, bI_nar, nm1, em]
  by_cases qa : 1 ≤ a.toInt ∧ a.toInt ≤ 99
  · simp only [if_pos qa]
    by_cases qb : 0 ≤ b.toInt ∧ b.toInt ≤ a.toInt
    · have qb' : 0 ≤ b.toInt ∧ b.toInt ≤ 99 := by omega
      simp only [if_pos qb, if_pos qb']
      have eab : (a - b).toInt = a.toInt - b.toInt := p_subB (by omega) (by omega)
      by_cases qc : 0 ≤ c.toInt ∧ c.toInt ≤ (a - b).toInt
      · have qc' : 0 ≤ c.toInt ∧ c.toInt ≤ 99 := by omega
        have qq : ¬ a < b + c := by rw [p_lt, p_addB (by omega) (by omega)]; omega
        simp only [if_pos qc, if_pos qc', if_neg qq]
        by_cases qd : 0 ≤ d.toInt ∧ d.toInt ≤ 99
        · simp only [if_pos qd]
          by_cases qe : e = -1000000
          · simp only [if_pos qe, if_pos (show e = -1000000 ∨ (0 ≤ e.toInt ∧ e.toInt < nM J0) from Or.inl qe)]
            exact e68 qa qb' qc' qd (Or.inl qe)
          · by_cases qf : 0 ≤ e.toInt ∧ e.toInt < nM J0
            · simp only [if_neg qe, if_pos (show e = -1000000 ∨ (0 ≤ e.toInt ∧ e.toInt < nM J0) from Or.inr qf), if_pos (show 0 ≤ e.toInt ∧ e.toInt ≤ (nM J0 : Int) - 1 by omega)]
              exact e68 qa qb' qc' qd (Or.inr qf)
            · simp only [if_neg qe, if_neg (show ¬ (e = -1000000 ∨ (0 ≤ e.toInt ∧ e.toInt < nM J0)) from fun w => w.elim qe qf), if_neg (show ¬ (0 ≤ e.toInt ∧ e.toInt ≤ (nM J0 : Int) - 1) by omega)]
              exact ⟨rfl, ad, rfl, g⟩
        · simp only [if_neg qd]
          exact ⟨rfl, ad, rfl, g⟩
      · simp only [if_neg qc]
        by_cases qc' : 0 ≤ c.toInt ∧ c.toInt ≤ 99
        · have qq : a < b + c := by rw [p_lt, p_addB (by omega) (by omega)]; omega
          simp only [if_pos qc', if_pos qq]
          exact ⟨rfl, ad, rfl, g⟩
        · simp only [if_neg qc']
          exact ⟨rfl, ad, rfl, g⟩
    · simp only [if_neg qb]
      by_cases qb' : 0 ≤ b.toInt ∧ b.toInt ≤ 99
      · simp only [if_pos qb']
        by_cases qc' : 0 ≤ c.toInt ∧ c.toInt ≤ 99
        · have qq : a < b + c := by rw [p_lt, p_addB (by omega) (by omega)]; omega
          simp only [if_pos qc', if_pos qq]
          exact ⟨rfl, ad, rfl, g⟩
        · simp only [if_neg qc']
          exact ⟨rfl, ad, rfl, g⟩
      · simp only [if_neg qb']
        exact ⟨rfl, ad, rfl, g⟩
  · simp only [if_neg qa]
    exact ⟨rfl, ad, rfl, g⟩
end
