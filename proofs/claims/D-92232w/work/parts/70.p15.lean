/-! PLAIN SIDE 15: feed -/
theorem by_and (x : Int32) : 0 ≤ (x &&& 255).toInt ∧ (x &&& 255).toInt ≤ 255 := by
  have h : (x &&& 255).toBitVec.toNat ≤ 255 := by
    rw [Int32.toBitVec_and, BitVec.toNat_and]
    exact Nat.and_le_right
  have e : (x &&& 255).toInt = (x &&& 255).toBitVec.toInt := rfl
  rw [e, BitVec.toInt_eq_toNat_of_lt (by omega)]
  omega
theorem by_byte (v : Int64) : vp_nar .byte (Int8.toInt32 (Int32.toInt8 (Int64.toInt32 v))) = ((Int64.toInt32 (v &&& 255)).toInt8).toInt32 := by
  have e : vp_nar .byte (Int8.toInt32 (Int32.toInt8 (Int64.toInt32 v))) = (Int8.toInt32 (Int32.toInt8 (Int64.toInt32 v))).toInt8.toInt32 := rfl
  have m : (255 : Int64).toInt8 = -1 := by decide
  rw [e, Int64.toInt8_toInt32, Int64.toInt8_toInt32, Int8.toInt8_toInt32, Int64.toInt8_and, m, Int8.and_neg_one]
theorem by_val (v : Int64) : 0 ≤ (Int64.toInt32 (v &&& 255)).toInt ∧ (Int64.toInt32 (v &&& 255)).toInt ≤ 255 := by
  have m : (255 : Int64).toInt32 = 255 := by decide
  rw [Int64.toInt32_and, m]
  exact by_and _
def fdV (w : Int64) (a : Int32) : Int32 := Int64.toInt32 ((w >>> (Int32.toInt64 ((8 : Int32) * a) &&& 63)) &&& (255 : Int64))
def fdJ (J : MS) (w : Int64) (a : Int32) : MS := mset (mset J 12 (J 13 0).toNatClampNeg (fdV w a)) 13 0 (J 13 0 + 1)
def fdAll (w : Int64) : Nat → MS → MS
  | 0, J => J
  | m + 1, J => fdAll w m (fdJ J w (nI m))
section
variable {ad : Nat → Nat} {J J' : MS} {S S4 : XS} {x : Nat}
theorem p_inc {v : Int32} (h : 0 ≤ v.toInt ∧ v.toInt ≤ 100000) : (v + 1).toInt = v.toInt + 1 := by
  have : (1 : Int32).toInt = 1 := rfl
  rw [Int32.toInt_add, this, Int.bmod_eq_of_le] <;> omega
theorem XA.feed (g : XA ad J S) (ht : (J 13 0).toInt < 400) (w : Int64) (a : Int32) : XA ad (fdJ J w a) (sAI (sFI S 8 (ad 0) (J 13 0 + 1)) (ad 8) (J 13 0).toNatClampNeg (vp_nar .byte (Int8.toInt32 (Int32.toInt8 (Int64.toInt32 (w >>> (Int32.toInt64 ((8 : Int32) * a) &&& 63))))))) := by
  obtain ⟨⟨t0, t1⟩, t2⟩ := g.ji.tap
  have k8 : xKD S (ad 8) = some 101 := g.k (by decide)
  have hR : ∀ r ∈ [0, 8], lv (J 9) (nB J) r := by intro r hr; simp [xSall] at hr; exact lv_f (by omega)
  have off := Off.roles g hR
  rw [by_byte]
  have c : Chg (MR ad [0, 8]) S (sAI (sFI S 8 (ad 0) (J 13 0 + 1)) (ad 8) (J 13 0).toNatClampNeg (Int8.toInt32 (Int32.toInt8 (fdV w a)))) := ((Chg.refl g.b.cl).sFI (Or.inr ⟨0, by simp [xSall], rfl⟩) (some_ne g.k0)).sAI (Or.inr ⟨8, by simp [xSall], rfl⟩) (some_ne k8)
  have o : ∀ k, k ∉ [12, 13] → fdJ J w a k = J k := by
    intro k hk; simp [xSall] at hk; unfold fdJ; rw [ms_ne hk.2, ms_ne hk.1]
  have e13 : fdJ J w a 13 0 = J 13 0 + 1 := by unfold fdJ; rw [ms_eq, if_pos rfl]
  have e12 : ∀ i, fdJ J w a 12 i = if i = (J 13 0).toNatClampNeg then fdV w a else J 12 i := by intro i; unfold fdJ; rw [ms_ne (by decide), ms_eq]
  have hv := by_val (w >>> (Int32.toInt64 ((8 : Int32) * a) &&& 63))
  have hi := p_inc (v := J 13 0) (by omega)
  have ctn : ((J 13 0).toNatClampNeg : Int) = (J 13 0).toInt := by rw [p_clamp]; omega
  generalize hJ' : fdJ J w a = J' at o e13 e12 ⊢
  have hnB : nB J' = nB J := by unfold nB; rw [o 24 (by simp [xSall])]
  refine g.gen (K := fun k => k ∈ [12, 13]) (R := fun r => r ∈ [0, 8]) c off (fun _ _ => rfl) o ?_ ?_ (Or.inr ?_) (Or.inl ⟨by simp [xSall], by simp [xSall]; omega, by simp [xSall], by simp [xSall], by simp [xSall]⟩) (Or.inl ⟨by simp [xSall], by simp [xSall]; omega, by intro k h1 h2; simp [xSall]; omega⟩)
    (Or.inr ?_) (Or.inl ⟨by simp [xSall], by simp [xSall]; omega, by simp [xSall], by simp [xSall], by simp [xSall]⟩) (Or.inl ⟨by simp [xSall], by simp [xSall]; omega⟩) (Or.inl ⟨by simp [xSall], by simp [xSall]; omega⟩) (Or.inl ⟨by simp [xSall], by simp [xSall]; omega⟩) (Or.inl ⟨by simp [xSall], by simp [xSall]; omega⟩) (Or.inl ⟨by simp [xSall], by simp [xSall], by simp [xSall], by simp [xSall]⟩) (Or.inl (by simp [xSall]; omega))
  · have qJI := g.ji.cong (J' := fun k => if k = 12 then J 12 else if k = 13 then J 13 else J' k) (fun k hk => by
        by_cases z : k = 12
        · rw [if_pos z, z]
        · rw [if_neg z]
          by_cases z2 : k = 13
          · rw [if_pos z2, z2]
          · rw [if_neg z2]; exact o k (by simp [xSall]; omega))
    refine ⟨qJI.nb, qJI.nc, qJI.ng, qJI.nl, qJI.nm, qJI.row, qJI.can, qJI.hal, qJI.she, (⟨by rw [e13, hi]; omega, fun i h => ?_⟩), qJI.coi, qJI.giv, qJI.loo, qJI.mee, qJI.day, qJI.tra⟩
    rw [e13, hi] at h
    rw [e12]
    by_cases z : i = (J 13 0).toNatClampNeg
    · rw [if_pos z]; exact hv
    · rw [if_neg z]; exact t2 i (by omega)
  · exact (g.b.kept c).cong (o 9 (by simp [xSall])) hnB
  · rw [e13, o 14 (by simp [xSall]), o 27 (by simp [xSall]), o 1 (by simp [xSall])]
    exact ⟨g.f.r, g.f.r11, g.f.r13, g.f.r14, by simp [xSall], by simpa [xSall] using g.f.i9, by simpa [xSall] using g.f.i10, by simpa [xSall] using g.f.i12⟩
  · intro i h
    rw [e13, hi] at h
    rw [xAI_sAI, if_pos rfl, e12]
    unfold upd
    by_cases z : i = (J 13 0).toNatClampNeg
    · rw [if_pos z, if_pos z]; rfl
    · rw [if_neg z, if_neg z]
      exact g.tp i (by omega)
theorem fd_13 (w : Int64) : ∀ (m : Nat) (J : MS), 0 ≤ (J 13 0).toInt → (J 13 0).toInt + m ≤ 400 → (fdAll w m J 13 0).toInt = (J 13 0).toInt + m := by
  intro m
  induction m with
  | zero => intro J _ _; show (J 13 0).toInt = _; omega
  | succ m ih =>
    intro J h0 h
    have e : (fdJ J w (nI m) 13 0).toInt = (J 13 0).toInt + 1 := by
      unfold fdJ; rw [ms_eq, if_pos rfl, p_inc (by omega)]
    show (fdAll w m (fdJ J w (nI m)) 13 0).toInt = _
    rw [ih _ (by omega) (by omega), e]
    omega
theorem ex_feed (Q : Int32 → XS → Prop) (w : Int64) : ∀ (m : Nat) (J : MS) (S : XS), XA ad J S → (J 13 0).toInt + m ≤ 400 → (∀ S', XA ad (fdAll w m J) S' → Q (fdAll w m J 13 0) S') → wx_X0_feed_35 Q (m + 1) S (some (ad 0)) w (nI m - 1) := by
  intro m
  induction m with
  | zero =>
    intro J S g _ k
    unfold wx_X0_feed_35
    rw [if_pos (by decide)]
    simp only [dr_some, g.k0, true_and, g.f.i8]
    exact k S g
  | succ m ih =>
    intro J S g h k
    have e1 : nI (m + 1) - 1 = nI m := by
      have : nI (m + 1) - nI 1 = nI (m + 1 - 1) := nI_s (by omega)
      exact this
    obtain ⟨⟨t0, t1⟩, t2⟩ := g.ji.tap
    have k8 : xKD S (ad 8) = some 101 := g.k (by decide)
    have r8 : xRO S (ad 8) = false := g.b.ro 8 (lv_f (by decide))
    unfold wx_X0_feed_35
    rw [e1, if_neg (nI_nn (by omega))]
    have e2 : nI m + (-1 : Int32) = nI m - 1 := by grind
    simp only [dr_some, g.k0, true_and, g.f.i8, g.r7, xKD_sFI, k8, xRO_sFI, r8, xLN_sFI, g.b.l8, e2]
    refine ⟨?_, ih (fdJ J w (nI m)) _ (g.feed (by omega) w (nI m)) ?_ k⟩
    · rw [p_vp]; omega
    · unfold fdJ; rw [ms_eq, if_pos rfl, p_inc (by omega)]; omega
theorem em_feed (Q : Int32 → MS → Prop) (w : Int64) : ∀ (m : Nat) (J : MS), 0 ≤ (J 13 0).toInt → (J 13 0).toInt + m ≤ 400 → Q (fdAll w m J 13 0) (fdAll w m J) → wm_feed_40 Q (m + 1) J w (nI m - 1) := by
  intro m
  induction m with
  | zero =>
    intro J _ _ k
    unfold wm_feed_40
    rw [if_pos (by decide)]
    exact k
  | succ m ih =>
    intro J h0 h k
    have e1 : nI (m + 1) - 1 = nI m := by
      have : nI (m + 1) - nI 1 = nI (m + 1 - 1) := nI_s (by omega)
      exact this
    unfold wm_feed_40
    rw [e1, if_neg (nI_nn (by omega))]
    have e2 : nI m + (-1 : Int32) = nI m - 1 := by grind
    have e3 : (fdJ J w (nI m) 13 0).toInt = (J 13 0).toInt + 1 := by
      unfold fdJ; rw [ms_eq, if_pos rfl, p_inc (by omega)]
    rw [e2, ms_ne (show 13 ≠ 12 by decide)]
    exact ⟨by rw [p_vp]; omega, ih (fdJ J w (nI m)) (by omega) (by omega) k⟩
theorem op_feed (h : XR x J S) (w : Int64) (n : Int32) : wx_X0_feed (fun r S1 => wm_feed (fun r2 J1 => Ans x r S1 r2 J1) J w n) S (some x) w n := by
  obtain ⟨ad, rfl, h⟩ := h
  have g := h.m0
  generalize hJ : mset J 0 0 0 = J0 at g
  obtain ⟨⟨t0, t1⟩, t2⟩ := g.ji.tap
  have em : ∀ Q : Int32 → MS → Prop, wm_feed Q J w n = if 1 ≤ n.toInt ∧ n.toInt ≤ 8 then (if J0 13 0 + n ≤ 400 then ∃ n3, wm_feed_40 Q n3 J0 w (n - 1) else Q (-1000003) J0) else Q (-1000001) J0 := by
    intro Q
    unfold wm_feed
    simp only [em_in, bI_ite, Int32.toInt_toInt64, Int64.reduceToInt, hJ]
  unfold wx_X0_feed
  simp only [ex_in, bI_ite, Int32.toInt_toInt64, Int64.reduceToInt, em, dr_some, g.k0, true_and, g.f.i8]
  by_cases hn : 1 ≤ n.toInt ∧ n.toInt ≤ 8
  · simp only [if_pos hn]
    obtain ⟨m, m9, rfl⟩ := p_ex (x := n) (n := 9) (by omega) (by omega)
    rw [p_nI (by omega)] at hn
    by_cases hf : J0 13 0 + nI m ≤ 400
    · simp only [if_pos hf]
      have hf' : (J0 13 0).toInt + m ≤ 400 := by
        rw [p_le, p_addB (by omega) (by rw [p_nI (by omega)]; omega), p_nI (by omega)] at hf
        exact hf
      exact ⟨m + 1, ex_feed _ w m J0 S g hf' (fun S' g' => ⟨m + 1, em_feed _ w m J0 t0 hf' ⟨rfl, ad, rfl, g'⟩⟩)⟩
    · simp only [if_neg hf]
      exact ⟨rfl, ad, rfl, g⟩
  · simp only [if_neg hn]
    exact ⟨rfl, ad, rfl, g⟩
end
