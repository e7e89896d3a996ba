/-! PLAIN SIDE 16: book -/
theorem RowOk.cong {o p : Nat → Int32} (h : ∀ k, k < 9 → o k = p k) : RowOk o ↔ RowOk p := by
  unfold RowOk
  rw [h 0 (by decide), h 1 (by decide), h 2 (by decide), h 3 (by decide), h 4 (by decide), h 5 (by decide), h 6 (by decide), h 7 (by decide), h 8 (by decide)]
theorem LiS.congr {S : XS} {a n : Nat} {L L' : Nat → Nat} (h : LiS S a n L) (e : ∀ i, i < n → L i = L' i) : LiS S a n L' := by
  obtain ⟨h0, b, h1, h2, h3, h4, h5, h6, h7⟩ := h
  exact ⟨h0, b, h1, h2, h3, h4, h5, fun i hi => by rw [h6 i hi, e i hi], h7⟩
section
variable {ad : Nat → Nat} {J J' : MS} {S S4 : XS} {x : Nat}
theorem p_64 (i : Int32) : ((Int32.toInt64 i) + (9 : Int64)).toInt = i.toInt + 9 := by
  have h1 := Int32.toInt_lt i
  have h2 := Int32.le_toInt i
  have : (9 : Int64).toInt = 9 := rfl
  rw [Int64.toInt_add, Int32.toInt_toInt64, this, Int.bmod_eq_of_le] <;> omega
theorem ex_row (g : XA ad J S) {s : Nat} (s8 : s < 8) (hl : 0 ≤ J 9 s) (i : Int32) (Q : Option Nat → XS → Prop) (X : Nat → XS → Prop) {mc ms : Nat} (hc : 2 ≤ mc) (hm : 20 ≤ ms)
    (k1 : ∀ q S1, 0 ≤ i.toInt → i.toInt + 9 ≤ (J 10 s).toInt → xKD S q = none → Chg (fun _ => False) S S1 → xKD S1 q = some 100 → xLN S1 q = 9 → (∀ k, k < 9 → xAI S1 q k = J 11 (60 * s + i.toNatClampNeg + k)) → Q (some q) S1)
    (k0 : ¬ (0 ≤ i.toInt ∧ i.toInt + 9 ≤ (J 10 s).toInt) → ∀ q S4, xKD S q = none → Chg (fun _ => False) S S4 → xKD S4 q = some 3 → xFI S4 300 q = 2 → X q S4) : wx_X5_row Q X mc ms S (some (ad (60 + s))) i (9 : Int32) := by
  obtain ⟨q0, q1, q2, q3, q4, q5⟩ := g.sh.sm s s8 hl
  obtain ⟨ks, ki⟩ := g.ks s8 hl
  have hln : (xLN S (ad (70 + s)) : Int) = (J 10 s).toInt := by rw [← q3, p_nI (by omega)]
  unfold wx_X5_row wx_X5_row_23
  have bad : ¬ (0 ≤ i.toInt ∧ i.toInt + 9 ≤ (J 10 s).toInt) → wx_X5_row_24 Q X mc ms S (some (ad (60 + s))) i 9 0 := by
    intro hb
    unfold wx_X5_row_24
    exact ⟨1, 7, by omega, by omega, ex_must0 _ _ 2 g.b.cl (Nat.le_refl _) (Nat.le_refl _) (k0 hb)⟩
  have z9 : (9 : Int32).toInt64 = 9 := by decide
  by_cases h0 : i < 0
  · rw [if_pos h0]
    exact bad (fun z => by rw [p_lt] at h0; have : (0 : Int32).toInt = 0 := rfl; omega)
  · rw [if_neg h0]
    have h0' : 0 ≤ i.toInt := by rw [p_lt] at h0; have : (0 : Int32).toInt = 0 := rfl; omega
    simp only [dr_some, ks, q2, ki, true_and, p_cmp2, z9]
    by_cases h1 : Int32.toInt64 (Int32.ofNat (xLN S (ad (70 + s)))) < Int32.toInt64 i + 9
    · rw [if_pos h1]
      refine bad (fun z => ?_)
      rw [Int64.lt_iff_toInt_lt, p_64, Int32.toInt_toInt64, p_ofNat (by omega)] at h1
      omega
    · rw [if_neg h1]
      rw [Int64.lt_iff_toInt_lt, p_64, Int32.toInt_toInt64, p_ofNat (by omega)] at h1
      obtain ⟨j, j60, rfl⟩ := p_ex (x := i) (n := 60) h0' (by omega)
      rw [p_nI (by omega)] at h1
      unfold wx_X5_row_24
      refine ⟨0, 0, by omega, by omega, ?_⟩
      rw [ex_must1]
      have t9 : Int32.toNatClampNeg (9 : Int32) = 9 := rfl
      have t0 : Int32.toNatClampNeg (0 : Int32) = 0 := rfl
      simp only [t9, t0, p_tn (show j < 2 ^ 31 by omega)]
      refine ⟨by decide, by omega, by omega, by omega, fun q hq => ?_⟩
      have n1 := x_new 100 9 hq ks
      have n2 := x_new 100 9 hq ki
      have ne2 : ad (70 + s) ≠ q := x_ne hq ki
      simp only [dr_some, n1, n2, xFR_sNewA, q2, true_and]
      refine ⟨nI_nn (by omega), by decide, by decide, ?_, ?_, fun S1 hS1 => ?_⟩
      · rw [xLN_sNewA, if_neg ne2]; omega
      · rw [xLN_sNewA, if_pos rfl]; omega
      · subst hS1
        refine k1 q _ h0' (by rw [p_nI (by omega)]; omega) hq (((Chg.refl g.b.cl).sNewA hq).sAIf (Or.inl hq) (by simp [xSall])) (by simp [xSall]) (by simp [xSall]) (fun k hk => ?_)
        rw [xAI_sAIf, if_pos rfl]
        unfold va_cpy
        rw [if_pos (by omega), p_tn (by omega)]
        show xAI S (ad (70 + s)) (j + (k - 0)) = _
        rw [q5 _ (by omega)]
        show J 11 (60 * s + (j + (k - 0))) = _
        rw [show 60 * s + (j + (k - 0)) = 60 * s + j + k by omega]
theorem ex_isBooked {q : Nat} (kq : xKD S q = some 100) (ln : xLN S q = 9) (Q : Int32 → XS → Prop) : wx_X0_isBooked Q S (some q) = Q (bI (RowOk (xAI S q))) S := by
  unfold wx_X0_isBooked
  have V : ∀ k, k < 9 → vp_in (nI k) 9 := fun k hk => p_vpn hk (by decide)
  have t : ∀ k, k < 9 → (nI k).toNatClampNeg = k := fun k hk => p_tn (by omega)
  have t0 := t 0 (by decide); have t1 := t 1 (by decide); have t2 := t 2 (by decide); have t3 := t 3 (by decide); have t4 := t 4 (by decide); have t5 := t 5 (by decide); have t6 := t 6 (by decide); have t7 := t 7 (by decide); have t8 := t 8 (by decide)
  have v0 := V 0 (by decide); have v1 := V 1 (by decide); have v2 := V 2 (by decide); have v3 := V 3 (by decide); have v4 := V 4 (by decide); have v5 := V 5 (by decide); have v6 := V 6 (by decide); have v7 := V 7 (by decide); have v8 := V 8 (by decide)
  have z : (nI 0, nI 1, nI 2, nI 3, nI 4, nI 5, nI 6, nI 7, nI 8) = ((0 : Int32), (1 : Int32), (2 : Int32), (3 : Int32), (4 : Int32), (5 : Int32), (6 : Int32), (7 : Int32), (8 : Int32)) := rfl
  simp only [Prod.mk.injEq] at z
  obtain ⟨z0, z1, z2, z3, z4, z5, z6, z7, z8⟩ := z
  rw [z0] at v0 t0; rw [z1] at v1 t1; rw [z2] at v2 t2; rw [z3] at v3 t3; rw [z4] at v4 t4; rw [z5] at v5 t5; rw [z6] at v6 t6; rw [z7] at v7 t7; rw [z8] at v8 t8
  simp only [dr_some, kq, ln, true_and, v0, v1, v2, v3, v4, v5, v6, v7, v8, t0, t1, t2, t3, t4, t5, t6, t7, t8, ex_isHall, ex_isDay, ex_quarters, ex_in, bI_ite, Int32.toInt_toInt64, Int64.reduceToInt, ite_ite]
  have e := bI_of (RowOk (xAI S q)) (fun r => Q r S)
  rw [← e]
  have iff_ : ((0 ≤ (xAI S q 0).toInt ∧ (xAI S q 0).toInt ≤ 3) ∧ (0 ≤ (xAI S q 1).toInt ∧ (xAI S q 1).toInt ≤ 1) ∧ (0 ≤ (xAI S q 2).toInt ∧ (xAI S q 2).toInt ≤ 364) ∧ ((0 ≤ (xAI S q 3).toInt ∧ (xAI S q 3).toInt ≤ 95) ∧ (xAI S q 3).toInt + 1 ≤ (xAI S q 4).toInt ∧ (xAI S q 4).toInt ≤ 96) ∧ (1 ≤ (xAI S q 5).toInt ∧ (xAI S q 5).toInt ≤ 999) ∧ (0 ≤ (xAI S q 6).toInt ∧ (xAI S q 6).toInt ≤ 4) ∧ (0 ≤ (xAI S q 7).toInt ∧ (xAI S q 7).toInt ≤ 1) ∧ 0 ≤ (xAI S q 8).toInt ∧ (xAI S q 8).toInt ≤ (xAI S q 2).toInt) ↔ RowOk (xAI S q) := by
    unfold RowOk
    constructor
    · rintro ⟨a, b, c, ⟨d, e⟩, f⟩; exact ⟨a, b, c, d, e, f⟩
    · rintro ⟨a, b, c, d, e, f⟩; exact ⟨a, b, c, ⟨d, e⟩, f⟩
  by_cases w : RowOk (xAI S q)
  · rw [if_pos (iff_.mpr w), if_pos w]
  · rw [if_neg (fun y => w (iff_.mp y)), if_neg w]
theorem xFI_ne {S : XS} {f a g b : Nat} {v : Int32} (h : g ≠ f) : xFI (sFI S f a v) g b = xFI S g b := if_neg (fun z => h z.1)
theorem xFI_eq {S : XS} {f a : Nat} {v : Int32} : xFI (sFI S f a v) f a = v := if_pos ⟨rfl, rfl⟩
theorem ex_binit {b q n : Nat} (hcl : xClean S) (kb : xKD S b = some 7) (kq : xKD S q = some 100) (ln : xLN S q = 9) (ok : RowOk (xAI S q)) (Q : XS → Prop) (k : ∀ S', Chg (fun a => a = b) S S' → BF S' b n (fun k => xAI S q k) (-1000000) → Q S') : wx_X8_init Q S (some b) (nI n) (some q) := by
  have V : ∀ k, k < 9 → vp_in (nI k) 9 := fun k hk => p_vpn hk (by decide)
  have v0 : vp_in (0 : Int32) 9 := by have := V 0 (by decide); rw [show nI 0 = (0 : Int32) from rfl] at this; exact this
  have v1 : vp_in (1 : Int32) 9 := by have := V 1 (by decide); rw [show nI 1 = (1 : Int32) from rfl] at this; exact this
  have v2 : vp_in (2 : Int32) 9 := by have := V 2 (by decide); rw [show nI 2 = (2 : Int32) from rfl] at this; exact this
  have v3 : vp_in (3 : Int32) 9 := by have := V 3 (by decide); rw [show nI 3 = (3 : Int32) from rfl] at this; exact this
  have v4 : vp_in (4 : Int32) 9 := by have := V 4 (by decide); rw [show nI 4 = (4 : Int32) from rfl] at this; exact this
  have v5 : vp_in (5 : Int32) 9 := by have := V 5 (by decide); rw [show nI 5 = (5 : Int32) from rfl] at this; exact this
  have v6 : vp_in (6 : Int32) 9 := by have := V 6 (by decide); rw [show nI 6 = (6 : Int32) from rfl] at this; exact this
  have v7 : vp_in (7 : Int32) 9 := by have := V 7 (by decide); rw [show nI 7 = (7 : Int32) from rfl] at this; exact this
  have v8 : vp_in (8 : Int32) 9 := by have := V 8 (by decide); rw [show nI 8 = (8 : Int32) from rfl] at this; exact this
  have t0 : Int32.toNatClampNeg (0 : Int32) = 0 := rfl
  have t1 : Int32.toNatClampNeg (1 : Int32) = 1 := rfl
  have t2 : Int32.toNatClampNeg (2 : Int32) = 2 := rfl
  have t3 : Int32.toNatClampNeg (3 : Int32) = 3 := rfl
  have t4 : Int32.toNatClampNeg (4 : Int32) = 4 := rfl
  have t5 : Int32.toNatClampNeg (5 : Int32) = 5 := rfl
  have t6 : Int32.toNatClampNeg (6 : Int32) = 6 := rfl
  have t7 : Int32.toNatClampNeg (7 : Int32) = 7 := rfl
  have t8 : Int32.toNatClampNeg (8 : Int32) = 8 := rfl
  unfold wx_X8_init
  generalize (-1000000 : Int32) = N at k ⊢
  simp only [dr_some, kb, kq, ln, true_and, v0, v1, xKD_sFI, xLN_sFI, xAI_sFI, t0, t1, t2, t3, t4, t5, t6, t7]
  intro S5 h5
  have a5 : xKD S5 = xKD S := by rw [h5]; rfl
  have b5 : xLN S5 = xLN S := by rw [h5]; rfl
  have i5 : xAI S5 = xAI S := by rw [h5]; rfl
  simp only [a5, b5, i5, kb, kq, ln, v2, v3, v4, true_and]
  intro S9 h9
  have a9 : xKD S9 = xKD S := by rw [h9]; exact a5
  have b9 : xLN S9 = xLN S := by rw [h9]; exact b5
  have i9 : xAI S9 = xAI S := by rw [h9]; exact i5
  simp only [a9, b9, i9, kb, kq, ln, v5, v6, v7, true_and]
  have F : ∀ u : Int32, u = xAI S q 7 → (narrow .boolean (.int u) = .int u) → (fits .boolean (.int u) = true) → wx_X8_init_79 Q (sFI (sFI S9 706 b (xAI S q 5)) 707 b (xAI S q 6)) (some b) (some q) (some b) u := by
    intro u hu hn hf
    unfold wx_X8_init_79
    simp only [dr_some, xKD_sFI, a9, kb, kq, true_and, hn, hf, xLN_sFI, b9, ln, v8, xAI_sFI, i9, t8]
    have kb' := some_ne kb
    have c5 : Chg (fun a => a = b) S S5 := by
      rw [h5]
      exact ((((Chg.refl (M := fun a => a = b) hcl).sFI (Or.inr rfl) kb').sFI (Or.inr rfl) kb').sFI (Or.inr rfl) kb').sFI (Or.inr rfl) kb'
    have c9 : Chg (fun a => a = b) S S9 := by
      rw [h9]
      have k5 : xKD S5 b ≠ none := by rw [a5]; exact kb'
      exact ((c5.sFI (Or.inr rfl) k5).sFI (Or.inr rfl) k5).sFI (Or.inr rfl) k5
    have k9 : xKD S9 b ≠ none := by rw [a9]; exact kb'
    refine k _ ((((c9.sFI (Or.inr rfl) k9).sFI (Or.inr rfl) k9).sFI (Or.inr rfl) k9).sFI (Or.inr rfl) k9) ⟨?_, fun j hj => ?_, ?_⟩
    · rw [xFI_ne (by decide), xFI_ne (by decide), xFI_ne (by decide), xFI_ne (by decide), h9, xFI_ne (by decide), xFI_ne (by decide), xFI_ne (by decide), h5, xFI_ne (by decide), xFI_ne (by decide), xFI_eq]
    · have : j = 0 ∨ j = 1 ∨ j = 2 ∨ j = 3 ∨ j = 4 ∨ j = 5 ∨ j = 6 ∨ j = 7 ∨ j = 8 := by omega
      rcases this with rfl | rfl | rfl | rfl | rfl | rfl | rfl | rfl | rfl
      · show xFI _ 701 b = _
        rw [xFI_ne (by decide), xFI_ne (by decide), xFI_ne (by decide), xFI_ne (by decide), h9, xFI_ne (by decide), xFI_ne (by decide), xFI_ne (by decide), h5, xFI_ne (by decide), xFI_eq]
      · show xFI _ 702 b = _
        rw [xFI_ne (by decide), xFI_ne (by decide), xFI_ne (by decide), xFI_ne (by decide), h9, xFI_ne (by decide), xFI_ne (by decide), xFI_ne (by decide), h5, xFI_eq]
      · show xFI _ 703 b = _
        rw [xFI_ne (by decide), xFI_ne (by decide), xFI_ne (by decide), xFI_ne (by decide), h9, xFI_ne (by decide), xFI_ne (by decide), xFI_eq]
      · show xFI _ 704 b = _
        rw [xFI_ne (by decide), xFI_ne (by decide), xFI_ne (by decide), xFI_ne (by decide), h9, xFI_ne (by decide), xFI_eq]
      · show xFI _ 705 b = _
        rw [xFI_ne (by decide), xFI_ne (by decide), xFI_ne (by decide), xFI_ne (by decide), h9, xFI_eq]
      · show xFI _ 706 b = _
        rw [xFI_ne (by decide), xFI_ne (by decide), xFI_ne (by decide), xFI_eq]
      · show xFI _ 707 b = _
        rw [xFI_ne (by decide), xFI_ne (by decide), xFI_eq]
      · show xFI _ 708 b = _
        rw [xFI_ne (by decide), xFI_eq]; exact hu
      · show xFI _ 709 b = _
        rw [xFI_eq]
    · rw [xFI_ne (by decide), xFI_ne (by decide), xFI_ne (by decide), xFI_ne (by decide), h9, xFI_ne (by decide), xFI_ne (by decide), xFI_ne (by decide), h5, xFI_ne (by decide), xFI_ne (by decide), xFI_ne (by decide), xFI_eq]
  have o7 := ok.2.2.2.2.2.2.2.1
  by_cases w : xAI S q 7 = 1
  · rw [if_pos w]
    exact F 1 w.symm (by simp [xSall, narrow]) (by decide)
  · rw [if_neg w]
    refine F 0 ?_ (by simp [xSall, narrow]) (by decide)
    have w' : ¬ (xAI S q 7).toInt = 1 := fun z => w (p_eq.mpr z)
    exact p_eq.mpr (by have : (0 : Int32).toInt = 0 := rfl; omega)
end
