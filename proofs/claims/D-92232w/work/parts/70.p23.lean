/-! PLAIN SIDE 23: ask, kind, count -/
section
variable {ad : Nat → Nat} {J : MS} {S : XS} {x : Nat} {b : Nat}
theorem em_isOf (Q : Int32 → MS → Prop) (v w : Int32) : wm_isOf Q J v w = Q (bI (w = 0 ∨ v = w ∨ (w = 1 ∧ v = 2))) J := by
  unfold wm_isOf
  by_cases h0 : w = 0
  · rw [if_pos h0, bI_t (Or.inl h0)]
  · rw [if_neg h0]
    by_cases h1 : v = w
    · rw [if_pos h1, bI_t (Or.inr (Or.inl h1))]
    · rw [if_neg h1]
      by_cases h2 : w = 1
      · rw [if_pos h2]
        by_cases h3 : v = 2
        · rw [if_pos h3, bI_t (Or.inr (Or.inr ⟨h2, h3⟩))]
        · rw [if_neg h3, bI_f (fun z => by rcases z with z | z | z; exact h0 z; exact h1 z; exact h3 z.2)]
      · rw [if_neg h2, bI_f (fun z => by rcases z with z | z | z; exact h0 z; exact h1 z; exact h2 z.1)]
theorem p_add0 (v : Int32) : v + 0 = v := Int32.add_zero v
theorem em_sizeHeld (g : JI J) (hb : b < nB J) {k : Nat} (hk : k = 11 ∨ k = 13 ∨ k = 14 ∨ k = 15) (Q : Int32 → MS → Prop) : wm_sizeHeld Q J (nI b) (kN k) = Q (szV J b k (fPrice J b)) (bgL J (szT k)) := by
  have b16 := g.b hb
  unfold wm_sizeHeld wm_sizeHeld_11 wm_sizeHeld_25 wm_sizeHeld_54
  simp only [em_isOf, bI_ite]
  rcases hk with e | e | e | e <;> subst e
  · have s : kN 11 = 0 := by decide
    have d1 : ¬ ((0 : Int32) = 2) := by decide
    have d2 : ¬ ((1 : Int32) = 0 ∨ (0 : Int32) = 1 ∨ ((1 : Int32) = 1 ∧ (0 : Int32) = 2)) := by decide
    have hb1 : b < nB (bgJ J 10) := by rw [nB_bg]; exact hb
    simp only [s, if_neg d1, if_neg d2, em_began g, em_of5 _ b16, p_add0, oB_bg]
    rfl
  · have s : kN 13 = 1 := by decide
    have d1 : ¬ ((1 : Int32) = 2) := by decide
    have d2 : ((1 : Int32) = 0 ∨ (1 : Int32) = 1 ∨ ((1 : Int32) = 1 ∧ (1 : Int32) = 2)) := by decide
    have hb1 : b < nB (bgJ J 11) := by rw [nB_bg]; exact hb
    have hb2 : b < nB (bgJ (bgJ J 11) 10) := by rw [nB_bg]; exact hb1
    simp only [s, if_neg d1, if_pos d2, em_began g, em_began (g.bg 11), em_of5 _ b16, em_price _ ((g.bg 11).bg 10) hb2, fPrice_bg, oB_bg]
    rfl
  · have s : kN 14 = 2 := by decide
    have d2 : ((1 : Int32) = 0 ∨ (2 : Int32) = 1 ∨ ((1 : Int32) = 1 ∧ (2 : Int32) = 2)) := by decide
    have hb1 : b < nB (bgJ J 12) := by rw [nB_bg]; exact hb
    have hb2 : b < nB (bgJ (bgJ (bgJ J 12) 11) 10) := by rw [nB_bg, nB_bg]; exact hb1
    simp only [s, if_true, if_pos d2, em_began g, em_began (g.bg 12), em_began ((g.bg 12).bg 11), em_of5 _ b16, em_price _ (((g.bg 12).bg 11).bg 10) hb2, fPrice_bg, oB_bg]
    rfl
  · have s : kN 15 = 4 := by decide
    have d1 : ¬ ((4 : Int32) = 2) := by decide
    have d2 : ¬ ((1 : Int32) = 0 ∨ (4 : Int32) = 1 ∨ ((1 : Int32) = 1 ∧ (4 : Int32) = 2)) := by decide
    simp only [s, if_neg d1, if_neg d2, em_began g, em_of5 _ b16, p_add0, oB_bg]
    rfl
theorem em_mk36 (g : JI J) (hb : b < nB J) (Q : Int32 → MS → Prop) (v : Int32) : wm_markOf_36 Q J (nI b) v = wm_markOf_67 Q (bgJ J 20) (nI b) v (oB J b 6) (if v = 1 ∨ v = 2 then oB J b 2 else 0) := by
  have b16 := g.b hb
  unfold wm_markOf_36
  rw [em_began g, em_of6 _ b16, oB_bg, em_isOf, bI_ite, em_of2 _ b16, oB_bg]
  by_cases z : v = 1 ∨ v = 2
  · rw [if_pos (by rcases z with z | z; exact Or.inr (Or.inl z); exact Or.inr (Or.inr ⟨rfl, z⟩)), if_pos z]
  · rw [if_neg (by intro w; rcases w with w | w | w; exact absurd w (by decide); exact z (Or.inl w); exact z (Or.inr w.2)), if_neg z]
theorem em_markOf (g : JI J) (hb : b < nB J) {k : Nat} (hk : k = 11 ∨ k = 12 ∨ k = 13 ∨ k = 14 ∨ k = 15) (Q : Int32 → MS → Prop) : wm_markOf Q J (nI b) (kN k) = Q (mkV J b k (fPrice J b)) (bgL J (mkT k)) := by
  have g1 : ∀ v, JI (bgJ J v) := fun v => g.bg v
  have hb1 : ∀ v, b < nB (bgJ J v) := fun v => by rw [nB_bg]; exact hb
  have hb2 : ∀ v w, b < nB (bgJ (bgJ J v) w) := fun v w => by rw [nB_bg]; exact hb1 v
  have hb3 : ∀ v w y, b < nB (bgJ (bgJ (bgJ J v) w) y) := fun v w y => by rw [nB_bg]; exact hb2 v w
  unfold wm_markOf wm_markOf_11 wm_markOf_25
  rw [em_isOf, bI_ite]
  rcases hk with e | e | e | e | e <;> subst e
  · rw [show kN 11 = 0 by decide, if_neg (show ¬ ((0 : Int32) = 2) by decide), if_neg (show ¬ ((1 : Int32) = 0 ∨ (0 : Int32) = 1 ∨ ((1 : Int32) = 1 ∧ (0 : Int32) = 2)) by decide), if_neg (show ¬ ((0 : Int32) = 4) by decide), em_mk36 g hb, if_neg (by decide)]
    unfold wm_markOf_67
    rw [if_neg (by decide), if_neg (by decide), p_add0]
    rfl
  · rw [show kN 12 = 3 by decide, if_neg (show ¬ ((3 : Int32) = 2) by decide), if_neg (show ¬ ((1 : Int32) = 0 ∨ (3 : Int32) = 1 ∨ ((1 : Int32) = 1 ∧ (3 : Int32) = 2)) by decide), if_neg (show ¬ ((3 : Int32) = 4) by decide), em_mk36 g hb, if_neg (by decide)]
    unfold wm_markOf_67
    rw [if_neg (by decide), if_neg (by decide), p_add0]
    rfl
  · rw [show kN 13 = 1 by decide, if_neg (show ¬ ((1 : Int32) = 2) by decide), if_pos (show ((1 : Int32) = 0 ∨ (1 : Int32) = 1 ∨ ((1 : Int32) = 1 ∧ (1 : Int32) = 2)) by decide), em_began g, if_neg (show ¬ ((1 : Int32) = 4) by decide), em_mk36 (g1 21) (hb1 21), if_pos (by decide)]
    unfold wm_markOf_67
    rw [if_neg (by decide), if_neg (by decide), oB_bg, oB_bg]
    rfl
  · rw [show kN 14 = 2 by decide, if_pos rfl, em_began g, em_isOf, bI_ite, if_pos (show ((1 : Int32) = 0 ∨ (2 : Int32) = 1 ∨ ((1 : Int32) = 1 ∧ (2 : Int32) = 2)) by decide), em_began (g1 22), if_neg (show ¬ ((2 : Int32) = 4) by decide), em_mk36 ((g1 22).bg 21) (hb2 22 21), if_pos (by decide)]
    unfold wm_markOf_67 wm_markOf_79
    rw [if_pos rfl]
    have sh := em_sizeHeld (((g1 22).bg 21).bg 20) (hb3 22 21 20) (k := 14) (by simp [xSall]) (fun r10 J9 => Q (oB (bgJ (bgJ J 22) 21) b 6 + oB (bgJ (bgJ J 22) 21) b 2 + r10) J9)
    rw [show kN 14 = 2 by decide] at sh
    rw [sh]
    have sv : szV (bgJ (bgJ (bgJ J 22) 21) 20) b 14 (fPrice (bgJ (bgJ (bgJ J 22) 21) 20) b) = 2 * (oB J b 5 + fPrice J b) := by
      rw [fPrice_bg, fPrice_bg, fPrice_bg]
      show 2 * (oB (bgJ (bgJ (bgJ J 22) 21) 20) b 5 + fPrice J b) = _
      rw [oB_bg, oB_bg, oB_bg]
    rw [sv, oB_bg, oB_bg, oB_bg, oB_bg]
    have e1 : mkV J b 14 (fPrice J b) = oB J b 6 + oB J b 2 + 2 * (oB J b 5 + fPrice J b) := by
      unfold mkV; rw [if_neg (by decide), if_pos rfl]
    have e2 : mkT 14 = [22, 21, 20, 12, 11, 10] := by decide
    have e3 : szT 14 = [12, 11, 10] := by decide
    rw [e1, e2, e3]
    simp only [bgL]
  · rw [show kN 15 = 4 by decide, if_neg (show ¬ ((4 : Int32) = 2) by decide), if_neg (show ¬ ((1 : Int32) = 0 ∨ (4 : Int32) = 1 ∨ ((1 : Int32) = 1 ∧ (4 : Int32) = 2)) by decide), if_pos rfl, em_began g, em_mk36 (g1 23) (hb1 23), if_neg (by decide)]
    unfold wm_markOf_67 wm_markOf_79
    rw [if_neg (by decide), if_pos rfl, p_add0]
    have sh := em_sizeHeld ((g1 23).bg 20) (hb2 23 20) (k := 15) (by simp [xSall]) (fun r10 J9 => Q (oB (bgJ J 23) b 6 + r10) J9)
    rw [show kN 15 = 4 by decide] at sh
    rw [sh]
    have sv : szV (bgJ (bgJ J 23) 20) b 15 (fPrice (bgJ (bgJ J 23) 20) b) = oB J b 5 := by
      show oB (bgJ (bgJ J 23) 20) b 5 = _
      rw [oB_bg, oB_bg]
    rw [sv, oB_bg]
    have e1 : mkV J b 15 (fPrice J b) = oB J b 6 + oB J b 5 := by
      unfold mkV; rw [if_neg (by decide), if_neg (by decide), if_pos rfl]
    have e2 : mkT 15 = [23, 20, 10] := by decide
    have e3 : szT 15 = [10] := by decide
    rw [e1, e2, e3]
    simp only [bgL]
theorem em_sizeOf (g : JI J) (hb : b < nB J) {k : Nat} (hk : k = 11 ∨ k = 12 ∨ k = 13 ∨ k = 14 ∨ k = 15) (Q : Int32 → MS → Prop) : wm_sizeOf Q J (nI b) (kN k) = Q (szV J b k (fPrice J b)) (bgL J (szT k)) := by
  have b16 := g.b hb
  unfold wm_sizeOf
  by_cases e : k = 12
  · subst e
    have s : kN 12 = 3 := by decide
    have hb1 : b < nB (bgJ J 13) := by rw [nB_bg]; exact hb
    have hb2 : b < nB (bgJ (bgJ J 13) 10) := by rw [nB_bg]; exact hb1
    have sh : ∀ Q : Int32 → MS → Prop, wm_markOf Q (bgJ (bgJ J 13) 10) (nI b) 3 = Q (mkV (bgJ (bgJ J 13) 10) b 12 (fPrice (bgJ (bgJ J 13) 10) b)) (bgL (bgJ (bgJ J 13) 10) (mkT 12)) := fun Q => em_markOf ((g.bg 13).bg 10) hb2 (k := 12) (by simp [xSall]) Q
    simp only [s, if_true, em_began g, em_began (g.bg 13), em_of5 _ b16, oB_bg, sh]
    unfold szV mkV
    simp only [oB_bg]
    rfl
  · rw [if_neg (by rcases hk with e | e | e | e | e <;> subst e <;> first | decide | exact absurd rfl e)]
    exact em_sizeHeld g hb (by omega) Q
theorem op_kind (h : XR x J S) {mc ms : Nat} (hc : 100 ≤ mc) (hm : 1000 ≤ ms) (a : Int32) : wx_X0_kind (fun r S1 => wm_kind (fun r2 J1 => Ans x r S1 r2 J1) J a) mc ms S (some x) a := by
  obtain ⟨ad, rfl, h⟩ := h
  have g := h.m0
  generalize hJ : mset J 0 0 0 = J0 at g
  unfold wx_X0_kind wm_kind
  rw [hJ]
  simp only [dr_some, g.k0, true_and, ex_isBooking _ g, em_isBooking _ g.ji, bI_ite]
  by_cases ha : 0 ≤ a.toInt ∧ a.toInt < nB J0
  · simp only [if_pos ha]
    obtain ⟨b, hb, rfl⟩ := p_ex ha.1 ha.2
    refine ⟨2, 10, by omega, by omega, ?_⟩
    refine ex_asked g hb (by decide) (by decide) _ (fun S' q hq c hA => ?_)
    have g' := g.tu c
    have fin : ∀ r, r = kN (fK J0 b) → wm_kindOf (fun r4 J3 => Ans (ad 0) r S' r4 J3) J0 (nI b) := fun r hr => em_kindOf g.ji hb _ ⟨hr.symm, ad, rfl, g'⟩
    simp only [dr_some]
    unfold wa_kind
    rw [hA.kd]
    rcases fK_in J0 b with e | e | e | e | e <;> rw [e] at fin ⊢
    · exact Or.inl ⟨rfl, fin _ rfl⟩
    · exact Or.inr (Or.inl ⟨rfl, fin _ rfl⟩)
    · exact Or.inr (Or.inr (Or.inl ⟨rfl, fin _ rfl⟩))
    · exact Or.inr (Or.inr (Or.inr (Or.inl ⟨rfl, fin _ rfl⟩)))
    · exact Or.inr (Or.inr (Or.inr (Or.inr ⟨rfl, fin _ rfl⟩)))
  · simp only [if_neg ha]
    exact ⟨rfl, ad, rfl, g⟩
end
