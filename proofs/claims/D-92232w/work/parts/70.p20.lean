/-! PLAIN SIDE 20: what holds, in the model -/
section
variable {J : MS}
theorem rk_bd (g : JI J) {b : Nat} (hb : b < nB J) : 0 ≤ (rkB J b).toInt ∧ (rkB J b).toInt ≤ 4 := (g.hal _ (g.hBq hb).1).2.2.2.2.2.2.1 _ (g.uBq hb).1
theorem ca_bd (g : JI J) {b : Nat} (hb : b < nB J) : 0 ≤ (oB J b 8).toInt ∧ (oB J b 8).toInt ≤ 364 := by
  have h := g.row b hb
  have h2 : 0 ≤ (oB J b 2).toInt ∧ (oB J b 2).toInt ≤ 364 := h.2.2.1
  have h8 : 0 ≤ (oB J b 8).toInt ∧ (oB J b 8).toInt ≤ (oB J b 2).toInt := h.2.2.2.2.2.2.2.2
  omega
theorem em_ahead (g : JI J) {a b : Nat} (ha : a < nB J) (hb : b < nB J) (Q : Int32 → MS → Prop) : wm_isAhead Q J (nI a) (nI b) = Q (bI (klt (hk1 J) (hk2 J) a b)) J := by
  have a16 := g.b ha
  have b16 := g.b hb
  have ra := rk_bd g ha; have rb := rk_bd g hb; have ca := ca_bd g ha; have cb := ca_bd g hb
  unfold wm_isAhead wm_isAhead_65
  simp only [em_rank _ g ha, em_rank _ g hb, em_of8 _ a16, em_of8 _ b16, p_ge0]
  have s1 : (rkB J a - rkB J b).toInt = (rkB J a).toInt - (rkB J b).toInt := p_subB (by omega) (by omega)
  have s2 : (oB J a 8 - oB J b 8).toInt = (oB J a 8).toInt - (oB J b 8).toInt := p_subB (by omega) (by omega)
  have s3 : (nI a - nI b).toInt = (a : Int) - b := by rw [p_subB (by rw [p_nI (by omega)]; omega) (by rw [p_nI (by omega)]; omega), p_nI (by omega), p_nI (by omega)]
  rw [s1, s2, s3]
  have hh : klt (hk1 J) (hk2 J) a b ↔ (rkB J a).toInt < (rkB J b).toInt ∨ ((rkB J a).toInt = (rkB J b).toInt ∧ ((oB J a 8).toInt < (oB J b 8).toInt ∨ ((oB J a 8).toInt = (oB J b 8).toInt ∧ a < b))) := Iff.rfl
  have E1 : rkB J a = rkB J b ↔ (rkB J a).toInt = (rkB J b).toInt := p_eq
  have E2 : oB J a 8 = oB J b 8 ↔ (oB J a 8).toInt = (oB J b 8).toInt := p_eq
  by_cases q : klt (hk1 J) (hk2 J) a b
  · rw [bI_t q]
    rw [hh] at q
    by_cases z : rkB J a = rkB J b
    · rw [if_pos z]
      have z' := E1.mp z
      by_cases w : oB J a 8 = oB J b 8
      · have w' := E2.mp w
        rw [if_pos w, if_neg (by omega)]
      · have w' : ¬ (oB J a 8).toInt = (oB J b 8).toInt := fun y => w (E2.mpr y)
        rw [if_neg w, if_neg (by omega)]
    · have z' : ¬ (rkB J a).toInt = (rkB J b).toInt := fun y => z (E1.mpr y)
      rw [if_neg z, if_neg (by omega)]
  · rw [bI_f q]
    rw [hh] at q
    by_cases z : rkB J a = rkB J b
    · rw [if_pos z]
      have z' := E1.mp z
      by_cases w : oB J a 8 = oB J b 8
      · have w' := E2.mp w
        rw [if_pos w, if_pos (by omega)]
      · have w' : ¬ (oB J a 8).toInt = (oB J b 8).toInt := fun y => w (E2.mpr y)
        rw [if_neg w, if_pos (by omega)]
    · have z' : ¬ (rkB J a).toInt = (rkB J b).toInt := fun y => z (E1.mpr y)
      rw [if_neg z, if_pos (by omega)]
def encO : Option Nat → Int32
  | none => -1000000
  | some a => nI a
theorem enc_ne {a : Nat} (h : a < 2 ^ 31) : ¬ nI a = -1000000 := by
  intro z
  have := congrArg Int32.toInt z
  rw [p_nI h] at this
  have e : (-1000000 : Int32).toInt = -1000000 := by decide
  omega
theorem em_hold1 (g : JI J) (Q : Int32 → MS → Prop) (K7 : MS → Int32 → Int32 → Int32 → Int32 → Prop) (d met_ more : Int32) {b set : Nat} (hb : b < nB J) (hs : set < 2 ^ 16) (k1 : K7 J d met_ (if mayH J b set then nI (set ||| 2 ^ b) else nI set) more) : ∀ r k, k + r = nB J → wm_holdOn_146 Q K7 (r + 1) J d met_ (nI set) more (nI b) (bI (pFire J b (hB J b) (fB J b) ∧ noCl J b set k)) (licS J b set k) (nI k) := by
  obtain ⟨n1, nb⟩ := g.nb
  have b16 := g.b hb
  obtain ⟨h1, h2, -⟩ := g.hBq hb
  intro r
  induction r with
  | zero =>
    intro k hk
    have : k = nB J := by omega
    subst this
    unfold wm_holdOn_146 wm_holdOn_265 wm_holdOn_261 wm_holdOn_266 wm_holdOn_282 wm_holdOn_284
    have one : ¬ (1 : Int32) = 0 := by decide
    have z0 : ∀ x : Int32, x ||| 0 = x := fun x => Int32.or_zero
    rw [n1, if_pos (by grind)]
    simp only [em_of7 _ b16, em_of0 _ b16, h2, p_vpn h1 (show 4 < 2 ^ 31 by decide), p_tn (show hB J b < 2 ^ 31 by omega), true_and, if_true, if_neg one, nI_setbit (show b < 31 by omega), z0]
    by_cases w : pFire J b (hB J b) (fB J b) ∧ noCl J b set (nB J)
    · rw [bI_t w, if_neg one]
      by_cases z : oB J b 7 = 0
      · rw [if_pos z]
        rw [if_pos (show mayH J b set from ⟨w.1, w.2, Or.inl z⟩)] at k1
        exact k1
      · rw [if_neg z]
        by_cases y : J 3 (hB J b) ≤ licS J b set (nB J)
        · rw [if_pos y]
          rw [if_neg (show ¬ mayH J b set from fun v => by rcases v.2.2 with v | v; exact z v; grind)] at k1
          exact k1
        · rw [if_neg y]
          rw [if_pos (show mayH J b set from ⟨w.1, w.2, Or.inr (by grind)⟩)] at k1
          exact k1
    · rw [bI_f w, if_pos rfl]
      rw [if_neg (show ¬ mayH J b set from fun v => w ⟨v.1, v.2.1⟩)] at k1
      exact k1
  | succ r ih =>
    intro k hk
    have hk' : k < nB J := by omega
    have k16 := g.b hk'
    unfold wm_holdOn_146 wm_holdOn_185 wm_holdOn_186 wm_holdOn_219 wm_holdOn_222
    rw [n1, if_neg (by rw [nIq_le (by omega) (by omega)]; omega), nI_bit (by omega) (by omega)]
    simp only [em_of0 _ b16, em_of0 _ k16, em_of7 _ k16, em_clash _ g hk' hb, nI_tInc]
    have ih' := ih (k + 1) (by omega)
    unfold licS at ih'
    by_cases t : set.testBit k = true
    · rw [bI_t t, if_pos rfl]
      rw [if_pos t] at ih'
      have ad0 : (if oB J k 0 = oB J b 0 then wm_holdOn_146 Q K7 (r + 1) J d met_ (nI set) more (nI b) (bI (pFire J b (hB J b) (fB J b) ∧ noCl J b set (k + 1))) (licS J b set k + oB J k 7) (nI (k + 1)) else wm_holdOn_146 Q K7 (r + 1) J d met_ (nI set) more (nI b) (bI (pFire J b (hB J b) (fB J b) ∧ noCl J b set (k + 1))) (licS J b set k + 0) (nI (k + 1))) := by
        by_cases z : oB J k 0 = oB J b 0
        · rw [if_pos z] at ih' ⊢; exact ih'
        · rw [if_neg z] at ih' ⊢; exact ih'
      by_cases w : pFire J b (hB J b) (fB J b) ∧ noCl J b set k
      · rw [bI_t w, if_neg (by decide), bI_ite]
        by_cases cl : pClash J k b
        · rw [if_pos cl]
          rw [bI_f (fun y => (noCl_succ.mp y.2).2 t (pClash_comm.mp cl))] at ad0
          exact ad0
        · rw [if_neg cl]
          rw [bI_t ⟨w.1, noCl_succ.mpr ⟨w.2, fun _ z => cl (pClash_comm.mp z)⟩⟩] at ad0
          exact ad0
      · rw [bI_f w, if_pos rfl]
        rw [bI_f (fun y => w ⟨y.1, (noCl_succ.mp y.2).1⟩)] at ad0
        exact ad0
    · rw [bI_f t, if_neg (by decide)]
      rw [if_neg t] at ih'
      have e : bI (pFire J b (hB J b) (fB J b) ∧ noCl J b set (k + 1)) = bI (pFire J b (hB J b) (fB J b) ∧ noCl J b set k) := bI_cong ⟨fun y => ⟨y.1, (noCl_succ.mp y.2).1⟩, fun y => ⟨y.1, noCl_succ.mpr ⟨y.2, fun z => absurd z t⟩⟩⟩
      rw [e] at ih'
      exact ih'
theorem em_holdOn (g : JI J) (d : Int32) (Q : Int32 → MS → Prop) (k1 : Q (nI (fHeld J d)) J) : wm_holdOn Q J d := by
  obtain ⟨n1, nb⟩ := g.nb
  have ok := hOrd_ok J d (nB J)
  unfold fHeld at k1
  generalize hc : (hOrd J d (nB J)).1 = c at ok k1
  generalize hf : (hOrd J d (nB J)).2 = f at ok k1
  have mlt : ∀ j, j ≤ c → mskF f j < 2 ^ 16 := fun j hj => mskF_lt j (fun i hi => Nat.lt_of_lt_of_le (ok.mem i (by omega)).1 nb)
  have hlt : ∀ j, j ≤ c → hFold J f j < 2 ^ 16 := fun j hj => hFold_lt j (fun i hi => Nat.lt_of_lt_of_le (ok.mem i (by omega)).1 nb)
  have one : ¬ (1 : Int32) = 0 := by decide
  have S1 : ∀ (K7 : MS → Int32 → Int32 → Int32 → Int32 → Prop) (j : Nat), j ≤ c → (∀ nx, nx = encO (scanF (hk1 J) (hk2 J) (fun b => pThere J b d ∧ ¬ (mskF f j).testBit b = true) (nB J)) → (if nx = -1000000 then wm_holdOn_104 Q K7 J d (nI (mskF f j)) (nI (hFold J f j)) nx 0 else wm_holdOn_104 Q K7 J d (nI (mskF f j)) (nI (hFold J f j)) nx 1)) → ∀ r k, k + r = nB J → wm_holdOn_19 Q K7 (r + 1) J d (nI (mskF f j)) (nI (hFold J f j)) (encO (scanF (hk1 J) (hk2 J) (fun b => pThere J b d ∧ ¬ (mskF f j).testBit b = true) k)) (nI k) := by
    intro K7 j hj kk r
    have ml := mlt j hj
    induction r with
    | zero =>
      intro k hk
      have : k = nB J := by omega
      subst this
      unfold wm_holdOn_19
      rw [n1, if_pos (by grind)]
      exact kk _ rfl
    | succ r ih =>
      intro k hk
      have hk' : k < nB J := by omega
      have ih' := ih (k + 1) (by omega)
      unfold wm_holdOn_19 wm_holdOn_51 wm_holdOn_52 wm_holdOn_82 wm_holdOn_77 wm_holdOn_84
      rw [n1, if_neg (by rw [nIq_le (by omega) (by omega)]; omega)]
      simp only [em_there _ g hk', bI_ite, nI_bit (show mskF f j < 2 ^ 31 by omega) (show k < 31 by omega), if_true, if_neg one, nI_tInc]
      unfold scanF at ih'
      by_cases z : pThere J k d
      · rw [if_pos z]
        by_cases w : (mskF f j).testBit k = true
        · rw [if_pos w]
          rw [if_neg (fun y => y.1.2 w)] at ih'
          exact ih'
        · rw [if_neg w]
          cases e : scanF (hk1 J) (hk2 J) (fun b => pThere J b d ∧ ¬ (mskF f j).testBit b = true) k with
          | none =>
            rw [e, if_pos ⟨⟨z, w⟩, fun a h => by cases h⟩] at ih'
            show (if (-1000000 : Int32) = -1000000 then _ else _)
            rw [if_pos rfl]
            exact ih'
          | some a =>
            have ha : a < nB J := by have := (scanF_some _ _ _ k a e).1; omega
            rw [e] at ih'
            show (if nI a = -1000000 then _ else _)
            rw [if_neg (enc_ne (by omega))]
            show wm_isAhead _ J (nI k) (nI a)
            rw [em_ahead g hk' ha, bI_ite]
            by_cases y : klt (hk1 J) (hk2 J) k a
            · rw [if_pos ⟨⟨z, w⟩, fun a' h => by cases h; exact y⟩] at ih'
              rw [if_pos y]
              exact ih'
            · rw [if_neg (fun v => y (v.2 a rfl))] at ih'
              rw [if_neg y]
              exact ih'
      · rw [if_neg z]
        rw [if_neg (fun y => z y.1.1)] at ih'
        exact ih'
  have M : ∀ r j, j + r = c → wm_holdOn_7 Q (r + 2) J d (nI (mskF f j)) (nI (hFold J f j)) 1 := by
    intro r
    induction r with
    | zero =>
      intro j hj
      have : j = c := by omega
      subst this
      unfold wm_holdOn_7
      rw [if_neg one]
      refine ⟨nB J + 1, S1 _ j (Nat.le_refl _) (fun nx hx => ?_) (nB J) 0 (by omega)⟩
      rw [ok.scan (Nat.le_refl _), if_neg (by omega)] at hx
      subst hx
      show (if (-1000000 : Int32) = -1000000 then _ else _)
      rw [if_pos rfl]
      unfold wm_holdOn_104 wm_holdOn_284 wm_holdOn_7
      rw [if_pos rfl, if_pos rfl]
      exact k1
    | succ r ih =>
      intro j hj
      have hfj := (ok.mem j (by omega)).1
      have f16 := g.b hfj
      obtain ⟨h1, h2, -⟩ := g.hBq hfj
      obtain ⟨u1, u2, -⟩ := g.fBq hfj
      unfold wm_holdOn_7
      rw [if_neg one]
      refine ⟨nB J + 1, S1 _ j (by omega) (fun nx hx => ?_) (nB J) 0 (by omega)⟩
      rw [ok.scan (by omega), if_pos (by omega)] at hx
      subst hx
      show (if nI (f j) = -1000000 then _ else _)
      rw [if_neg (enc_ne (by omega))]
      unfold wm_holdOn_104
      rw [if_neg one]
      show wm_of _ J (nI (f j)) 0
      simp only [encO, em_of0 _ f16, em_of1 _ f16, h2, u2, em_fire _ g hfj h1 u1, nI_setbit (show f j < 31 by omega)]
      refine ⟨nB J + 1, ?_⟩
      have e0 : bI (pFire J (f j) (hB J (f j)) (fB J (f j))) = bI (pFire J (f j) (hB J (f j)) (fB J (f j)) ∧ noCl J (f j) (hFold J f j) 0) := bI_cong ⟨fun y => ⟨y, fun i hi => absurd hi (Nat.not_lt_zero i)⟩, fun y => y.1⟩
      rw [e0]
      refine em_hold1 g Q _ d _ 1 hfj (hlt j (by omega)) ?_ (nB J) 0 (by omega)
      have := ih (j + 1) (by omega)
      unfold hFold mskF at this
      by_cases z : mayH J (f j) (hFold J f j)
      · rw [if_pos z] at this ⊢; exact this
      · rw [if_neg z] at this ⊢; exact this
  exact ⟨c + 2, M c 0 (by omega)⟩
end
