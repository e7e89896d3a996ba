/-! PLAIN SIDE 32: the most of a floor (class side) -/
theorem and_zero {a b : Nat} : a &&& b = 0 ↔ ∀ j, a.testBit j = true → ¬ b.testBit j = true := by
  constructor
  · intro h j ha hb
    have := Nat.testBit_and a b j
    rw [h, ha, hb, Nat.zero_testBit] at this
    cases this
  · intro h
    apply Nat.eq_of_testBit_eq
    intro j
    rw [Nat.testBit_and, Nat.zero_testBit]
    cases ha : a.testBit j with
    | false => rfl
    | true =>
      cases hb : b.testBit j with
      | false => rfl
      | true => exact absurd hb (h j ha)
theorem tb_lt {s n k : Nat} (hs : s < 2 ^ n) (hk : s.testBit k = true) : k < n := by
  rcases Nat.lt_or_ge k n with h | h
  · exact h
  · have : s < 2 ^ k := Nat.lt_of_lt_of_le hs (Nat.pow_le_pow_right (by decide) h)
    rw [Nat.testBit_lt_two_pow this] at hk
    cases hk
theorem nIq_0 {a : Nat} (ha : a < 2 ^ 31) : nI a = 0 ↔ a = 0 := nI_inj (b := 0) ha (by decide)
theorem nI_sub {s m : Nat} (hs : s < 2 ^ 31) (hm : m < 2 ^ 31) : (nI s &&& (nI m ^^^ (-1 : Int32))) = 0 ↔ ∀ j, s.testBit j = true → m.testBit j = true := by
  have e1 : (-1 : Int32).toBitVec = BitVec.allOnes 32 := by decide
  have e0 : (0 : Int32).toBitVec = 0#32 := rfl
  rw [← Int32.toBitVec_inj, Int32.toBitVec_and, Int32.toBitVec_xor, nI_bv, nI_bv, e1, e0]
  constructor
  · intro h j hj
    have j31 : j < 31 := tb_lt hs hj
    have := congrArg (fun v => v.getLsbD j) h
    simp only [BitVec.getLsbD_and, BitVec.getLsbD_xor, BitVec.getLsbD_ofNat, BitVec.getLsbD_allOnes, Nat.zero_testBit, Bool.and_false] at this
    rw [hj, decide_eq_true (show j < 32 by omega)] at this
    cases e : m.testBit j with
    | true => rfl
    | false => rw [e] at this; cases this
  · intro h
    apply BitVec.eq_of_getLsbD_eq
    intro j hj
    simp only [BitVec.getLsbD_and, BitVec.getLsbD_xor, BitVec.getLsbD_ofNat, BitVec.getLsbD_allOnes, Nat.zero_testBit, Bool.and_false]
    rw [decide_eq_true (show j < 32 by omega)]
    cases e : s.testBit j with
    | false => rfl
    | true => rw [h j e]; rfl
abbrev pMay (J : MS) (h f : Nat) (d : Int32) (b : Nat) : Prop := pAt J b (nI h) (nI f) d ∧ pThere J b (J 27 0) ∧ pFire J b h f
def mayM (J : MS) (h f : Nat) (d : Int32) : Nat → Nat
  | 0 => 0
  | k + 1 => if pMay J h f d k then mayM J h f d k ||| 2 ^ k else mayM J h f d k
theorem mayM_lt (J : MS) (h f : Nat) (d : Int32) : ∀ k, mayM J h f d k < 2 ^ k
  | 0 => by unfold mayM; decide
  | k + 1 => by
    unfold mayM
    have := mayM_lt J h f d k
    have h2 : 2 ^ k < 2 ^ (k + 1) := Nat.pow_lt_pow_right (by decide) (by omega)
    split
    · exact or_lt (by omega) (by omega)
    · omega
theorem mayM_bit (J : MS) (h f : Nat) (d : Int32) : ∀ k j, (mayM J h f d k).testBit j = true ↔ j < k ∧ pMay J h f d j
  | 0, j => by
    unfold mayM
    rw [Nat.zero_testBit]
    constructor
    · intro h; cases h
    · rintro ⟨h, _⟩; exact absurd h (Nat.not_lt_zero j)
  | k + 1, j => by
    unfold mayM
    have ih := mayM_bit J h f d k j
    by_cases p : pMay J h f d k
    · rw [if_pos p, testBit_or, Bool.or_eq_true, ih, decide_eq_true_iff]
      constructor
      · rintro (⟨a, b⟩ | a)
        · exact ⟨by omega, b⟩
        · subst a; exact ⟨by omega, p⟩
      · rintro ⟨a, b⟩
        by_cases z : k = j
        · exact Or.inr z
        · exact Or.inl ⟨by omega, b⟩
    · rw [if_neg p, ih]
      constructor
      · rintro ⟨a, b⟩; exact ⟨by omega, b⟩
      · rintro ⟨a, b⟩
        by_cases z : j = k
        · subst z; exact absurd b p
        · exact ⟨by omega, b⟩
def agM (J : MS) (k : Nat) : Nat → Nat
  | 0 => 0
  | m + 1 => if m ≠ k ∧ pClash J k m then agM J k m ||| 2 ^ m else agM J k m
theorem agM_lt (J : MS) (k : Nat) : ∀ m, agM J k m < 2 ^ m
  | 0 => by unfold agM; decide
  | m + 1 => by
    unfold agM
    have := agM_lt J k m
    have h2 : 2 ^ m < 2 ^ (m + 1) := Nat.pow_lt_pow_right (by decide) (by omega)
    split
    · exact or_lt (by omega) (by omega)
    · omega
theorem agM_bit (J : MS) (k : Nat) : ∀ m j, (agM J k m).testBit j = true ↔ j < m ∧ j ≠ k ∧ pClash J k j
  | 0, j => by
    unfold agM
    rw [Nat.zero_testBit]
    constructor
    · intro h; cases h
    · rintro ⟨h, _⟩; exact absurd h (Nat.not_lt_zero j)
  | m + 1, j => by
    unfold agM
    have ih := agM_bit J k m j
    by_cases p : m ≠ k ∧ pClash J k m
    · rw [if_pos p, testBit_or, Bool.or_eq_true, ih, decide_eq_true_iff]
      constructor
      · rintro (⟨a, b⟩ | a)
        · exact ⟨by omega, b⟩
        · subst a; exact ⟨by omega, p⟩
      · rintro ⟨a, b⟩
        by_cases z : m = j
        · exact Or.inr z
        · exact Or.inl ⟨by omega, b⟩
    · rw [if_neg p, ih]
      constructor
      · rintro ⟨a, b⟩; exact ⟨by omega, b⟩
      · rintro ⟨a, b⟩
        by_cases z : j = m
        · subst z; exact absurd b p
        · exact ⟨by omega, b⟩
abbrev freeM (J : MS) (s k : Nat) : Prop := ∀ i, i < k → s.testBit i = true → agM J i (nB J) &&& s = 0
def noC2 (J : MS) (s k : Nat) : Bool := decide (∀ j, j < nB J → s.testBit j = true → j ≠ k → ¬ pClash J k j)
theorem noC2_iff {J : MS} {s k : Nat} : noC2 J s k = true ↔ ∀ j, j < nB J → s.testBit j = true → j ≠ k → ¬ pClash J k j := decide_eq_true_iff
abbrev wellM (J : MS) (h f : Nat) (d : Int32) (s : Nat) : Prop := (∀ k, k < nB J → s.testBit k = true → pMay J h f d k) ∧ ∀ k, k < nB J → s.testBit k = true → noC2 J s k = true
theorem well_iff {J : MS} {h f : Nat} {d : Int32} {s : Nat} (hs : s < 2 ^ nB J) : ((∀ j, s.testBit j = true → (mayM J h f d (nB J)).testBit j = true) ∧ freeM J s (nB J)) ↔ wellM J h f d s := by
  constructor
  · rintro ⟨a, b⟩
    refine ⟨fun k hk hb => ((mayM_bit J h f d (nB J) k).mp (a k hb)).2, fun k hk hb => noC2_iff.mpr (fun j hj hjb hne hc => ?_)⟩
    have := and_zero.mp (b k hk hb) j ((agM_bit J k (nB J) j).mpr ⟨hj, hne, hc⟩)
    exact this hjb
  · rintro ⟨a, b⟩
    refine ⟨fun j hj => (mayM_bit J h f d (nB J) j).mpr ⟨tb_lt hs hj, a j (tb_lt hs hj) hj⟩, fun i hi hb => and_zero.mpr (fun j hj hjb => ?_)⟩
    obtain ⟨q1, q2, q3⟩ := (agM_bit J i (nB J) j).mp hj
    exact noC2_iff.mp (b i hi hb) j q1 hjb q2 q3
def bestF (J : MS) (h f : Nat) (d : Int32) : Nat → Nat
  | 0 => 0
  | i + 1 => if wellM J h f d (i + 1) ∧ hSum J (bestF J h f d i) (nB J) < hSum J (i + 1) (nB J) then i + 1 else bestF J h f d i
theorem bestF_le (J : MS) (h f : Nat) (d : Int32) : ∀ i, bestF J h f d i ≤ i
  | 0 => Nat.le_refl 0
  | i + 1 => by
    unfold bestF
    have := bestF_le J h f d i
    split
    · exact Nat.le_refl _
    · omega
/-- behind the mask nothing is better -/
theorem bestF_mask {J : MS} {h f : Nat} {d : Int32} : ∀ r, mayM J h f d (nB J) + r < 2 ^ nB J → bestF J h f d (mayM J h f d (nB J) + r) = bestF J h f d (mayM J h f d (nB J))
  | 0, _ => rfl
  | r + 1, hr => by
    have ih := bestF_mask (J := J) (h := h) (f := f) (d := d) r (by omega)
    show (if wellM J h f d (mayM J h f d (nB J) + r + 1) ∧ _ then _ else bestF J h f d (mayM J h f d (nB J) + r)) = _
    rw [if_neg, ih]
    rintro ⟨w, -⟩
    have q := (well_iff (s := mayM J h f d (nB J) + r + 1) (by omega)).mpr w
    have : mayM J h f d (nB J) + r + 1 ≤ mayM J h f d (nB J) := by
      have e : (mayM J h f d (nB J) + r + 1) &&& mayM J h f d (nB J) = mayM J h f d (nB J) + r + 1 := by
        apply Nat.eq_of_testBit_eq
        intro j
        rw [Nat.testBit_and]
        cases t : (mayM J h f d (nB J) + r + 1).testBit j with
        | false => rfl
        | true => rw [q.1 j t]; rfl
      rw [← e]
      exact Nat.and_le_right
    omega
section
variable {ad : Nat → Nat} {J : MS} {S : XS} {x : Nat}
theorem XA.t12 {S S' : XS} (g : XA ad J S) (c : Chg (MR ad [12]) S S') : XA ad J S' := g.ask (c.mono (fun a _ ⟨r, hr, e⟩ => ⟨r, by simp at hr ⊢; omega, e⟩)) (fun _ _ => rfl)
theorem ex_prices (g : XA ad J S) {s : Nat} (hs : s < 2 ^ 31) (Q : Int32 → XS → Prop) (k1 : Q (hSum J s (nB J)) S) : wx_X0_prices Q S (some (ad 0)) (nI s) := by
  have nb := g.ji.nb.2
  have L : ∀ r k, k + r = nB J → wx_X0_prices_4 Q (r + 1) S (some (ad 0)) (nI s) (hSum J s k) (nI k) := by
    intro r
    induction r with
    | zero =>
      intro k hk
      have : k = nB J := by omega
      subst this
      unfold wx_X0_prices_4
      simp only [dr_some, g.k0, g.r2, g.bk.ls.1, g.bk.ls.size, true_and]
      rw [if_pos (by grind)]
      exact k1
    | succ r ih =>
      intro k hk
      have hk' : k < nB J := by omega
      have ih' := ih (k + 1) (by omega)
      unfold wx_X0_prices_4 wx_X0_prices_48
      simp only [dr_some, g.k0, g.r2, g.bk.ls.1, g.bk.ls.size, true_and]
      rw [if_neg (by rw [nIq_le (by omega) (by omega)]; omega), nI_bit hs (by omega)]
      simp only [g.bk.ls.get hk', dr_some, g.k0, g.kb hk', true_and, ex_price _ g hk', nI_tInc]
      unfold hSum at ih'
      by_cases z : s.testBit k = true
      · rw [if_pos z] at ih'
        rw [bI_t z, if_pos rfl]; exact ih'
      · rw [if_neg z] at ih'
        rw [bI_f z, if_neg (by decide)]; exact ih'
  exact ⟨nB J + 1, L (nB J) 0 (by omega)⟩
theorem ex_isFree (g : XA ad J S) {s : Nat} (hs : s < 2 ^ 31) (ha : ∀ i, i < nB J → xAI S (ad 12) i = nI (agM J i (nB J))) (Q : Int32 → XS → Prop) (k1 : Q (bI (freeM J s (nB J))) S) : wx_X0_isFree Q S (some (ad 0)) (nI s) := by
  have nb := g.ji.nb.2
  have k12 : xKD S (ad 12) = some 100 := g.k (by decide)
  have L : ∀ r k, k + r = nB J → freeM J s k → wx_X0_isFree_2 Q (r + 1) S (some (ad 0)) (nI s) (nI k) := by
    intro r
    induction r with
    | zero =>
      intro k hk fr
      have : k = nB J := by omega
      subst this
      unfold wx_X0_isFree_2
      simp only [dr_some, g.k0, g.r2, g.bk.ls.1, g.bk.ls.size, true_and]
      rw [if_pos (by grind)]
      rw [bI_t fr] at k1
      exact k1
    | succ r ih =>
      intro k hk fr
      have hk' : k < nB J := by omega
      have al := agM_lt J k (nB J)
      have a16 : 2 ^ nB J ≤ 2 ^ 16 := Nat.pow_le_pow_right (by decide) nb
      unfold wx_X0_isFree_2 wx_X0_isFree_37
      simp only [dr_some, g.k0, g.r2, g.bk.ls.1, g.bk.ls.size, true_and]
      rw [if_neg (by rw [nIq_le (by omega) (by omega)]; omega), nI_bit hs (by omega)]
      simp only [dr_some, g.f.r14, k12, g.b.l12, p_vpn (show k < 16 by omega) (show 16 < 2 ^ 31 by decide), p_tn (show k < 2 ^ 31 by omega), ha k hk', nI_and, true_and, nI_tInc]
      have lt : agM J k (nB J) &&& s < 2 ^ 31 := Nat.lt_of_le_of_lt Nat.and_le_left (by omega)
      have z0 := nIq_0 lt
      by_cases t : s.testBit k = true
      · rw [bI_t t, if_pos rfl]
        by_cases z : agM J k (nB J) &&& s = 0
        · rw [if_pos (z0.mpr z)]
          refine ih (k + 1) (by omega) (fun i hi hb => ?_)
          by_cases y : i = k
          · rw [y]; exact z
          · exact fr i (by omega) hb
        · rw [if_neg (fun y => z (z0.mp y))]
          rw [bI_f (fun y => z (y k hk' t))] at k1
          exact k1
      · rw [bI_f t, if_neg (by decide)]
        refine ih (k + 1) (by omega) (fun i hi hb => ?_)
        by_cases y : i = k
        · rw [y] at hb; exact absurd hb t
        · exact fr i (by omega) hb
  exact ⟨nB J + 1, L (nB J) 0 (by omega) (fun i hi => absurd hi (Nat.not_lt_zero i))⟩
theorem ex_mostOf (g : XA ad J S) {h f : Nat} (hh : h < 4) (hf : f < 2) (d : Int32) (Q : Int32 → XS → Prop) (k1 : ∀ S', Chg (MR ad [12]) S S' → Q (nI (bestF J h f d (mayM J h f d (nB J)))) S') : wx_X0_mostOf Q S (some (ad 0)) (nI h) (nI f) d := by
  have nb := g.ji.nb.2
  have p16 : 2 ^ nB J ≤ 2 ^ 16 := Nat.pow_le_pow_right (by decide) nb
  have ml := mayM_lt J h f d (nB J)
  have k12 : ∀ S', XA ad J S' → xKD S' (ad 12) = some 100 := fun S' g' => g'.k (by decide)
  -- all the sets
  have L3 : ∀ S', Chg (MR ad [12]) S S' → (∀ i, i < nB J → xAI S' (ad 12) i = nI (agM J i (nB J))) → ∀ r i, i + r = mayM J h f d (nB J) → wx_X0_mostOf_186 Q (r + 1) S' (some (ad 0)) (nI (mayM J h f d (nB J))) (nI (bestF J h f d i)) (hSum J (bestF J h f d i) (nB J)) (nI (i + 1)) := by
    intro S' c ha r
    have g' := g.t12 c
    induction r with
    | zero =>
      intro i hi
      unfold wx_X0_mostOf_186
      rw [if_pos (by rw [nIq_lt (by omega) (by omega)]; omega), show i = mayM J h f d (nB J) by omega]
      exact k1 S' c
    | succ r ih =>
      intro i hi
      have ih' := ih (i + 1) (by omega)
      unfold wx_X0_mostOf_186 wx_X0_mostOf_241
      rw [if_neg (by rw [nIq_lt (by omega) (by omega)]; omega)]
      simp only [nI_tInc]
      unfold bestF at ih'
      have wi := well_iff (J := J) (h := h) (f := f) (d := d) (s := i + 1) (by omega)
      have sb := nI_sub (s := i + 1) (m := mayM J h f d (nB J)) (by omega) (by omega)
      by_cases z1 : ∀ j, (i + 1).testBit j = true → (mayM J h f d (nB J)).testBit j = true
      · rw [if_pos (sb.mpr z1)]
        simp only [dr_some, g'.k0, true_and]
        refine ex_isFree g' (by omega) ha _ ?_
        rw [bI_ite]
        by_cases z2 : freeM J (i + 1) (nB J)
        · rw [if_pos z2]
          refine ⟨g'.k0, ex_prices g' (by omega) _ ?_⟩
          by_cases z3 : hSum J (bestF J h f d i) (nB J) < hSum J (i + 1) (nB J)
          · rw [if_pos z3]
            rw [if_pos ⟨wi.mp ⟨z1, z2⟩, z3⟩] at ih'
            exact ih'
          · rw [if_neg z3]
            rw [if_neg (fun y => z3 y.2)] at ih'
            exact ih'
        · rw [if_neg z2]
          rw [if_neg (fun y => z2 (wi.mpr y.1).2)] at ih'
          exact ih'
      · rw [if_neg (fun y => z1 (sb.mp y))]
        rw [if_neg (fun y => z1 (wi.mpr y.1).1)] at ih'
        exact ih'
  -- one that is against others
  have L2 : ∀ (K6 : XS → Option Nat → Int32 → Int32 → Int32 → Int32 → Int32 → Prop) (a4 : Int32) (k : Nat), k < nB J → (∀ S', Chg (MR ad [12]) S S' → (∀ i, i < k + 1 → xAI S' (ad 12) i = nI (agM J i (nB J))) → K6 S' (some (ad 0)) (nI h) (nI f) d a4 (nI (k + 1))) → ∀ r j, j + r = nB J → ∀ S', Chg (MR ad [12]) S S' → (∀ i, i < k → xAI S' (ad 12) i = nI (agM J i (nB J))) → xAI S' (ad 12) k = nI (agM J k j) → wx_X0_mostOf_103 Q K6 (r + 1) S' (some (ad 0)) (nI h) (nI f) d a4 (nI k) (some (ad (100 + k))) (nI j) := by
    intro K6 a4 k hk kk r
    induction r with
    | zero =>
      intro j hj S' c ha hak
      have g' := g.t12 c
      unfold wx_X0_mostOf_103
      simp only [dr_some, g'.k0, g'.r2, g'.bk.ls.1, g'.bk.ls.size, true_and, nI_tInc]
      rw [if_pos (by rw [nIq_le (by omega) (by omega)]; omega)]
      refine kk S' c (fun i hi => ?_)
      by_cases y : i = k
      · rw [y, hak, show j = nB J by omega]
      · exact ha i (by omega)
    | succ r ih =>
      intro j hj S' c ha hak
      have g' := g.t12 c
      have hj' : j < nB J := by omega
      have al := agM_lt J k j
      have a16 : 2 ^ j ≤ 2 ^ 16 := Nat.pow_le_pow_right (by decide) (by omega)
      have v : vp_in (nI k) 16 := p_vpn (by omega) (by decide)
      -- what is stored
      have st : ∀ w : Int32, nI (agM J k j) ||| w = nI (agM J k (j + 1)) → wx_X0_mostOf_103 Q K6 (r + 1) (sAI S' (ad 12) k (nI (agM J k j) ||| w)) (some (ad 0)) (nI h) (nI f) d a4 (nI k) (some (ad (100 + k))) (nI (j + 1)) := by
        intro w hw
        refine ih (j + 1) (by omega) _ (c.sAI (Or.inr ⟨12, by simp, rfl⟩) (some_ne (k12 S' g'))) (fun i hi => ?_) ?_
        · rw [xAI_sAI, if_pos rfl]
          unfold upd
          rw [if_neg (by omega)]
          exact ha i hi
        · rw [xAI_sAI, if_pos rfl]
          unfold upd
          rw [if_pos rfl]
          exact hw
      unfold wx_X0_mostOf_103 wx_X0_mostOf_162 wx_X0_mostOf_163
      simp only [dr_some, g'.k0, g'.r2, g'.bk.ls.1, g'.bk.ls.size, true_and, nI_tInc]
      rw [if_neg (by rw [nIq_le (by omega) (by omega)]; omega)]
      simp only [dr_some, g'.k0, g'.r2, g'.bk.ls.1, g'.bk.ls.get hj', g'.kb hj', g'.f.r14, k12 S' g', g'.b.l12, v, p_tn (show k < 2 ^ 31 by omega), hak, true_and, ex_clash _ g' hk hj', bI_ite]
      have es : agM J k (j + 1) = if j ≠ k ∧ pClash J k j then agM J k j ||| 2 ^ j else agM J k j := rfl
      by_cases z : j = k
      · rw [if_pos (by rw [z])]
        exact st 0 (by rw [es, if_neg (fun y => y.1 z), p_or0])
      · rw [if_neg (show ¬ nI j = nI k from nI_ne (by omega) (by omega) z)]
        by_cases y : pClash J k j
        · rw [if_pos y]
          exact st _ (by rw [es, if_pos ⟨z, y⟩, nI_setbit (by omega)])
        · rw [if_neg y]
          exact st 0 (by rw [es, if_neg (fun w => y w.2), p_or0])
  -- the bookings
  have L1 : ∀ r k, k + r = nB J → ∀ S', Chg (MR ad [12]) S S' → (∀ i, i < k → xAI S' (ad 12) i = nI (agM J i (nB J))) → wx_X0_mostOf_6 Q (r + 1) S' (some (ad 0)) (nI h) (nI f) d (nI (mayM J h f d k)) (nI k) := by
    intro r
    induction r with
    | zero =>
      intro k hk S' c ha
      have : k = nB J := by omega
      subst this
      have g' := g.t12 c
      unfold wx_X0_mostOf_6
      simp only [dr_some, g'.k0, g'.r2, g'.bk.ls.1, g'.bk.ls.size, true_and]
      rw [if_pos (by grind)]
      have z0 : hSum J 0 (nB J) = 0 := by
        have : ∀ n, hSum J 0 n = 0 := by
          intro n
          induction n with
          | zero => rfl
          | succ n ihn => unfold hSum; rw [ihn, Nat.zero_testBit, if_neg (by decide), p_add0]
        exact this _
      have := L3 S' c ha (mayM J h f d (nB J)) 0 (by omega)
      have b0 : bestF J h f d 0 = 0 := rfl
      rw [b0, z0] at this
      exact ⟨_, this⟩
    | succ r ih =>
      intro k hk S' c ha
      have g' := g.t12 c
      have hk' : k < nB J := by omega
      have v : vp_in (nI k) 16 := p_vpn (by omega) (by decide)
      obtain ⟨f0, f1, f2, f3, f4, f5, f6, f7, f8, f9, f10⟩ := g'.bf hk'
      obtain ⟨g0, g1⟩ := g'.ha h hh
      have go : ∀ w : Int32, nI (mayM J h f d k) ||| w = nI (mayM J h f d (k + 1)) → wx_X0_mostOf_89 Q (wx_X0_mostOf_6 Q (r + 1)) S' (some (ad 0)) (nI h) (nI f) d (nI k) (some (ad (100 + k))) (nI (mayM J h f d k)) w := by
        intro w hw
        unfold wx_X0_mostOf_89
        simp only [dr_some, g'.k0, g'.f.r14, k12 S' g', g'.b.l12, v, p_tn (show k < 2 ^ 31 by omega), true_and, hw]
        refine ⟨nB J + 1, L2 _ _ k hk' (fun S2 c2 ha2 => ih (k + 1) (by omega) S2 c2 ha2) (nB J) 0 (by omega) _ (c.sAI (Or.inr ⟨12, by simp, rfl⟩) (some_ne (k12 S' g'))) (fun i hi => ?_) ?_⟩
        · rw [xAI_sAI, if_pos rfl]
          unfold upd
          rw [if_neg (by omega)]
          exact ha i hi
        · rw [xAI_sAI, if_pos rfl]
          unfold upd
          rw [if_pos rfl]
          rfl
      have es : mayM J h f d (k + 1) = if pMay J h f d k then mayM J h f d k ||| 2 ^ k else mayM J h f d k := rfl
      have no : ¬ pMay J h f d k → wx_X0_mostOf_88 Q (wx_X0_mostOf_6 Q (r + 1)) S' (some (ad 0)) (nI h) (nI f) d (nI k) (some (ad (100 + k))) (nI (mayM J h f d k)) := by
        intro hn
        unfold wx_X0_mostOf_88
        exact go 0 (by rw [es, if_neg hn, p_or0])
      unfold wx_X0_mostOf_6
      simp only [dr_some, g'.k0, g'.r2, g'.bk.ls.1, g'.bk.ls.size, true_and]
      rw [if_neg (by rw [nIq_le (by omega) (by omega)]; omega)]
      simp only [g'.bk.ls.get hk', dr_some, g'.k0, g'.kb hk', ex_isAt _ g' hk', ex_there _ g' hk', bI_ite, true_and, g'.f.i10, g'.r1, g'.k (show 2 ≤ 12 by decide), show kr 2 = 104 from rfl, g'.b.l2, p_vpn hh (show 4 < 2 ^ 31 by decide), p_tn (show h < 2 ^ 31 by omega), g0, g1.ka, g1.r4, g1.kf, g1.lf, p_vpn hf (show 2 < 2 ^ 31 by decide), p_tn (show f < 2 ^ 31 by omega), g1.af f hf, f6]
      by_cases z1 : pAt J k (nI h) (nI f) d
      · rw [if_pos z1]
        by_cases z2 : pThere J k (J 27 0)
        · rw [if_pos z2]
          by_cases z3 : J 6 (2 * h + f) < oB J k 5
          · rw [if_pos z3]; exact no (fun y => by have q : oB J k 5 ≤ J 6 (2 * h + f) := y.2.2; grind)
          · rw [if_neg z3]
            have pm : pMay J h f d k := ⟨z1, z2, show oB J k 5 ≤ J 6 (2 * h + f) by grind⟩
            exact go _ (by rw [es, if_pos pm, nI_setbit (by omega)])
        · rw [if_neg z2]; exact no (fun y => z2 y.2.1)
      · rw [if_neg z1]; exact no (fun y => z1 y.1)
  exact ⟨nB J + 1, L1 (nB J) 0 (by omega) S (Chg.refl g.b.cl) (fun i hi => absurd hi (Nat.not_lt_zero i))⟩
end
