/-! PLAIN SIDE 33: the most of a floor (model) -/
theorem p_shlq {k : Nat} (h : k < 31) : (1 : Int32) <<< (nI k &&& 31) = nI (2 ^ k) := p_shl ⟨k, h⟩
def Sm (J' J : MS) : Prop := ∀ k, k ∉ kScr → J' k = J k
section
variable {J J' : MS}
theorem Sm.ji (e : Sm J' J) (g : JI J) : JI J' := g.cong (fun k hk => e k (not_mem_mono (K' := kFree) (by decide) hk))
theorem Sm.set (e : Sm J' J) {k i : Nat} {v : Int32} (hk : k ∈ kScr) : Sm (mset J' k i v) J := fun q hq => (mset_scr hk q hq).trans (e q hq)
theorem Sm.oB (e : Sm J' J) (b k : Nat) : oB J' b k = oB J b k := by
  show J' 25 _ = J 25 _
  rw [e 25 (by decide)]
theorem Sm.nB (e : Sm J' J) : nB J' = nB J := by
  show (J' 24 0).toNatClampNeg = (J 24 0).toNatClampNeg
  rw [e 24 (by decide)]
theorem Sm.hq (e : Sm J' J) (b : Nat) : hB J' b = hB J b := by unfold hB; rw [e.oB]
theorem Sm.uq (e : Sm J' J) (b : Nat) : uB J' b = uB J b := by unfold uB; rw [e.oB]
theorem Sm.price (e : Sm J' J) (b : Nat) : fPrice J' b = fPrice J b := by
  unfold fPrice
  simp only [e.oB, e.hq, e.uq, e 26 (by decide), e 7 (by decide), e 4 (by decide), e 5 (by decide)]
theorem Sm.there (e : Sm J' J) (b : Nat) (d : Int32) : pThere J' b d ↔ pThere J b d := by
  unfold pThere
  rw [e.oB, e 26 (by decide)]
theorem Sm.fire (e : Sm J' J) (b h f : Nat) : pFire J' b h f ↔ pFire J b h f := by
  unfold pFire
  rw [e.oB, e 6 (by decide)]
theorem Sm.clash (e : Sm J' J) (a b : Nat) : pClash J' a b ↔ pClash J a b := by
  unfold pClash pMeets
  rw [e.oB, e.oB, e.oB, e.oB, e.oB, e.oB, e.oB, e.oB, e.oB, e.oB, e.oB, e.oB, e.hq, e 2 (by decide)]
def agN (J : MS) (h f : Nat) (d : Int32) (b : Nat) : Nat → Nat
  | 0 => if pMay J h f d b then 0 else 2 ^ b
  | m + 1 => if pClash J m b then agN J h f d b m ||| 2 ^ m else agN J h f d b m
theorem agN_lt (J : MS) (h f : Nat) (d : Int32) (b : Nat) : ∀ m, m ≤ b → agN J h f d b m < 2 ^ (b + 1)
  | 0, _ => by
    unfold agN
    split
    · exact Nat.two_pow_pos _
    · exact Nat.pow_lt_pow_right (by decide) (by omega)
  | m + 1, hm => by
    unfold agN
    have := agN_lt J h f d b m (by omega)
    split
    · exact or_lt this (by omega)
    · exact this
theorem agN_bit (J : MS) (h f : Nat) (d : Int32) (b : Nat) : ∀ m j, (agN J h f d b m).testBit j = true ↔ (j = b ∧ ¬ pMay J h f d b) ∨ (j < m ∧ pClash J j b)
  | 0, j => by
    unfold agN
    by_cases p : pMay J h f d b
    · rw [if_pos p, Nat.zero_testBit]
      constructor
      · intro h; cases h
      · rintro (⟨_, h⟩ | ⟨h, _⟩)
        · exact absurd p h
        · exact absurd h (Nat.not_lt_zero j)
    · rw [if_neg p, Nat.testBit_two_pow, decide_eq_true_iff]
      constructor
      · intro z; exact Or.inl ⟨z.symm, p⟩
      · rintro (⟨z, _⟩ | ⟨z, _⟩)
        · exact z.symm
        · exact absurd z (Nat.not_lt_zero j)
  | m + 1, j => by
    unfold agN
    have ih := agN_bit J h f d b m j
    by_cases p : pClash J m b
    · rw [if_pos p, testBit_or, Bool.or_eq_true, ih, decide_eq_true_iff]
      constructor
      · rintro ((z | ⟨a, c⟩) | a)
        · exact Or.inl z
        · exact Or.inr ⟨by omega, c⟩
        · subst a; exact Or.inr ⟨by omega, p⟩
      · rintro (z | ⟨a, c⟩)
        · exact Or.inl (Or.inl z)
        · by_cases y : m = j
          · exact Or.inr y
          · exact Or.inl (Or.inr ⟨by omega, c⟩)
    · rw [if_neg p, ih]
      constructor
      · rintro (z | ⟨a, c⟩)
        · exact Or.inl z
        · exact Or.inr ⟨by omega, c⟩
      · rintro (z | ⟨a, c⟩)
        · exact Or.inl z
        · by_cases y : j = m
          · subst y; exact absurd c p
          · exact Or.inr ⟨by omega, c⟩
/-- bits of a set with its top one -/
theorem top_bit {t r j : Nat} (hr : r < 2 ^ t) : (2 ^ t + r).testBit j = true ↔ j = t ∨ r.testBit j = true := by
  have r_hi : ∀ j, t ≤ j → r.testBit j = false := fun j hj => Nat.testBit_lt_two_pow (Nat.lt_of_lt_of_le hr (Nat.pow_le_pow_right (by decide) hj))
  rcases Nat.lt_trichotomy j t with z | z | z
  · rw [Nat.testBit_two_pow_add_gt z]
    constructor
    · exact Or.inr
    · rintro (y | y)
      · omega
      · exact y
  · subst z
    rw [Nat.testBit_two_pow_add_eq, r_hi j (Nat.le_refl j)]
    simp
  · have : (2 ^ t + r).testBit j = false := by
      apply Nat.testBit_lt_two_pow
      have : 2 ^ (t + 1) ≤ 2 ^ j := Nat.pow_le_pow_right (by decide) (by omega)
      have e : 2 ^ (t + 1) = 2 ^ t * 2 := Nat.pow_succ 2 t
      omega
    rw [this, r_hi j (by omega)]
    constructor
    · intro h; cases h
    · rintro (y | y)
      · omega
      · cases y
theorem well_top {h f : Nat} {d : Int32} {t r : Nat} (hr : r < 2 ^ t) (ht : t < nB J) : wellM J h f d (2 ^ t + r) ↔ wellM J h f d r ∧ agN J h f d t t &&& (2 ^ t + r) = 0 := by
  constructor
  · rintro ⟨a, b⟩
    refine ⟨⟨fun k hk hb => a k hk ((top_bit hr).mpr (Or.inr hb)), fun k hk hb => noC2_iff.mpr (fun j hj hjb hne => ?_)⟩, and_zero.mpr (fun j hj hjb => ?_)⟩
    · exact noC2_iff.mp (b k hk ((top_bit hr).mpr (Or.inr hb))) j hj ((top_bit hr).mpr (Or.inr hjb)) hne
    · rcases (agN_bit J h f d t t j).mp hj with ⟨z1, z2⟩ | ⟨z1, z2⟩
      · exact z2 (a t ht ((top_bit hr).mpr (Or.inl rfl)))
      · exact noC2_iff.mp (b t ht ((top_bit hr).mpr (Or.inl rfl))) j (by omega) hjb (by omega) (pClash_comm.mp z2)
  · rintro ⟨⟨a, b⟩, c⟩
    have c' := and_zero.mp c
    have may : pMay J h f d t := by
      by_cases z : pMay J h f d t
      · exact z
      · exact absurd ((top_bit hr).mpr (Or.inl rfl)) (c' t ((agN_bit J h f d t t t).mpr (Or.inl ⟨rfl, z⟩)))
    have nc : ∀ j, r.testBit j = true → ¬ pClash J j t := fun j hj z => c' j ((agN_bit J h f d t t j).mpr (Or.inr ⟨tb_lt hr hj, z⟩)) ((top_bit hr).mpr (Or.inr hj))
    refine ⟨fun k hk hb => ?_, fun k hk hb => noC2_iff.mpr (fun j hj hjb hne => ?_)⟩
    · rcases (top_bit hr).mp hb with z | z
      · rw [z]; exact may
      · exact a k hk z
    · rcases (top_bit hr).mp hb with z | z
      · subst z
        rcases (top_bit hr).mp hjb with y | y
        · exact absurd y hne
        · exact fun w => nc j y (pClash_comm.mp w)
      · rcases (top_bit hr).mp hjb with y | y
        · subst y; exact fun w => nc k z w
        · exact noC2_iff.mp (b k hk z) j hj y hne
theorem hSum_top {t r : Nat} (hr : r < 2 ^ t) : ∀ k, (k ≤ t → hSum J (2 ^ t + r) k = hSum J r k) ∧ (t < k → hSum J (2 ^ t + r) k = hSum J r k + fPrice J t)
  | 0 => ⟨fun _ => rfl, fun h => absurd h (Nat.not_lt_zero t)⟩
  | k + 1 => by
    have ih := hSum_top hr k
    have r_hi : ∀ j, t ≤ j → ¬ r.testBit j = true := fun j hj z => by have := tb_lt hr z; omega
    refine ⟨fun h => ?_, fun h => ?_⟩
    · unfold hSum
      rw [ih.1 (by omega)]
      have : (2 ^ t + r).testBit k = true ↔ r.testBit k = true := by
        rw [top_bit hr]
        constructor
        · rintro (z | z)
          · omega
          · exact z
        · exact Or.inr
      by_cases z : r.testBit k = true
      · rw [if_pos z, if_pos (this.mpr z)]
      · rw [if_neg z, if_neg (fun y => z (this.mp y))]
    · unfold hSum
      by_cases z : k = t
      · subst z
        rw [ih.1 (Nat.le_refl k), if_pos ((top_bit hr).mpr (Or.inl rfl)), if_neg (r_hi k (Nat.le_refl k)), p_add0]
      · rw [ih.2 (by omega), if_neg (r_hi k (by omega)), if_neg (fun y => by rcases (top_bit hr).mp y with w | w; exact z w; exact r_hi k (by omega) w), p_add0, p_add0]
theorem nI_rest {t r : Nat} (ht : t < 31) (hr : r < 2 ^ t) : nI (2 ^ t + r) &&& (((1 : Int32) <<< (nI t &&& 31)) ^^^ (-1 : Int32)) = nI r := by
  have e1 : (-1 : Int32).toBitVec = BitVec.allOnes 32 := by decide
  have p31 : 2 ^ t ≤ 2 ^ 30 := Nat.pow_le_pow_right (by decide) (by omega)
  rw [p_shlq ht, ← Int32.toBitVec_inj, Int32.toBitVec_and, Int32.toBitVec_xor, nI_bv, nI_bv, nI_bv, e1]
  apply BitVec.eq_of_getLsbD_eq
  intro j hj
  simp only [BitVec.getLsbD_and, BitVec.getLsbD_xor, BitVec.getLsbD_ofNat, BitVec.getLsbD_allOnes]
  rw [decide_eq_true hj, Bool.true_and, Bool.true_and, Bool.true_and, Nat.testBit_two_pow]
  have tb := top_bit (j := j) hr
  cases e : (2 ^ t + r).testBit j with
  | false =>
    rw [Bool.false_and]
    cases e2 : r.testBit j with
    | false => rfl
    | true => rw [tb.mpr (Or.inr e2)] at e; cases e
  | true =>
    rw [Bool.true_and]
    rcases tb.mp e with z | z
    · rw [decide_eq_true z.symm]
      cases e2 : r.testBit j with
      | false => rfl
      | true => have := tb_lt hr e2; omega
    · have : ¬ t = j := by have := tb_lt hr z; omega
      rw [decide_eq_false this, z]
      rfl
theorem nar1 : vp_nar .boolean (1 : Int32) = 1 := rfl
theorem nar0 : vp_nar .boolean (0 : Int32) = 0 := rfl
/-- the sets, up from s -/
theorem em_sets (g : JI J) {h f : Nat} {d : Int32} (what : Int32) (Q : Int32 → MS → Prop) (k1 : ∀ J', Sm J' J → if what = 0 then Q (nI (bestF J h f d (2 ^ nB J - 1))) J' else Q (hSum J (bestF J h f d (2 ^ nB J - 1)) (nB J)) J') : ∀ r i tp J', i + 1 + r = 2 ^ nB J → ((i = 0 ∧ tp = 0) ∨ (2 ^ tp ≤ i ∧ i < 2 ^ (tp + 1))) → Sm J' J → (∀ k, k < nB J → J' 30 k = nI (agN J h f d k k)) → (∀ s, s < i + 1 → J' 28 s = bI (wellM J h f d s) ∧ J' 29 s = hSum J s (nB J)) → wm_most_213 Q (r + 1) J' what (nI (bestF J h f d i)) (nI tp) (nI (i + 1)) := by
  obtain ⟨n1, nb⟩ := g.nb
  have p16 : 2 ^ nB J ≤ 2 ^ 16 := Nat.pow_le_pow_right (by decide) nb
  intro r
  induction r with
  | zero =>
    intro i tp J' hi ht e ha hs
    unfold wm_most_213
    have n1' : J' 24 0 = nI (nB J) := by rw [e 24 (by decide)]; exact n1
    have bl := bestF_le J h f d i
    rw [n1', p_shlq (show nB J < 31 by omega), if_pos (by rw [nIq_le (by omega) (by omega)]; omega), p_tn (by omega)]
    have k := k1 J' e
    rw [show 2 ^ nB J - 1 = i by omega] at k
    by_cases z : what = 0
    · rw [if_pos z] at k ⊢; exact k
    · rw [if_neg z] at k ⊢
      refine ⟨p_vpn (by omega) (by decide), ?_⟩
      rw [(hs _ (by omega)).2]
      exact k
  | succ r ih =>
    intro i tp J' hi ht e ha hs
    have n1' : J' 24 0 = nI (nB J) := by rw [e 24 (by decide)]; exact n1
    have bl := bestF_le J h f d i
    -- the top bit of i + 1
    have top : ∃ t, (∀ (A B : Prop), (if nI ((i + 1) >>> (tp + 1)) ≤ 0 then A else B) = (if t = tp then A else B)) ∧ (t = tp ∨ t = tp + 1) ∧ 2 ^ t ≤ i + 1 ∧ i + 1 < 2 ^ (t + 1) := by
      have sr : (i + 1) >>> (tp + 1) ≤ i + 1 := Nat.shiftRight_le _ _
      have e0 : nI ((i + 1) >>> (tp + 1)) ≤ 0 ↔ (i + 1) >>> (tp + 1) = 0 := by
        show nI _ ≤ nI 0 ↔ _
        rw [nIq_le (by omega) (by omega)]
        exact Nat.le_zero
      have e1 : (i + 1) >>> (tp + 1) = 0 ↔ i + 1 < 2 ^ (tp + 1) := by
        rw [Nat.shiftRight_eq_div_pow, Nat.div_eq_zero_iff]
        have : 0 < 2 ^ (tp + 1) := Nat.two_pow_pos _
        omega
      have p1 : 2 ^ (tp + 1) = 2 ^ tp * 2 := Nat.pow_succ 2 tp
      have p2 : 2 ^ (tp + 1 + 1) = 2 ^ (tp + 1) * 2 := Nat.pow_succ 2 (tp + 1)
      have p0 : 0 < 2 ^ tp := Nat.two_pow_pos _
      by_cases z : i + 1 < 2 ^ (tp + 1)
      · refine ⟨tp, fun A B => ?_, Or.inl rfl, ?_, z⟩
        · rw [if_pos (e0.mpr (e1.mpr z)), if_pos rfl]
        · rcases ht with ⟨h1, h2⟩ | ⟨h1, h2⟩
          · subst h1 h2; decide
          · omega
      · refine ⟨tp + 1, fun A B => ?_, Or.inr rfl, by omega, ?_⟩
        · rw [if_neg (fun y => z (e1.mp (e0.mp y))), if_neg (by omega)]
        · rcases ht with ⟨h1, h2⟩ | ⟨h1, h2⟩
          · subst h1 h2; exact absurd (by decide : 0 + 1 < 2 ^ (0 + 1)) z
          · omega
    obtain ⟨t, tc, tt, t1, t2⟩ := top
    have p1 : 2 ^ (t + 1) = 2 ^ t * 2 := Nat.pow_succ 2 t
    obtain ⟨rs, hrs⟩ : ∃ rs, i + 1 = 2 ^ t + rs := ⟨i + 1 - 2 ^ t, by omega⟩
    have hr : rs < 2 ^ t := by omega
    have p0 : 0 < 2 ^ t := Nat.two_pow_pos _
    have tn : t < nB J := by
      rcases Nat.lt_or_ge t (nB J) with z | z
      · exact z
      · have : 2 ^ nB J ≤ 2 ^ t := Nat.pow_le_pow_right (by decide) z
        omega
    have tp31 : tp + 1 < 32 := by omega
    -- what comes behind
    have nxt : ∀ (J2 : MS), Sm J2 J → (∀ k, k < nB J → J2 30 k = nI (agN J h f d k k)) → (∀ s, s < i + 1 + 1 → J2 28 s = bI (wellM J h f d s) ∧ J2 29 s = hSum J s (nB J)) → wm_most_213 Q (r + 1) J2 what (nI (bestF J h f d (i + 1))) (nI t) (nI (i + 1 + 1)) := fun J2 e2 ha2 hs2 => ih (i + 1) t J2 (by omega) (Or.inr ⟨t1, t2⟩) e2 ha2 hs2
    have body : ∀ v : Int32, v = bI (wellM J h f d (i + 1)) → wm_most_289 Q (wm_most_213 Q (r + 1)) J' what (nI (bestF J h f d i)) (nI t) (nI (i + 1)) (nI rs) (nI (i + 1)) v := by
      intro v hv
      unfold wm_most_289
      have ng : vp_nar .boolean v = v := by
        rw [hv]
        by_cases z : wellM J h f d (i + 1)
        · rw [bI_t z]; rfl
        · rw [bI_f z]; rfl
      have e1 : Sm (mset J' 28 (i + 1) v) J := e.set (by decide)
      have ji1 := e1.ji g
      rw [p_tn (show i + 1 < 2 ^ 31 by omega), p_tn (show rs < 2 ^ 31 by omega), ng]
      refine ⟨p_vpn (by omega) (by decide), p_vpn (by omega) (by decide), ?_⟩
      rw [em_price _ ji1 (by rw [e1.nB]; exact tn), e1.price, ms_ne (show 29 ≠ 28 by decide), (hs rs (by omega)).2]
      have hsum : hSum J rs (nB J) + fPrice J t = hSum J (i + 1) (nB J) := by rw [hrs]; exact ((hSum_top hr (nB J)).2 tn).symm
      rw [hsum]
      have e2 : Sm (mset (mset J' 28 (i + 1) v) 29 (i + 1) (hSum J (i + 1) (nB J))) J := e1.set (by decide)
      have a2 : ∀ k, k < nB J → mset (mset J' 28 (i + 1) v) 29 (i + 1) (hSum J (i + 1) (nB J)) 30 k = nI (agN J h f d k k) := fun k hk => by rw [ms_ne (by decide), ms_ne (by decide)]; exact ha k hk
      have s2 : ∀ s, s < i + 1 + 1 → mset (mset J' 28 (i + 1) v) 29 (i + 1) (hSum J (i + 1) (nB J)) 28 s = bI (wellM J h f d s) ∧ mset (mset J' 28 (i + 1) v) 29 (i + 1) (hSum J (i + 1) (nB J)) 29 s = hSum J s (nB J) := by
        intro s hs'
        rw [ms_ne (show 28 ≠ 29 by decide), ms_eq, ms_eq, ms_ne (show 29 ≠ 28 by decide)]
        by_cases z : s = i + 1
        · rw [if_pos z, if_pos z, z]; exact ⟨hv, rfl⟩
        · rw [if_neg z, if_neg z]; exact hs s (by omega)
      have n := nxt _ e2 a2 s2
      have q28 := (s2 (i + 1) (by omega)).1
      have q29 := (s2 (i + 1) (by omega)).2
      have q29b := (s2 (bestF J h f d i) (by omega)).2
      generalize mset (mset J' 28 (i + 1) v) 29 (i + 1) (hSum J (i + 1) (nB J)) = J2 at *
      refine ⟨p_vpn (by omega) (by decide), p_vpn (by omega) (by decide), ?_⟩
      rw [q28, bI_ite]
      unfold wm_most_343 wm_most_345
      rw [nI_tInc]
      unfold bestF at n
      by_cases z : wellM J h f d (i + 1)
      · rw [if_pos z]
        refine ⟨p_vpn (by omega) (by decide), p_vpn (by omega) (by decide), ?_⟩
        rw [q29, p_tn (show bestF J h f d i < 2 ^ 31 by omega), q29b]
        by_cases y : hSum J (i + 1) (nB J) ≤ hSum J (bestF J h f d i) (nB J)
        · rw [if_pos y]
          rw [if_neg (fun w => by have := w.2; grind)] at n
          exact n
        · rw [if_neg y]
          rw [if_pos ⟨z, by grind⟩] at n
          exact n
      · rw [if_neg z]
        rw [if_neg (fun w => z w.1)] at n
        exact n
    have B : wm_most_241 Q (wm_most_213 Q (r + 1)) J' what (nI (bestF J h f d i)) (nI (i + 1)) (nI t) 0 := by
      unfold wm_most_241 wm_most_288
      rw [p_add0]
      have rest : nI (i + 1) &&& (((1 : Int32) <<< (nI t &&& 31)) ^^^ (-1 : Int32)) = nI rs := by rw [hrs]; exact nI_rest (by omega) hr
      rw [rest, p_tn (show rs < 2 ^ 31 by omega), (hs rs (by omega)).1, bI_ite, p_tn (show t < 2 ^ 31 by omega), ha t tn, nI_and]
      have al := agN_lt J h f d t t (Nat.le_refl t)
      have lt : agN J h f d t t &&& (i + 1) < 2 ^ 31 := Nat.lt_of_le_of_lt Nat.and_le_right (by omega)
      have z0 := nIq_0 lt
      have wt := well_top (J := J) (h := h) (f := f) (d := d) hr tn
      rw [← hrs] at wt
      refine ⟨p_vpn (by omega) (by decide), ?_⟩
      by_cases w : wellM J h f d rs
      · rw [if_pos w]
        refine ⟨p_vpn (by omega) (by decide), ?_⟩
        by_cases y : agN J h f d t t &&& (i + 1) = 0
        · rw [if_pos (z0.mpr y)]
          exact body 1 (bI_t (wt.mpr ⟨w, y⟩)).symm
        · rw [if_neg (fun v => y (z0.mp v))]
          exact body 0 (bI_f (fun v => y (wt.mp v).2)).symm
      · rw [if_neg w]
        exact body 0 (bI_f (fun v => w (wt.mp v).1)).symm
    unfold wm_most_213
    rw [n1', p_shlq (show nB J < 31 by omega), if_neg (by rw [nIq_le (by omega) (by omega)]; omega), nI_tInc, nI_shr (by omega) tp31, tc]
    by_cases z : t = tp
    · rw [if_pos z, ← z]; exact B
    · rw [if_neg z]
      have tq : t = tp + 1 := by rcases tt with y | y; exact absurd y z; exact y
      have c : wm_most_241 Q (wm_most_213 Q (r + 1)) J' what (nI (bestF J h f d i)) (nI (i + 1)) (nI tp) 1 = wm_most_241 Q (wm_most_213 Q (r + 1)) J' what (nI (bestF J h f d i)) (nI (i + 1)) (nI t) 0 := by
        unfold wm_most_241
        rw [p_add0, nI_tInc, tq]
      rw [c]
      exact B
end
