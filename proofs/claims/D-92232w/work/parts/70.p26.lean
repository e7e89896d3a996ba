/-! PLAIN SIDE 26: orders by time; coins run -/
theorem cposR_cong {R R' : Nat → Prop} [∀ i, Decidable (R i)] [∀ i, Decidable (R' i)] : ∀ n, (∀ i, i < n → (R i ↔ R' i)) → cposR R n = cposR R' n
  | 0, _ => rfl
  | n + 1, h => by
    unfold cposR
    rw [cposR_cong n (fun i hi => h i (by omega))]
    by_cases z : R n
    · rw [if_pos z, if_pos ((h n (by omega)).mp z)]
    · rw [if_neg z, if_neg (fun y => z ((h n (by omega)).mpr y))]
theorem cpos_R (t : Nat → Int32) (v : Int32) : ∀ n, cpos t v n = cposR (fun i => v < t i) n
  | 0 => rfl
  | n + 1 => by
    unfold cpos cposR
    rw [cpos_R t v n]
def tk1 (t : Nat → Int32) (i : Nat) : Int := (t i).toInt
def tk2 (i : Nat) : Int := 0
theorem ordF_ok (t : Nat → Int32) : ∀ n, KOrd (tk1 t) tk2 (fun _ => True) n n (ordF t n)
  | 0 => KOrd.nil _ _ _ _
  | n + 1 => by
    have h := (ordF_ok t n).ins trivial
    have e : cposR (fun i => kah (tk1 t) tk2 n (ordF t n i)) n = cpos (fun i => t (ordF t n i)) (t n) n := by
      rw [cpos_R]
      refine cposR_cong n (fun i hi => ?_)
      show (_ ∨ _) ↔ t n < t (ordF t n i)
      rw [p_lt]
      unfold tk1 tk2
      omega
    rw [e] at h
    exact h
/-- the mask of those of P among the first j -/
def mskP (P : Nat → Prop) [∀ b, Decidable (P b)] (f : Nat → Nat) : Nat → Nat
  | 0 => 0
  | j + 1 => if P (f j) then mskP P f j ||| 2 ^ f j else mskP P f j
theorem mskP_bit (P : Nat → Prop) [∀ b, Decidable (P b)] (f : Nat → Nat) : ∀ j b, (mskP P f j).testBit b = true ↔ ∃ i, i < j ∧ f i = b ∧ P b
  | 0, b => by
    unfold mskP
    rw [Nat.zero_testBit]
    constructor
    · intro h; cases h
    · rintro ⟨i, h, _⟩; exact absurd h (Nat.not_lt_zero i)
  | j + 1, b => by
    unfold mskP
    by_cases p : P (f j)
    · rw [if_pos p, testBit_or, Bool.or_eq_true, mskP_bit P f j b, decide_eq_true_iff]
      constructor
      · rintro (⟨i, h, e⟩ | h)
        · exact ⟨i, by omega, e⟩
        · exact ⟨j, by omega, h, h ▸ p⟩
      · rintro ⟨i, h, e, pb⟩
        by_cases z : i = j
        · right; rw [← z]; exact e
        · left; exact ⟨i, by omega, e, pb⟩
    · rw [if_neg p, mskP_bit P f j b]
      constructor
      · rintro ⟨i, h, e⟩; exact ⟨i, by omega, e⟩
      · rintro ⟨i, h, e, pb⟩
        by_cases z : i = j
        · subst z; rw [e] at p; exact absurd pb p
        · exact ⟨i, by omega, e, pb⟩
theorem mskP_lt {P : Nat → Prop} [∀ b, Decidable (P b)] {f : Nat → Nat} {m : Nat} : ∀ j, (∀ i, i < j → f i < m) → mskP P f j < 2 ^ m
  | 0, _ => Nat.two_pow_pos m
  | j + 1, h => by
    unfold mskP
    have := mskP_lt (P := P) j (fun i hi => h i (by omega))
    split
    · exact or_lt this (h j (by omega))
    · exact this
theorem KOrd.scanP {k1 k2 : Nat → Int} {m : Nat} {f : Nat → Nat} (h : KOrd k1 k2 (fun _ => True) m m f) (P : Nat → Prop) [∀ b, Decidable (P b)] {j : Nat} (hj : j < m) (pj : P (f j)) : scanF k1 k2 (fun b => P b ∧ ¬ (mskP P f j).testBit b = true) m = some (f j) := by
  have bit := mskP_bit P f j
  have cj : P (f j) ∧ ¬ (mskP P f j).testBit (f j) = true := ⟨pj, fun w => by
    obtain ⟨i, i1, i2, -⟩ := (bit (f j)).mp w
    have := h.inj (by omega) hj i2
    omega⟩
  cases e : scanF k1 k2 (fun b => P b ∧ ¬ (mskP P f j).testBit b = true) m with
  | none => exact absurd cj (scanF_none _ _ _ m e (f j) (h.mem j hj).1)
  | some a =>
    obtain ⟨a1, ⟨a2, a3⟩, a4⟩ := scanF_some _ _ _ m a e
    obtain ⟨i, i1, i2⟩ := h.all a a1 trivial
    have ij : j ≤ i := by
      rcases Nat.lt_or_ge i j with w | w
      · exact absurd ((bit a).mpr ⟨i, w, i2, a2⟩) a3
      · exact w
    rcases a4 (f j) (h.mem j hj).1 cj with w | w
    · rw [w]
    · by_cases y : i = j
      · rw [← i2, y]
      · have := h.lt j i (by omega) i1
        rw [i2] at this
        unfold klt at this w; omega
theorem KOrd.scanPn {k1 k2 : Nat → Int} {m : Nat} {f : Nat → Nat} (h : KOrd k1 k2 (fun _ => True) m m f) (P : Nat → Prop) [∀ b, Decidable (P b)] : scanF k1 k2 (fun b => P b ∧ ¬ (mskP P f m).testBit b = true) m = none := by
  cases e : scanF k1 k2 (fun b => P b ∧ ¬ (mskP P f m).testBit b = true) m with
  | none => rfl
  | some a =>
    obtain ⟨a1, ⟨a2, a3⟩, -⟩ := scanF_some _ _ _ m a e
    obtain ⟨i, i1, i2⟩ := h.all a a1 trivial
    exact absurd ((mskP_bit P f m a).mpr ⟨i, i1, i2, a2⟩) a3
def nL64 (n : Nat) : Int64 := Int64.ofNat n
theorem q_sh : ∀ k : Fin 40, ((Int32.toInt64 (nI k.val) &&& 63).toBitVec.smod 64) = BitVec.ofNat 64 k.val := by decide +kernel
theorem q_shl : ∀ k : Fin 40, (1 : Int64) <<< (Int32.toInt64 (nI k.val) &&& 63) = nL64 (2 ^ k.val) := by decide +kernel
theorem nL_bv (n : Nat) : (nL64 n).toBitVec = BitVec.ofNat 64 n := rfl
theorem nL_or (a b : Nat) : nL64 a ||| nL64 b = nL64 (a ||| b) := by
  rw [← Int64.toBitVec_inj, Int64.toBitVec_or, nL_bv, nL_bv, nL_bv]
  apply BitVec.eq_of_toNat_eq
  simp [xSall, Nat.or_mod_two_pow]
theorem nL_and (a b : Nat) : nL64 a &&& nL64 b = nL64 (a &&& b) := by
  rw [← Int64.toBitVec_inj, Int64.toBitVec_and, nL_bv, nL_bv, nL_bv]
  apply BitVec.eq_of_toNat_eq
  simp [xSall, Nat.and_mod_two_pow]
theorem nL_shr {n k : Nat} (hn : n < 2 ^ 40) (hk : k < 40) : nL64 n >>> (Int32.toInt64 (nI k) &&& 63) = nL64 (n >>> k) := by
  rw [← Int64.toBitVec_inj, Int64.toBitVec_shiftRight, q_sh ⟨k, hk⟩, nL_bv, nL_bv]
  apply BitVec.eq_of_toNat_eq
  have h1 : (BitVec.ofNat 64 n).msb = false := by
    rw [BitVec.msb_eq_false_iff_two_mul_lt, BitVec.toNat_ofNat]
    omega
  show (BitVec.sshiftRight (BitVec.ofNat 64 n) (BitVec.ofNat 64 k).toNat).toNat = _
  rw [BitVec.sshiftRight_eq_of_msb_false h1, BitVec.toNat_ushiftRight, BitVec.toNat_ofNat, BitVec.toNat_ofNat, BitVec.toNat_ofNat, Nat.mod_eq_of_lt (show k < 2 ^ 64 by omega), Nat.mod_eq_of_lt (show n < 2 ^ 64 by omega)]
  have : n >>> k ≤ n := Nat.shiftRight_le n k
  rw [Nat.mod_eq_of_lt (by omega)]
theorem nL_bit {n k : Nat} (hn : n < 2 ^ 40) (hk : k < 40) : (lg_cmp ((nL64 n >>> (Int32.toInt64 (nI k) &&& 63)) &&& 1) 0 = 0) ↔ ¬ n.testBit k = true := by
  have e1 : (1 : Int64) = nL64 1 := rfl
  have hb : n.testBit k = (1 &&& (n >>> k) != 0) := rfl
  rw [nL_shr hn hk, e1, nL_and, hb, Nat.and_comm 1 (n >>> k), Nat.and_one_is_mod]
  rcases Nat.mod_two_eq_zero_or_one (n >>> k) with h | h
  · rw [h]; decide
  · rw [h]; decide
theorem nL_setbit {n k : Nat} (hk : k < 40) : nL64 n ||| ((1 : Int64) <<< (Int32.toInt64 (nI k) &&& 63)) = nL64 (n ||| 2 ^ k) := by
  rw [q_shl ⟨k, hk⟩, nL_or]
/-- a coin's part: till t (a quarter), from an end and a sum -/
def rStart (e at_ : Int32) : Int32 := if e < 15 * at_ then 15 * at_ else e
def rStop (s m T : Int32) : Int32 := if T < s + m then T else s + m
abbrev pRun (J : MS) (h t : Int32) (i : Nat) : Prop := J 34 i = h ∧ J 35 i ≤ t
def rFold (J : MS) (h t : Int32) (f : Nat → Nat) : Nat → Int32 × Int32
  | 0 => (0, 0)
  | j + 1 => if pRun J h t (f j) then
      (rStart (rFold J h t f j).1 (J 35 (f j)) + J 36 (f j), (rFold J h t f j).2 + (if rStart (rFold J h t f j).1 (J 35 (f j)) < rStop (rStart (rFold J h t f j).1 (J 35 (f j))) (J 36 (f j)) (15 * t) then rStop (rStart (rFold J h t f j).1 (J 35 (f j))) (J 36 (f j)) (15 * t) - rStart (rFold J h t f j).1 (J 35 (f j)) else 0))
    else rFold J h t f j
def fRun (J : MS) (h t : Int32) : Int32 := (rFold J h t (ordF (J 35) (nC J)) (nC J)).2
theorem rFold_bd {J : MS} (g : JI J) (h t : Int32) : ∀ j, j ≤ nC J → 0 ≤ (rFold J h t (ordF (J 35) (nC J)) j).1.toInt ∧ (rFold J h t (ordF (J 35) (nC J)) j).1.toInt ≤ 525585 + 600 * j := by
  intro j
  induction j with
  | zero => intro _; unfold rFold; exact ⟨by decide, by show (0 : Int32).toInt ≤ _; have : (0 : Int32).toInt = 0 := rfl; omega⟩
  | succ j ih =>
    intro hj
    have ihj := ih (by omega)
    have hf := ordF_lt (J 35) (nC J) j (by omega)
    have c := g.coi _ hf
    have n2 := g.nc.2
    unfold rFold
    split
    · show 0 ≤ (rStart (rFold J h t (ordF (J 35) (nC J)) j).1 (J 35 (ordF (J 35) (nC J) j)) + J 36 (ordF (J 35) (nC J) j)).toInt ∧ _ ≤ _
      have s : 0 ≤ (rStart (rFold J h t (ordF (J 35) (nC J)) j).1 (J 35 (ordF (J 35) (nC J) j))).toInt ∧ (rStart (rFold J h t (ordF (J 35) (nC J)) j).1 (J 35 (ordF (J 35) (nC J) j))).toInt ≤ 525585 + 600 * j := by
        unfold rStart
        split
        · rw [p_mul15 c.2.1]; omega
        · exact ihj
      rw [p_addB (by omega) (by omega)]
      omega
    · omega
section
variable {ad : Nat → Nat} {J : MS} {S : XS} {x : Nat}
theorem p_subC {a b : Int32} (ha : -1000000 ≤ a.toInt ∧ a.toInt ≤ 1000000) (hb : -1000000 ≤ b.toInt ∧ b.toInt ≤ 1000000) : (a - b).toInt = a.toInt - b.toInt := by
  rw [Int32.toInt_sub, Int.bmod_eq_of_le] <;> omega
theorem rPart {s m T : Int32} (hs : 0 ≤ s.toInt ∧ s.toInt ≤ 600000) (hm : 1 ≤ m.toInt ∧ m.toInt ≤ 600) (hT : 0 ≤ T.toInt ∧ T.toInt ≤ 600000) : (0 < rStop s m T - s) ↔ s < rStop s m T := by
  have hst : 0 ≤ (rStop s m T).toInt ∧ (rStop s m T).toInt ≤ 600600 := by
    unfold rStop
    split
    · omega
    · rw [p_addB (by omega) (by omega)]; omega
  rw [p_lt, p_lt, p_subC (by omega) (by omega)]
  have : (0 : Int32).toInt = 0 := rfl
  omega
theorem ex_runOf (g : XA ad J S) (h t : Int32) (ht : 0 ≤ t.toInt ∧ t.toInt ≤ 35040) (Q : Int32 → XS → Prop) (k1 : Q (fRun J h t) S) : wx_X0_runOf Q S (some (ad 0)) h (15 * t) := by
  obtain ⟨n1, n2⟩ := g.ji.nc
  obtain ⟨L, l, hl⟩ := g.co
  have eT : (15 * t).toInt = 15 * t.toInt := by
    have : (15 : Int32).toInt = 15 := rfl
    rw [Int32.toInt_mul, this, Int.bmod_eq_of_le] <;> omega
  have loop : ∀ r j, j + r = nC J → wx_X0_runOf_8 Q (r + 1) S (some (ad 0)) h (15 * t) (rFold J h t (ordF (J 35) (nC J)) j).1 (rFold J h t (ordF (J 35) (nC J)) j).2 (nI j) := by
    intro r
    induction r with
    | zero =>
      intro j hj
      have : j = nC J := by omega
      subst this
      unfold wx_X0_runOf_8
      simp only [dr_some, g.k0, g.r3, l.1, l.size, true_and]
      rw [if_pos (by grind)]
      exact k1
    | succ r ih =>
      intro j hj
      have hj' : j < nC J := by omega
      obtain ⟨q0, q1, q2, q3, q4⟩ := hl j hj'
      have q1 : xFI S 900 (L j) = J 34 (ordF (J 35) (nC J) j) := q1
      have q2 : xFI S 901 (L j) = 15 * J 35 (ordF (J 35) (nC J) j) := q2
      have q3 : xFI S 902 (L j) = J 36 (ordF (J 35) (nC J) j) := q3
      have hf := ordF_lt (J 35) (nC J) j hj'
      have c := g.ji.coi _ hf
      have bd := rFold_bd g.ji h t j (by omega)
      unfold wx_X0_runOf_8 wx_X0_runOf_96
      simp only [dr_some, g.k0, g.r3, l.1, l.size, true_and]
      rw [if_neg (by rw [nIq_le (by omega) (by omega)]; omega)]
      simp only [l.get hj', dr_some, q0, true_and, q1, q2, q3, nI_tInc]
      have ih' := ih (j + 1) (by omega)
      unfold rFold at ih'
      generalize ordF (J 35) (nC J) j = i at *
      generalize (rFold J h t (ordF (J 35) (nC J)) j) = p at *
      by_cases z1 : J 34 i = h
      · rw [if_pos z1]
        by_cases z2 : J 35 i ≤ t
        · have z2' : 15 * J 35 i ≤ 15 * t := by rw [p_le] at z2 ⊢; rw [eT, p_mul15 c.2.1]; omega
          rw [if_pos z2']
          rw [if_pos (show pRun J h t i from ⟨z1, z2⟩)] at ih'
          have hs : 0 ≤ (rStart p.1 (J 35 i)).toInt ∧ (rStart p.1 (J 35 i)).toInt ≤ 600000 := by
            unfold rStart
            split
            · rw [p_mul15 c.2.1]; omega
            · omega
          have rp := rPart hs c.2.2 (T := 15 * t) (by omega)
          have fin : (if 0 < rStop (rStart p.1 (J 35 i)) (J 36 i) (15 * t) - rStart p.1 (J 35 i) then rStop (rStart p.1 (J 35 i)) (J 36 i) (15 * t) - rStart p.1 (J 35 i) else 0) = (if rStart p.1 (J 35 i) < rStop (rStart p.1 (J 35 i)) (J 36 i) (15 * t) then rStop (rStart p.1 (J 35 i)) (J 36 i) (15 * t) - rStart p.1 (J 35 i) else 0) := by
            by_cases y : rStart p.1 (J 35 i) < rStop (rStart p.1 (J 35 i)) (J 36 i) (15 * t)
            · rw [if_pos y, if_pos (rp.mpr y)]
            · rw [if_neg y, if_neg (fun w => y (rp.mp w))]
          rw [← fin] at ih'
          exact ih'
        · have z2' : ¬ 15 * J 35 i ≤ 15 * t := by rw [p_le] at z2 ⊢; rw [eT, p_mul15 c.2.1]; omega
          rw [if_neg z2']
          rw [if_neg (show ¬ pRun J h t i from fun w => z2 w.2)] at ih'
          exact ih'
      · rw [if_neg z1]
        rw [if_neg (show ¬ pRun J h t i from fun w => z1 w.1)] at ih'
        exact ih'
  exact ⟨nC J + 1, loop (nC J) 0 (by omega)⟩
end
