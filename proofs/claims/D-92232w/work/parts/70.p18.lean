/-! PLAIN SIDE 18: bits; orders by keys -/
theorem p_sh : ∀ k : Fin 32, ((nI k.val &&& 31).toBitVec.smod 32) = BitVec.ofNat 32 k.val := by decide +kernel
theorem p_shl : ∀ k : Fin 31, (1 : Int32) <<< (nI k.val &&& 31) = nI (2 ^ k.val) := by decide +kernel
theorem nI_bv (n : Nat) : (nI n).toBitVec = BitVec.ofNat 32 n := rfl
theorem nI_or (a b : Nat) : nI a ||| nI b = nI (a ||| b) := by
  rw [← Int32.toBitVec_inj, Int32.toBitVec_or, nI_bv, nI_bv, nI_bv]
  apply BitVec.eq_of_toNat_eq
  simp [xSall, Nat.or_mod_two_pow]
theorem nI_and (a b : Nat) : nI a &&& nI b = nI (a &&& b) := by
  rw [← Int32.toBitVec_inj, Int32.toBitVec_and, nI_bv, nI_bv, nI_bv]
  apply BitVec.eq_of_toNat_eq
  simp [xSall, Nat.and_mod_two_pow]
theorem nI_shr {n k : Nat} (hn : n < 2 ^ 31) (hk : k < 32) : nI n >>> (nI k &&& 31) = nI (n >>> k) := by
  rw [← Int32.toBitVec_inj, Int32.toBitVec_shiftRight, p_sh ⟨k, hk⟩, nI_bv, nI_bv]
  apply BitVec.eq_of_toNat_eq
  have h1 : (BitVec.ofNat 32 n).msb = false := by
    rw [BitVec.msb_eq_false_iff_two_mul_lt, BitVec.toNat_ofNat]
    omega
  show (BitVec.sshiftRight (BitVec.ofNat 32 n) (BitVec.ofNat 32 k).toNat).toNat = _
  rw [BitVec.sshiftRight_eq_of_msb_false h1, BitVec.toNat_ushiftRight, BitVec.toNat_ofNat, BitVec.toNat_ofNat, BitVec.toNat_ofNat, Nat.mod_eq_of_lt (show k < 2 ^ 32 by omega), Nat.mod_eq_of_lt (show n < 2 ^ 32 by omega)]
  have : n >>> k ≤ n := Nat.shiftRight_le n k
  rw [Nat.mod_eq_of_lt (by omega)]
theorem nI_bit {n k : Nat} (hn : n < 2 ^ 31) (hk : k < 31) : (nI n >>> (nI k &&& 31)) &&& 1 = bI (n.testBit k = true) := by
  have e1 : (1 : Int32) = nI 1 := rfl
  rw [nI_shr hn (by omega), e1, nI_and]
  have hb : n.testBit k = (1 &&& (n >>> k) != 0) := rfl
  rw [hb, Nat.and_comm, Nat.and_comm 1 (n >>> k), Nat.and_one_is_mod]
  rcases Nat.mod_two_eq_zero_or_one (n >>> k) with h | h
  · rw [h]; rfl
  · rw [h]; rfl
theorem nI_setbit {n k : Nat} (hk : k < 31) : nI n ||| ((1 : Int32) <<< (nI k &&& 31)) = nI (n ||| 2 ^ k) := by
  rw [p_shl ⟨k, hk⟩, nI_or]
theorem or_lt {n k m : Nat} (hn : n < 2 ^ m) (hk : k < m) : n ||| 2 ^ k < 2 ^ m := Nat.or_lt_two_pow hn (Nat.pow_lt_pow_right (by decide) hk)
theorem testBit_or {n k j : Nat} : (n ||| 2 ^ k).testBit j = (n.testBit j || decide (k = j)) := by
  rw [Nat.testBit_or, Nat.testBit_two_pow]
/-- an order by two keys, then by the number -/
abbrev klt (k1 k2 : Nat → Int) (a b : Nat) : Prop := k1 a < k1 b ∨ (k1 a = k1 b ∧ (k2 a < k2 b ∨ (k2 a = k2 b ∧ a < b)))
abbrev kah (k1 k2 : Nat → Int) (a b : Nat) : Prop := k1 a < k1 b ∨ (k1 a = k1 b ∧ k2 a < k2 b)
def cposR (R : Nat → Prop) [∀ i, Decidable (R i)] : Nat → Nat
  | 0 => 0
  | n + 1 => if R n then cposR R n else n + 1
theorem cposR_le (R : Nat → Prop) [∀ i, Decidable (R i)] : ∀ n, cposR R n ≤ n
  | 0 => Nat.le_refl 0
  | n + 1 => by
    unfold cposR
    split
    · exact Nat.le_succ_of_le (cposR_le R n)
    · exact Nat.le_refl _
theorem cposR_hi (R : Nat → Prop) [∀ i, Decidable (R i)] : ∀ n i, cposR R n ≤ i → i < n → R i
  | 0, i, _, h => absurd h (Nat.not_lt_zero i)
  | n + 1, i, h, hi => by
    unfold cposR at h
    by_cases z : R n
    · rw [if_pos z] at h
      by_cases w : i = n
      · rw [w]; exact z
      · exact cposR_hi R n i h (by omega)
    · rw [if_neg z] at h; omega
theorem cposR_lo (R : Nat → Prop) [∀ i, Decidable (R i)] : ∀ n, 0 < cposR R n → ¬ R (cposR R n - 1)
  | 0, h => absurd h (by unfold cposR; omega)
  | n + 1, h => by
    unfold cposR at h ⊢
    by_cases z : R n
    · rw [if_pos z] at h ⊢; exact cposR_lo R n h
    · rw [if_neg z]; exact z
/-- f lists the first c places in the order of keys -/
def KOrd (k1 k2 : Nat → Int) (P : Nat → Prop) (m c : Nat) (f : Nat → Nat) : Prop := (∀ i j, i < j → j < c → klt k1 k2 (f i) (f j)) ∧ (∀ i, i < c → f i < m ∧ P (f i)) ∧ (∀ b, b < m → P b → ∃ i, i < c ∧ f i = b)
theorem KOrd.lt {k1 k2 : Nat → Int} {P : Nat → Prop} {m c : Nat} {f : Nat → Nat} (h : KOrd k1 k2 P m c f) : ∀ i j, i < j → j < c → klt k1 k2 (f i) (f j) := h.1
theorem KOrd.mem {k1 k2 : Nat → Int} {P : Nat → Prop} {m c : Nat} {f : Nat → Nat} (h : KOrd k1 k2 P m c f) : ∀ i, i < c → f i < m ∧ P (f i) := h.2.1
theorem KOrd.all {k1 k2 : Nat → Int} {P : Nat → Prop} {m c : Nat} {f : Nat → Nat} (h : KOrd k1 k2 P m c f) : ∀ b, b < m → P b → ∃ i, i < c ∧ f i = b := h.2.2
theorem KOrd.ins {k1 k2 : Nat → Int} {P : Nat → Prop} {m c : Nat} {f : Nat → Nat} (h : KOrd k1 k2 P m c f) (hp : P m) : KOrd k1 k2 P (m + 1) (c + 1) (insF f (cposR (fun i => kah k1 k2 m (f i)) c) m) := by
  have le := cposR_le (fun i => kah k1 k2 m (f i)) c
  have hi := cposR_hi (fun i => kah k1 k2 m (f i)) c
  have lo := cposR_lo (fun i => kah k1 k2 m (f i)) c
  generalize cposR (fun i => kah k1 k2 m (f i)) c = p at le hi lo ⊢
  have lo' : ∀ i, i < p → klt k1 k2 (f i) m := by
    intro i h1
    have a := lo (by omega)
    have b : i = p - 1 ∨ klt k1 k2 (f i) (f (p - 1)) := by
      by_cases z : i = p - 1
      · exact Or.inl z
      · exact Or.inr (h.lt i (p - 1) (by omega) (by omega))
    have d := (h.mem (p - 1) (by omega)).1
    unfold kah at a
    rcases b with b | b
    · rw [← b] at a d; unfold klt; omega
    · unfold klt at b ⊢; omega
  have hi' : ∀ i, p ≤ i → i < c → klt k1 k2 m (f i) := by
    intro i h1 h2
    have := hi i h1 h2
    unfold kah at this; unfold klt; omega
  have v : ∀ i, insF f p m i = if i < p then f i else if i = p then m else f (i - 1) := fun _ => rfl
  refine ⟨fun i j hij hj => ?_, fun i hi => ?_, fun b hb hb' => ?_⟩
  · rw [v, v]
    by_cases a : i < p
    · rw [if_pos a]
      by_cases b : j < p
      · rw [if_pos b]; exact h.lt i j hij (by omega)
      · rw [if_neg b]
        by_cases d : j = p
        · rw [if_pos d]; exact lo' i a
        · rw [if_neg d]; exact h.lt i (j - 1) (by omega) (by omega)
    · rw [if_neg a]
      by_cases b : i = p
      · rw [if_pos b, if_neg (by omega), if_neg (by omega)]; exact hi' (j - 1) (by omega) (by omega)
      · rw [if_neg b, if_neg (by omega), if_neg (by omega)]; exact h.lt (i - 1) (j - 1) (by omega) (by omega)
  · rw [v]
    split
    · have := h.mem i (by omega); exact ⟨by omega, this.2⟩
    · split
      · exact ⟨by omega, hp⟩
      · have := h.mem (i - 1) (by omega); exact ⟨by omega, this.2⟩
  · by_cases z : b = m
    · exact ⟨p, by omega, by rw [v, if_neg (by omega), if_pos rfl, z]⟩
    · obtain ⟨i, i1, i2⟩ := h.all b (by omega) hb'
      by_cases w : i < p
      · exact ⟨i, by omega, by rw [v, if_pos w]; exact i2⟩
      · exact ⟨i + 1, by omega, by rw [v, if_neg (by omega), if_neg (by omega), Nat.add_sub_cancel]; exact i2⟩
theorem KOrd.skip {k1 k2 : Nat → Int} {P : Nat → Prop} {m c : Nat} {f : Nat → Nat} (h : KOrd k1 k2 P m c f) (hp : ¬ P m) : KOrd k1 k2 P (m + 1) c f :=
  ⟨h.lt, fun i hi => ⟨Nat.lt_succ_of_lt (h.mem i hi).1, (h.mem i hi).2⟩, fun b hb hb' => h.all b (by by_cases z : b = m; rw [z] at hb'; exact absurd hb' hp; omega) hb'⟩
theorem KOrd.nil (k1 k2 : Nat → Int) (P : Nat → Prop) (f : Nat → Nat) : KOrd k1 k2 P 0 0 f := ⟨fun _ _ _ h => absurd h (Nat.not_lt_zero _), fun _ h => absurd h (Nat.not_lt_zero _), fun _ h => absurd h (Nat.not_lt_zero _)⟩
theorem KOrd.inj {k1 k2 : Nat → Int} {P : Nat → Prop} {m c : Nat} {f : Nat → Nat} (h : KOrd k1 k2 P m c f) {i j : Nat} (hi : i < c) (hj : j < c) (e : f i = f j) : i = j := by
  rcases Nat.lt_trichotomy i j with z | z | z
  · have := h.lt i j z hj; rw [e] at this; unfold klt at this; omega
  · exact z
  · have := h.lt j i z hi; rw [e] at this; unfold klt at this; omega
/-- the mask of the first j -/
def mskF (f : Nat → Nat) : Nat → Nat
  | 0 => 0
  | j + 1 => mskF f j ||| 2 ^ f j
theorem mskF_bit (f : Nat → Nat) : ∀ j b, (mskF f j).testBit b = true ↔ ∃ i, i < j ∧ f i = b
  | 0, b => by
    unfold mskF
    rw [Nat.zero_testBit]
    constructor
    · intro h; cases h
    · rintro ⟨i, h, _⟩; exact absurd h (Nat.not_lt_zero i)
  | j + 1, b => by
    unfold mskF
    rw [testBit_or, Bool.or_eq_true, mskF_bit f j b, decide_eq_true_iff]
    constructor
    · rintro (⟨i, h, e⟩ | h)
      · exact ⟨i, by omega, e⟩
      · exact ⟨j, by omega, h⟩
    · rintro ⟨i, h, e⟩
      by_cases z : i = j
      · right; rw [← z]; exact e
      · left; exact ⟨i, by omega, e⟩
theorem mskF_lt {f : Nat → Nat} {m : Nat} : ∀ j, (∀ i, i < j → f i < m) → mskF f j < 2 ^ m
  | 0, _ => Nat.two_pow_pos m
  | j + 1, h => or_lt (mskF_lt j (fun i hi => h i (by omega))) (h j (by omega))
/-- the scan for the one that comes next, among those of C -/
def scanF (k1 k2 : Nat → Int) (C : Nat → Prop) [∀ b, Decidable (C b)] : Nat → Option Nat
  | 0 => none
  | m + 1 => if C m ∧ (∀ a, scanF k1 k2 C m = some a → klt k1 k2 m a) then some m else scanF k1 k2 C m
theorem scanF_none (k1 k2 : Nat → Int) (C : Nat → Prop) [∀ b, Decidable (C b)] : ∀ m, scanF k1 k2 C m = none → ∀ b, b < m → ¬ C b
  | 0, _, b, h => absurd h (Nat.not_lt_zero b)
  | m + 1, h, b, hb => by
    unfold scanF at h
    by_cases z : C m ∧ (∀ a, scanF k1 k2 C m = some a → klt k1 k2 m a)
    · rw [if_pos z] at h; cases h
    · rw [if_neg z] at h
      by_cases w : b = m
      · subst w
        intro cb
        exact z ⟨cb, fun a e => by rw [h] at e; cases e⟩
      · exact scanF_none k1 k2 C m h b (by omega)
theorem scanF_some (k1 k2 : Nat → Int) (C : Nat → Prop) [∀ b, Decidable (C b)] : ∀ m a, scanF k1 k2 C m = some a → a < m ∧ C a ∧ ∀ b, b < m → C b → b = a ∨ klt k1 k2 a b
  | 0, a, h => by cases h
  | m + 1, a, h => by
    unfold scanF at h
    by_cases z : C m ∧ (∀ a, scanF k1 k2 C m = some a → klt k1 k2 m a)
    · rw [if_pos z] at h
      cases h
      refine ⟨by omega, z.1, fun b hb cb => ?_⟩
      by_cases w : b = m
      · exact Or.inl w
      · right
        cases e : scanF k1 k2 C m with
        | none => exact absurd cb (scanF_none k1 k2 C m e b (by omega))
        | some a =>
          have q := z.2 a e
          rcases (scanF_some k1 k2 C m a e).2.2 b (by omega) cb with r | r
          · rw [r]; exact q
          · unfold klt at q r ⊢; omega
    · rw [if_neg z] at h
      obtain ⟨q1, q2, q3⟩ := scanF_some k1 k2 C m a h
      refine ⟨by omega, q2, fun b hb cb => ?_⟩
      by_cases w : b = m
      · subst w
        by_cases y : b = a
        · exact Or.inl y
        · right
          have : ¬ klt k1 k2 b a := fun y => z ⟨cb, fun a' e => by rw [h] at e; cases e; exact y⟩
          unfold klt at this ⊢; omega
      · exact q3 b (by omega) cb
/-- behind j steps, the scan finds the j-th of the order -/
theorem KOrd.scan {k1 k2 : Nat → Int} {P : Nat → Prop} [∀ b, Decidable (P b)] {m c : Nat} {f : Nat → Nat} (h : KOrd k1 k2 P m c f) {j : Nat} (hj : j ≤ c) : scanF k1 k2 (fun b => P b ∧ ¬ (mskF f j).testBit b = true) m = if j < c then some (f j) else none := by
  have bit := mskF_bit f j
  by_cases z : j < c
  · rw [if_pos z]
    have cj : P (f j) ∧ ¬ (mskF f j).testBit (f j) = true := ⟨(h.mem j z).2, fun w => by
      obtain ⟨i, i1, i2⟩ := (bit (f j)).mp w
      have := h.inj (by omega) z i2
      omega⟩
    cases e : scanF k1 k2 (fun b => P b ∧ ¬ (mskF f j).testBit b = true) m with
    | none => exact absurd cj (scanF_none _ _ _ m e (f j) (h.mem j z).1)
    | some a =>
      obtain ⟨a1, ⟨a2, a3⟩, a4⟩ := scanF_some _ _ _ m a e
      obtain ⟨i, i1, i2⟩ := h.all a a1 a2
      have ij : j ≤ i := by
        rcases Nat.lt_or_ge i j with w | w
        · exact absurd ((bit a).mpr ⟨i, w, i2⟩) a3
        · exact w
      rcases a4 (f j) (h.mem j z).1 cj with w | w
      · rw [w]
      · by_cases y : i = j
        · rw [← i2, y]
        · have := h.lt j i (by omega) i1
          rw [i2] at this
          unfold klt at this w; omega
  · rw [if_neg z]
    cases e : scanF k1 k2 (fun b => P b ∧ ¬ (mskF f j).testBit b = true) m with
    | none => rfl
    | some a =>
      obtain ⟨a1, ⟨a2, a3⟩, -⟩ := scanF_some _ _ _ m a e
      obtain ⟨i, i1, i2⟩ := h.all a a1 a2
      exact absurd ((bit a).mpr ⟨i, by omega, i2⟩) a3
