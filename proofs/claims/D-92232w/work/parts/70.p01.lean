/-! PLAIN SIDE 1: numbers, conditions, changes of the class side's heap -/
theorem p_cmp1 (x y : Int64) : (lg_cmp x y < 0) ↔ x < y := by
  unfold lg_cmp
  split
  · simp; grind
  · split <;> simp <;> grind
theorem p_cmp2 (x y : Int64) : (0 < lg_cmp x y) ↔ y < x := by
  unfold lg_cmp
  split
  · simp; grind
  · split <;> simp <;> grind
theorem p_cmp3 (x y : Int64) : (lg_cmp x y ≤ 0) ↔ x ≤ y := by
  unfold lg_cmp
  split
  · simp; grind
  · split <;> simp <;> grind
theorem p_cmp4 (x y : Int64) : (0 ≤ lg_cmp x y) ↔ y ≤ x := by
  unfold lg_cmp
  split
  · simp; grind
  · split <;> simp <;> grind
def bI (p : Prop) [Decidable p] : Int32 := if p then 1 else 0
theorem bI_0 (p : Prop) [Decidable p] : (bI p = 0) ↔ ¬ p := by
  unfold bI; split <;> simp [*]
theorem bI_t {p : Prop} [Decidable p] (h : p) : bI p = 1 := if_pos h
theorem bI_f {p : Prop} [Decidable p] (h : ¬ p) : bI p = 0 := if_neg h
theorem bI_cong {p q : Prop} [Decidable p] [Decidable q] (h : p ↔ q) : bI p = bI q := by
  unfold bI
  by_cases hp : p
  · rw [if_pos hp, if_pos (h.mp hp)]
  · rw [if_neg hp, if_neg (fun z => hp (h.mpr z))]
theorem bI_nar (p : Prop) [Decidable p] : (narrow .boolean (.int (bI p)) = .int (bI p)) = True := by
  unfold bI; split <;> simp [narrow]
theorem nar_0 : (narrow .boolean (.int 0) = .int 0) = True := by simp [narrow]
theorem nar_1 : (narrow .boolean (.int 1) = .int 1) = True := by simp [narrow]
theorem p_le {x y : Int32} : x ≤ y ↔ x.toInt ≤ y.toInt := Int32.le_iff_toInt_le
theorem p_lt {x y : Int32} : x < y ↔ x.toInt < y.toInt := Int32.lt_iff_toInt_lt
theorem p_eq {x y : Int32} : x = y ↔ x.toInt = y.toInt := Int32.toInt_inj.symm
theorem p_nI {n : Nat} (h : n < 2 ^ 31) : (nI n).toInt = n := by
  unfold nI
  rw [Int32.toInt_ofNat']
  unfold Int32.size
  rw [Int.bmod_eq_of_le] <;> omega
theorem p_tn {n : Nat} (h : n < 2 ^ 31) : (nI n).toNatClampNeg = n := by
  show (nI n).toInt.toNat = n
  rw [p_nI h]
  rfl
theorem p_ofNat {n : Nat} (h : n < 2 ^ 31) : (Int32.ofNat n).toInt = n := p_nI h
theorem p_clamp (x : Int32) : x.toNatClampNeg = x.toInt.toNat := rfl
theorem p_vp {x : Int32} {n : Nat} : vp_in x n ↔ 0 ≤ x.toInt ∧ x.toInt < n := by
  unfold vp_in
  rw [p_clamp, p_lt]
  have : (0 : Int32).toInt = 0 := rfl
  omega
theorem p_vpn {i n : Nat} (h : i < n) (hn : n < 2 ^ 31) : vp_in (nI i) n := by
  rw [p_vp, p_nI (by omega)]
  omega
theorem p_ex {x : Int32} {n : Nat} (h0 : 0 ≤ x.toInt) (h1 : x.toInt < n) : ∃ j : Nat, j < n ∧ x = nI j := by
  refine ⟨x.toInt.toNat, by omega, ?_⟩
  have := Int32.toInt_lt x
  rw [p_eq, p_nI (by omega)]
  omega
theorem nI_a (a b : Nat) : nI a + nI b = nI (a + b) := (Int32.ofNat_add a b).symm
theorem nI_m (a b : Nat) : nI a * nI b = nI (a * b) := (Int32.ofNat_mul a b).symm
theorem nI_s {a b : Nat} (h : b ≤ a) : nI a - nI b = nI (a - b) := by
  have := nI_a (a - b) b
  rw [Nat.sub_add_cancel h] at this
  rw [← this]
  grind
theorem nI_inj {a b : Nat} (ha : a < 2 ^ 31) (hb : b < 2 ^ 31) : nI a = nI b ↔ a = b := by
  rw [p_eq, p_nI ha, p_nI hb]
  omega
theorem nIq_le {a b : Nat} (ha : a < 2 ^ 31) (hb : b < 2 ^ 31) : nI a ≤ nI b ↔ a ≤ b := by
  rw [p_le, p_nI ha, p_nI hb]
  omega
theorem nIq_lt {a b : Nat} (ha : a < 2 ^ 31) (hb : b < 2 ^ 31) : nI a < nI b ↔ a < b := by
  rw [p_lt, p_nI ha, p_nI hb]
  omega
theorem nI_nn {a : Nat} (ha : a < 2 ^ 31) : ¬ nI a < 0 := by
  rw [p_lt, p_nI ha]
  have : (0 : Int32).toInt = 0 := rfl
  omega
theorem nI_c (n : Nat) : nI n = Int32.ofNat n := rfl
/-- nine times, five times, twice, sixty times a place -/
theorem nI_k (k b : Nat) : Int32.ofNat k * nI b = nI (k * b) := nI_m k b
theorem em_in (Q : Int32 → MS → Prop) (J : MS) (v l h : Int64) : wm_in Q J v l h = Q (bI (l.toInt ≤ v.toInt ∧ v.toInt ≤ h.toInt)) J := by
  unfold wm_in bI
  simp only [p_cmp1, p_cmp2, Int64.lt_iff_toInt_lt]
  split
  · rw [if_neg (by omega)]
  · split
    · rw [if_neg (by omega)]
    · rw [if_pos (by omega)]
theorem ex_in (Q : Int32 → XS → Prop) (S : XS) (v l h : Int64) : wx_X0_isIn Q S v l h = Q (bI (l.toInt ≤ v.toInt ∧ v.toInt ≤ h.toInt)) S := by
  unfold wx_X0_isIn bI
  simp only [p_cmp1, p_cmp2, Int64.lt_iff_toInt_lt]
  split
  · rw [if_neg (by omega)]
  · split
    · rw [if_neg (by omega)]
    · rw [if_pos (by omega)]
/-- the heap S' behind S: what S has stays, but for the fields and places of those in M -/
def Chg (M : Nat → Prop) (S S' : XS) : Prop := (∀ a, xKD S a ≠ none → xKD S' a = xKD S a) ∧ (∀ a, xKD S a ≠ none → xLN S' a = xLN S a) ∧ (∀ a, xKD S a ≠ none → ¬ M a → ∀ f, xFI S' f a = xFI S f a) ∧ (∀ a, xKD S a ≠ none → ¬ M a → ∀ f, xFR S' f a = xFR S f a) ∧ (∀ a, xKD S a ≠ none → ¬ M a → xAI S' a = xAI S a) ∧ (∀ a, xKD S a ≠ none → ¬ M a → xAR S' a = xAR S a) ∧ (xRO S' = xRO S) ∧ (xST S' = xST S) ∧ (xClean S')
theorem Chg.kd {M : Nat → Prop} {S S' : XS} (h : Chg M S S') : ∀ a, xKD S a ≠ none → xKD S' a = xKD S a := h.1
theorem Chg.ln {M : Nat → Prop} {S S' : XS} (h : Chg M S S') : ∀ a, xKD S a ≠ none → xLN S' a = xLN S a := h.2.1
theorem Chg.fi {M : Nat → Prop} {S S' : XS} (h : Chg M S S') : ∀ a, xKD S a ≠ none → ¬ M a → ∀ f, xFI S' f a = xFI S f a := h.2.2.1
theorem Chg.fr {M : Nat → Prop} {S S' : XS} (h : Chg M S S') : ∀ a, xKD S a ≠ none → ¬ M a → ∀ f, xFR S' f a = xFR S f a := h.2.2.2.1
theorem Chg.ai {M : Nat → Prop} {S S' : XS} (h : Chg M S S') : ∀ a, xKD S a ≠ none → ¬ M a → xAI S' a = xAI S a := h.2.2.2.2.1
theorem Chg.ar {M : Nat → Prop} {S S' : XS} (h : Chg M S S') : ∀ a, xKD S a ≠ none → ¬ M a → xAR S' a = xAR S a := h.2.2.2.2.2.1
theorem Chg.ro {M : Nat → Prop} {S S' : XS} (h : Chg M S S') : xRO S' = xRO S := h.2.2.2.2.2.2.1
theorem Chg.st {M : Nat → Prop} {S S' : XS} (h : Chg M S S') : xST S' = xST S := h.2.2.2.2.2.2.2.1
theorem Chg.cl {M : Nat → Prop} {S S' : XS} (h : Chg M S S') : xClean S' := h.2.2.2.2.2.2.2.2
theorem xKD_sFI (S : XS) (f a : Nat) (v : Int32) : xKD (sFI S f a v) = xKD S := rfl
theorem xKD_sFR (S : XS) (f a : Nat) (v : Option Nat) : xKD (sFR S f a v) = xKD S := rfl
theorem xKD_sAIf (S : XS) (a : Nat) (g : Nat → Int32) : xKD (sAIf S a g) = xKD S := rfl
theorem xKD_sARf (S : XS) (a : Nat) (g : Nat → Option Nat) : xKD (sARf S a g) = xKD S := rfl
theorem xKD_sAI (S : XS) (a i : Nat) (v : Int32) : xKD (sAI S a i v) = xKD S := rfl
theorem xKD_sAR (S : XS) (a i : Nat) (v : Option Nat) : xKD (sAR S a i v) = xKD S := rfl
theorem xKD_sNew (S : XS) (a n b : Nat) : xKD (sNew S a n) b = if b = a then some n else xKD S b := rfl
theorem xKD_sNewA (S : XS) (a n k b : Nat) : xKD (sNewA S a n k) b = if b = a then some n else xKD S b := rfl
theorem xLN_sFI (S : XS) (f a : Nat) (v : Int32) : xLN (sFI S f a v) = xLN S := rfl
theorem xLN_sFR (S : XS) (f a : Nat) (v : Option Nat) : xLN (sFR S f a v) = xLN S := rfl
theorem xLN_sAIf (S : XS) (a : Nat) (g : Nat → Int32) : xLN (sAIf S a g) = xLN S := rfl
theorem xLN_sARf (S : XS) (a : Nat) (g : Nat → Option Nat) : xLN (sARf S a g) = xLN S := rfl
theorem xLN_sAI (S : XS) (a i : Nat) (v : Int32) : xLN (sAI S a i v) = xLN S := rfl
theorem xLN_sAR (S : XS) (a i : Nat) (v : Option Nat) : xLN (sAR S a i v) = xLN S := rfl
theorem xLN_sNew (S : XS) (a n : Nat) : xLN (sNew S a n) = xLN S := rfl
theorem xLN_sNewA (S : XS) (a n k b : Nat) : xLN (sNewA S a n k) b = if b = a then k else xLN S b := rfl
theorem xRO_sFI (S : XS) (f a : Nat) (v : Int32) : xRO (sFI S f a v) = xRO S := rfl
theorem xRO_sFR (S : XS) (f a : Nat) (v : Option Nat) : xRO (sFR S f a v) = xRO S := rfl
theorem xRO_sAIf (S : XS) (a : Nat) (g : Nat → Int32) : xRO (sAIf S a g) = xRO S := rfl
theorem xRO_sARf (S : XS) (a : Nat) (g : Nat → Option Nat) : xRO (sARf S a g) = xRO S := rfl
theorem xRO_sAI (S : XS) (a i : Nat) (v : Int32) : xRO (sAI S a i v) = xRO S := rfl
theorem xRO_sAR (S : XS) (a i : Nat) (v : Option Nat) : xRO (sAR S a i v) = xRO S := rfl
theorem xRO_sNew (S : XS) (a n : Nat) : xRO (sNew S a n) = xRO S := rfl
theorem xRO_sNewA (S : XS) (a n k : Nat) : xRO (sNewA S a n k) = xRO S := rfl
theorem xST_sFI (S : XS) (f a : Nat) (v : Int32) : xST (sFI S f a v) = xST S := rfl
theorem xST_sFR (S : XS) (f a : Nat) (v : Option Nat) : xST (sFR S f a v) = xST S := rfl
theorem xST_sAIf (S : XS) (a : Nat) (g : Nat → Int32) : xST (sAIf S a g) = xST S := rfl
theorem xST_sARf (S : XS) (a : Nat) (g : Nat → Option Nat) : xST (sARf S a g) = xST S := rfl
theorem xST_sAI (S : XS) (a i : Nat) (v : Int32) : xST (sAI S a i v) = xST S := rfl
theorem xST_sAR (S : XS) (a i : Nat) (v : Option Nat) : xST (sAR S a i v) = xST S := rfl
theorem xST_sNew (S : XS) (a n : Nat) : xST (sNew S a n) = xST S := rfl
theorem xST_sNewA (S : XS) (a n k : Nat) : xST (sNewA S a n k) = xST S := rfl
theorem xFI_sFI (S : XS) (f a : Nat) (v : Int32) (g b : Nat) : xFI (sFI S f a v) g b = if g = f ∧ b = a then v else xFI S g b := rfl
theorem xFI_sFR (S : XS) (f a : Nat) (v : Option Nat) : xFI (sFR S f a v) = xFI S := rfl
theorem xFI_sAIf (S : XS) (a : Nat) (g : Nat → Int32) : xFI (sAIf S a g) = xFI S := rfl
theorem xFI_sARf (S : XS) (a : Nat) (g : Nat → Option Nat) : xFI (sARf S a g) = xFI S := rfl
theorem xFI_sAI (S : XS) (a i : Nat) (v : Int32) : xFI (sAI S a i v) = xFI S := rfl
theorem xFI_sAR (S : XS) (a i : Nat) (v : Option Nat) : xFI (sAR S a i v) = xFI S := rfl
theorem xFI_sNew (S : XS) (a n : Nat) : xFI (sNew S a n) = xFI S := rfl
theorem xFI_sNewA (S : XS) (a n k : Nat) : xFI (sNewA S a n k) = xFI S := rfl
theorem xFR_sFR (S : XS) (f a : Nat) (v : Option Nat) (g b : Nat) : xFR (sFR S f a v) g b = if g = f ∧ b = a then v else xFR S g b := rfl
theorem xFR_sFI (S : XS) (f a : Nat) (v : Int32) : xFR (sFI S f a v) = xFR S := rfl
theorem xFR_sAIf (S : XS) (a : Nat) (g : Nat → Int32) : xFR (sAIf S a g) = xFR S := rfl
theorem xFR_sARf (S : XS) (a : Nat) (g : Nat → Option Nat) : xFR (sARf S a g) = xFR S := rfl
theorem xFR_sAI (S : XS) (a i : Nat) (v : Int32) : xFR (sAI S a i v) = xFR S := rfl
theorem xFR_sAR (S : XS) (a i : Nat) (v : Option Nat) : xFR (sAR S a i v) = xFR S := rfl
theorem xFR_sNew (S : XS) (a n : Nat) : xFR (sNew S a n) = xFR S := rfl
theorem xFR_sNewA (S : XS) (a n k : Nat) : xFR (sNewA S a n k) = xFR S := rfl
theorem xAI_sAIf (S : XS) (a : Nat) (g : Nat → Int32) (b : Nat) : xAI (sAIf S a g) b = if b = a then g else xAI S b := rfl
theorem xAI_sAI (S : XS) (a i : Nat) (v : Int32) (b : Nat) : xAI (sAI S a i v) b = if b = a then upd (xAI S a) i v else xAI S b := rfl
theorem xAI_sFI (S : XS) (f a : Nat) (v : Int32) : xAI (sFI S f a v) = xAI S := rfl
theorem xAI_sFR (S : XS) (f a : Nat) (v : Option Nat) : xAI (sFR S f a v) = xAI S := rfl
theorem xAI_sARf (S : XS) (a : Nat) (g : Nat → Option Nat) : xAI (sARf S a g) = xAI S := rfl
theorem xAI_sAR (S : XS) (a i : Nat) (v : Option Nat) : xAI (sAR S a i v) = xAI S := rfl
theorem xAI_sNew (S : XS) (a n : Nat) : xAI (sNew S a n) = xAI S := rfl
theorem xAI_sNewA (S : XS) (a n k : Nat) : xAI (sNewA S a n k) = xAI S := rfl
theorem xAR_sARf (S : XS) (a : Nat) (g : Nat → Option Nat) (b : Nat) : xAR (sARf S a g) b = if b = a then g else xAR S b := rfl
theorem xAR_sAR (S : XS) (a i : Nat) (v : Option Nat) (b : Nat) : xAR (sAR S a i v) b = if b = a then va_up (xAR S a) i v else xAR S b := rfl
theorem xAR_sFI (S : XS) (f a : Nat) (v : Int32) : xAR (sFI S f a v) = xAR S := rfl
theorem xAR_sFR (S : XS) (f a : Nat) (v : Option Nat) : xAR (sFR S f a v) = xAR S := rfl
theorem xAR_sAIf (S : XS) (a : Nat) (g : Nat → Int32) : xAR (sAIf S a g) = xAR S := rfl
theorem xAR_sAI (S : XS) (a i : Nat) (v : Int32) : xAR (sAI S a i v) = xAR S := rfl
theorem xAR_sNew (S : XS) (a n : Nat) : xAR (sNew S a n) = xAR S := rfl
theorem xAR_sNewA (S : XS) (a n k : Nat) : xAR (sNewA S a n k) = xAR S := rfl
/-- all of them, for simp -/
theorem xSall : (∀ (S : XS) (f a : Nat) (v : Int32), xKD (sFI S f a v) = xKD S) ∧ (∀ (S : XS) (f a : Nat) (v : Option Nat), xKD (sFR S f a v) = xKD S) ∧ (∀ (S : XS) (a : Nat) (g : Nat → Int32), xKD (sAIf S a g) = xKD S) ∧ (∀ (S : XS) (a : Nat) (g : Nat → Option Nat), xKD (sARf S a g) = xKD S) ∧ (∀ (S : XS) (a i : Nat) (v : Int32), xKD (sAI S a i v) = xKD S) ∧ (∀ (S : XS) (a i : Nat) (v : Option Nat), xKD (sAR S a i v) = xKD S) ∧ (∀ (S : XS) (a n b : Nat), xKD (sNew S a n) b = if b = a then some n else xKD S b) ∧ (∀ (S : XS) (a n k b : Nat), xKD (sNewA S a n k) b = if b = a then some n else xKD S b) ∧ (∀ (S : XS) (f a : Nat) (v : Int32), xLN (sFI S f a v) = xLN S) ∧ (∀ (S : XS) (f a : Nat) (v : Option Nat), xLN (sFR S f a v) = xLN S) ∧ (∀ (S : XS) (a : Nat) (g : Nat → Int32), xLN (sAIf S a g) = xLN S) ∧ (∀ (S : XS) (a : Nat) (g : Nat → Option Nat), xLN (sARf S a g) = xLN S) ∧ (∀ (S : XS) (a i : Nat) (v : Int32), xLN (sAI S a i v) = xLN S) ∧ (∀ (S : XS) (a i : Nat) (v : Option Nat), xLN (sAR S a i v) = xLN S) ∧ (∀ (S : XS) (a n : Nat), xLN (sNew S a n) = xLN S) ∧ (∀ (S : XS) (a n k b : Nat), xLN (sNewA S a n k) b = if b = a then k else xLN S b) ∧ (∀ (S : XS) (f a : Nat) (v : Int32), xRO (sFI S f a v) = xRO S) ∧ (∀ (S : XS) (f a : Nat) (v : Option Nat), xRO (sFR S f a v) = xRO S) ∧ (∀ (S : XS) (a : Nat) (g : Nat → Int32), xRO (sAIf S a g) = xRO S) ∧ (∀ (S : XS) (a : Nat) (g : Nat → Option Nat), xRO (sARf S a g) = xRO S) ∧ (∀ (S : XS) (a i : Nat) (v : Int32), xRO (sAI S a i v) = xRO S) ∧ (∀ (S : XS) (a i : Nat) (v : Option Nat), xRO (sAR S a i v) = xRO S) ∧ (∀ (S : XS) (a n : Nat), xRO (sNew S a n) = xRO S) ∧ (∀ (S : XS) (a n k : Nat), xRO (sNewA S a n k) = xRO S) ∧ (∀ (S : XS) (f a : Nat) (v : Int32), xST (sFI S f a v) = xST S) ∧ (∀ (S : XS) (f a : Nat) (v : Option Nat), xST (sFR S f a v) = xST S) ∧ (∀ (S : XS) (a : Nat) (g : Nat → Int32), xST (sAIf S a g) = xST S) ∧ (∀ (S : XS) (a : Nat) (g : Nat → Option Nat), xST (sARf S a g) = xST S) ∧ (∀ (S : XS) (a i : Nat) (v : Int32), xST (sAI S a i v) = xST S) ∧ (∀ (S : XS) (a i : Nat) (v : Option Nat), xST (sAR S a i v) = xST S) ∧ (∀ (S : XS) (a n : Nat), xST (sNew S a n) = xST S) ∧ (∀ (S : XS) (a n k : Nat), xST (sNewA S a n k) = xST S) ∧ (∀ (S : XS) (f a : Nat) (v : Int32) (g b : Nat), xFI (sFI S f a v) g b = if g = f ∧ b = a then v else xFI S g b) ∧ (∀ (S : XS) (f a : Nat) (v : Option Nat), xFI (sFR S f a v) = xFI S) ∧ (∀ (S : XS) (a : Nat) (g : Nat → Int32), xFI (sAIf S a g) = xFI S) ∧ (∀ (S : XS) (a : Nat) (g : Nat → Option Nat), xFI (sARf S a g) = xFI S) ∧ (∀ (S : XS) (a i : Nat) (v : Int32), xFI (sAI S a i v) = xFI S) ∧ (∀ (S : XS) (a i : Nat) (v : Option Nat), xFI (sAR S a i v) = xFI S) ∧ (∀ (S : XS) (a n : Nat), xFI (sNew S a n) = xFI S) ∧ (∀ (S : XS) (a n k : Nat), xFI (sNewA S a n k) = xFI S) ∧ (∀ (S : XS) (f a : Nat) (v : Option Nat) (g b : Nat), xFR (sFR S f a v) g b = if g = f ∧ b = a then v else xFR S g b) ∧ (∀ (S : XS) (f a : Nat) (v : Int32), xFR (sFI S f a v) = xFR S) ∧ (∀ (S : XS) (a : Nat) (g : Nat → Int32), xFR (sAIf S a g) = xFR S) ∧ (∀ (S : XS) (a : Nat) (g : Nat → Option Nat), xFR (sARf S a g) = xFR S) ∧ (∀ (S : XS) (a i : Nat) (v : Int32), xFR (sAI S a i v) = xFR S) ∧ (∀ (S : XS) (a i : Nat) (v : Option Nat), xFR (sAR S a i v) = xFR S) ∧ (∀ (S : XS) (a n : Nat), xFR (sNew S a n) = xFR S) ∧ (∀ (S : XS) (a n k : Nat), xFR (sNewA S a n k) = xFR S) ∧ (∀ (S : XS) (a : Nat) (g : Nat → Int32) (b : Nat), xAI (sAIf S a g) b = if b = a then g else xAI S b) ∧ (∀ (S : XS) (a i : Nat) (v : Int32) (b : Nat), xAI (sAI S a i v) b = if b = a then upd (xAI S a) i v else xAI S b) ∧ (∀ (S : XS) (f a : Nat) (v : Int32), xAI (sFI S f a v) = xAI S) ∧ (∀ (S : XS) (f a : Nat) (v : Option Nat), xAI (sFR S f a v) = xAI S) ∧ (∀ (S : XS) (a : Nat) (g : Nat → Option Nat), xAI (sARf S a g) = xAI S) ∧ (∀ (S : XS) (a i : Nat) (v : Option Nat), xAI (sAR S a i v) = xAI S) ∧ (∀ (S : XS) (a n : Nat), xAI (sNew S a n) = xAI S) ∧ (∀ (S : XS) (a n k : Nat), xAI (sNewA S a n k) = xAI S) ∧ (∀ (S : XS) (a : Nat) (g : Nat → Option Nat) (b : Nat), xAR (sARf S a g) b = if b = a then g else xAR S b) ∧ (∀ (S : XS) (a i : Nat) (v : Option Nat) (b : Nat), xAR (sAR S a i v) b = if b = a then va_up (xAR S a) i v else xAR S b) ∧ (∀ (S : XS) (f a : Nat) (v : Int32), xAR (sFI S f a v) = xAR S) ∧ (∀ (S : XS) (f a : Nat) (v : Option Nat), xAR (sFR S f a v) = xAR S) ∧ (∀ (S : XS) (a : Nat) (g : Nat → Int32), xAR (sAIf S a g) = xAR S) ∧ (∀ (S : XS) (a i : Nat) (v : Int32), xAR (sAI S a i v) = xAR S) ∧ (∀ (S : XS) (a n : Nat), xAR (sNew S a n) = xAR S) ∧ (∀ (S : XS) (a n k : Nat), xAR (sNewA S a n k) = xAR S) := ⟨xKD_sFI, xKD_sFR, xKD_sAIf, xKD_sARf, xKD_sAI, xKD_sAR, xKD_sNew, xKD_sNewA, xLN_sFI, xLN_sFR, xLN_sAIf, xLN_sARf, xLN_sAI, xLN_sAR, xLN_sNew, xLN_sNewA, xRO_sFI, xRO_sFR, xRO_sAIf, xRO_sARf, xRO_sAI, xRO_sAR, xRO_sNew, xRO_sNewA, xST_sFI, xST_sFR, xST_sAIf, xST_sARf, xST_sAI, xST_sAR, xST_sNew, xST_sNewA, xFI_sFI, xFI_sFR, xFI_sAIf, xFI_sARf, xFI_sAI, xFI_sAR, xFI_sNew, xFI_sNewA, xFR_sFR, xFR_sFI, xFR_sAIf, xFR_sARf, xFR_sAI, xFR_sAR, xFR_sNew, xFR_sNewA, xAI_sAIf, xAI_sAI, xAI_sFI, xAI_sFR, xAI_sARf, xAI_sAR, xAI_sNew, xAI_sNewA, xAR_sARf, xAR_sAR, xAR_sFI, xAR_sFR, xAR_sAIf, xAR_sAI, xAR_sNew, xAR_sNewA⟩
theorem Chg.refl {M : Nat → Prop} {S : XS} (h : xClean S) : Chg M S S :=
  ⟨fun _ _ => rfl, fun _ _ => rfl, fun _ _ _ _ => rfl, fun _ _ _ _ => rfl, fun _ _ _ => rfl, fun _ _ _ => rfl, rfl, rfl, h⟩
theorem Chg.fresh {M : Nat → Prop} {S S1 : XS} {q : Nat} (h : Chg M S S1) (hq : xKD S1 q = none) : xKD S q = none := by
  cases e : xKD S q with
  | none => rfl
  | some n =>
    have := h.kd q (by rw [e]; exact fun z => nomatch z)
    rw [hq, e] at this
    exact this.symm
theorem Chg.trans {M M' : Nat → Prop} {S S1 S2 : XS} (h : Chg M S S1) (k : Chg M' S1 S2) (hm : ∀ a, xKD S a ≠ none → M' a → M a) : Chg M S S2 := by
  have g : ∀ a, xKD S a ≠ none → xKD S1 a ≠ none := fun a ha => by rw [h.kd a ha]; exact ha
  exact ⟨fun a ha => (k.kd a (g a ha)).trans (h.kd a ha), fun a ha => (k.ln a (g a ha)).trans (h.ln a ha),
    fun a ha hn f => (k.fi a (g a ha) (fun z => hn (hm a ha z)) f).trans (h.fi a ha hn f),
    fun a ha hn f => (k.fr a (g a ha) (fun z => hn (hm a ha z)) f).trans (h.fr a ha hn f),
    fun a ha hn => (k.ai a (g a ha) (fun z => hn (hm a ha z))).trans (h.ai a ha hn),
    fun a ha hn => (k.ar a (g a ha) (fun z => hn (hm a ha z))).trans (h.ar a ha hn),
    k.ro.trans h.ro, k.st.trans h.st, k.cl⟩
theorem Chg.mono {M M' : Nat → Prop} {S S1 : XS} (h : Chg M' S S1) (hm : ∀ a, xKD S a ≠ none → M' a → M a) : Chg M S S1 :=
  ⟨h.kd, h.ln, fun a ha hn => h.fi a ha (fun z => hn (hm a ha z)), fun a ha hn => h.fr a ha (fun z => hn (hm a ha z)), fun a ha hn => h.ai a ha (fun z => hn (hm a ha z)), fun a ha hn => h.ar a ha (fun z => hn (hm a ha z)), h.ro, h.st, h.cl⟩
theorem Chg.sFI {M : Nat → Prop} {S S1 : XS} (h : Chg M S S1) {f a : Nat} {v : Int32} (ha : xKD S a = none ∨ M a) (hk : xKD S1 a ≠ none) : Chg M S (sFI S1 f a v) := by
  refine ⟨h.kd, h.ln, fun b hb hn g => ?_, h.fr, h.ai, h.ar, h.ro, h.st, fun b hb => ?_⟩
  · have : b ≠ a := fun e => by subst e; rcases ha with z | z <;> first | exact hb z | exact hn z
    rw [xFI_sFI, if_neg (fun z => this z.2)]
    exact h.fi b hb hn g
  · have := h.cl b hb
    refine ⟨fun g => ?_, this.2⟩
    rw [xFI_sFI, if_neg (fun z => by rw [z.2] at hb; exact hk hb)]
    exact this.1 g
theorem Chg.sFR {M : Nat → Prop} {S S1 : XS} (h : Chg M S S1) {f a : Nat} {v : Option Nat} (ha : xKD S a = none ∨ M a) (hk : xKD S1 a ≠ none) : Chg M S (sFR S1 f a v) := by
  refine ⟨h.kd, h.ln, h.fi, fun b hb hn g => ?_, h.ai, h.ar, h.ro, h.st, fun b hb => ?_⟩
  · have : b ≠ a := fun e => by subst e; rcases ha with z | z <;> first | exact hb z | exact hn z
    rw [xFR_sFR, if_neg (fun z => this z.2)]
    exact h.fr b hb hn g
  · have := h.cl b hb
    refine ⟨this.1, fun g => ?_, this.2.2⟩
    rw [xFR_sFR, if_neg (fun z => by rw [z.2] at hb; exact hk hb)]
    exact this.2.1 g
theorem Chg.sAIf {M : Nat → Prop} {S S1 : XS} (h : Chg M S S1) {a : Nat} {g : Nat → Int32} (ha : xKD S a = none ∨ M a) (hk : xKD S1 a ≠ none) : Chg M S (sAIf S1 a g) := by
  refine ⟨h.kd, h.ln, h.fi, h.fr, fun b hb hn => ?_, h.ar, h.ro, h.st, fun b hb => ?_⟩
  · have : b ≠ a := fun e => by subst e; rcases ha with z | z <;> first | exact hb z | exact hn z
    rw [xAI_sAIf, if_neg this]
    exact h.ai b hb hn
  · have := h.cl b hb
    refine ⟨this.1, this.2.1, fun g => ?_, this.2.2.2⟩
    rw [xAI_sAIf, if_neg (fun z => by rw [z] at hb; exact hk hb)]
    exact this.2.2.1 g
theorem Chg.sARf {M : Nat → Prop} {S S1 : XS} (h : Chg M S S1) {a : Nat} {g : Nat → Option Nat} (ha : xKD S a = none ∨ M a) (hk : xKD S1 a ≠ none) : Chg M S (sARf S1 a g) := by
  refine ⟨h.kd, h.ln, h.fi, h.fr, h.ai, fun b hb hn => ?_, h.ro, h.st, fun b hb => ?_⟩
  · have : b ≠ a := fun e => by subst e; rcases ha with z | z <;> first | exact hb z | exact hn z
    rw [xAR_sARf, if_neg this]
    exact h.ar b hb hn
  · have := h.cl b hb
    refine ⟨this.1, this.2.1, this.2.2.1, fun g => ?_, this.2.2.2.2⟩
    rw [xAR_sARf, if_neg (fun z => by rw [z] at hb; exact hk hb)]
    exact this.2.2.2.1 g
theorem Chg.sAI {M : Nat → Prop} {S S1 : XS} (h : Chg M S S1) {a i : Nat} {v : Int32} (ha : xKD S a = none ∨ M a) (hk : xKD S1 a ≠ none) : Chg M S (sAI S1 a i v) := h.sAIf ha hk
theorem Chg.sAR {M : Nat → Prop} {S S1 : XS} (h : Chg M S S1) {a i : Nat} {v : Option Nat} (ha : xKD S a = none ∨ M a) (hk : xKD S1 a ≠ none) : Chg M S (sAR S1 a i v) := h.sARf ha hk
theorem Chg.sNew {M : Nat → Prop} {S S1 : XS} (h : Chg M S S1) {q n : Nat} (hq : xKD S1 q = none) : Chg M S (sNew S1 q n) := by
  have hf := h.fresh hq
  refine ⟨fun a ha => ?_, h.ln, h.fi, h.fr, h.ai, h.ar, h.ro, h.st, fun b hb => ?_⟩
  · rw [xKD_sNew, if_neg (fun e => by subst e; exact ha hf)]
    exact h.kd a ha
  · rw [xKD_sNew] at hb
    split at hb
    · cases hb
    · exact h.cl b hb
theorem Chg.sNewA {M : Nat → Prop} {S S1 : XS} (h : Chg M S S1) {q n k : Nat} (hq : xKD S1 q = none) : Chg M S (sNewA S1 q n k) := by
  have hf := h.fresh hq
  refine ⟨fun a ha => ?_, fun a ha => ?_, h.fi, h.fr, h.ai, h.ar, h.ro, h.st, fun b hb => ?_⟩
  · rw [xKD_sNewA, if_neg (fun e => by subst e; exact ha hf)]
    exact h.kd a ha
  · rw [xLN_sNewA, if_neg (fun e => by subst e; exact ha hf)]
    exact h.ln a ha
  · rw [xKD_sNewA] at hb
    split at hb
    · cases hb
    · exact h.cl b hb
