/-! PLAIN SIDE 2: lists, the relation of the two states -/
def nB (J : MS) : Nat := (J 24 0).toNatClampNeg
def nC (J : MS) : Nat := (J 33 0).toNatClampNeg
def nG (J : MS) : Nat := (J 37 0).toNatClampNeg
def nL (J : MS) : Nat := (J 42 0).toNatClampNeg
def nM (J : MS) : Nat := (J 46 0).toNatClampNeg
abbrev RowOk (o : Nat → Int32) : Prop := (0 ≤ (o 0).toInt ∧ (o 0).toInt ≤ 3) ∧ (0 ≤ (o 1).toInt ∧ (o 1).toInt ≤ 1) ∧ (0 ≤ (o 2).toInt ∧ (o 2).toInt ≤ 364) ∧ (0 ≤ (o 3).toInt ∧ (o 3).toInt ≤ 95) ∧ ((o 3).toInt + 1 ≤ (o 4).toInt ∧ (o 4).toInt ≤ 96) ∧ (1 ≤ (o 5).toInt ∧ (o 5).toInt ≤ 999) ∧ (0 ≤ (o 6).toInt ∧ (o 6).toInt ≤ 4) ∧ (0 ≤ (o 7).toInt ∧ (o 7).toInt ≤ 1) ∧ (0 ≤ (o 8).toInt ∧ (o 8).toInt ≤ (o 2).toInt)
/-- what holds of the model's state -/
def JI (J : MS) : Prop := (J 24 0 = nI (nB J) ∧ nB J ≤ 16) ∧ (J 33 0 = nI (nC J) ∧ nC J ≤ 40) ∧ (J 37 0 = nI (nG J) ∧ nG J ≤ 40) ∧ (J 42 0 = nI (nL J) ∧ nL J ≤ 40) ∧ (J 46 0 = nI (nM J) ∧ nM J ≤ 10) ∧ (∀ b, b < nB J → RowOk (fun k => J 25 (9 * b + k))) ∧ (∀ b, b < nB J → J 26 b = -1000000 ∨ ((J 25 (9 * b + 8)).toInt ≤ (J 26 b).toInt ∧ (J 26 b).toInt ≤ (J 25 (9 * b + 2)).toInt)) ∧ (∀ h, h < 4 → (0 ≤ (J 2 h).toInt ∧ (J 2 h).toInt ≤ 8) ∧ (0 ≤ (J 3 h).toInt ∧ (J 3 h).toInt ≤ 50) ∧ (0 ≤ (J 4 h).toInt ∧ (J 4 h).toInt ≤ 60) ∧ (0 ≤ (J 5 h).toInt ∧ (J 5 h).toInt ≤ 100) ∧ (∀ f, f < 2 → 0 ≤ (J 6 (2 * h + f)).toInt ∧ (J 6 (2 * h + f)).toInt ≤ 500) ∧ (∀ u, u < 5 → 0 ≤ (J 7 (5 * h + u)).toInt ∧ (J 7 (5 * h + u)).toInt ≤ 1000) ∧ (∀ u, u < 5 → 0 ≤ (J 8 (5 * h + u)).toInt ∧ (J 8 (5 * h + u)).toInt ≤ 4) ∧ (∀ u v, u < 5 → v < 5 → J 8 (5 * h + u) = J 8 (5 * h + v) → u = v)) ∧ (∀ s, s < 8 → (-1 ≤ (J 9 s).toInt ∧ (J 9 s).toInt ≤ 2) ∧ (0 ≤ (J 10 s).toInt ∧ (J 10 s).toInt ≤ 60)) ∧ ((0 ≤ (J 13 0).toInt ∧ (J 13 0).toInt ≤ 400) ∧ ∀ i : Nat, (i : Int) < (J 13 0).toInt → 0 ≤ (J 12 i).toInt ∧ (J 12 i).toInt ≤ 255) ∧ (∀ k, k < nC J → (0 ≤ (J 34 k).toInt ∧ (J 34 k).toInt ≤ 3) ∧ (0 ≤ (J 35 k).toInt ∧ (J 35 k).toInt ≤ 35039) ∧ (1 ≤ (J 36 k).toInt ∧ (J 36 k).toInt ≤ 600)) ∧ (∀ k, k < nG J → (0 ≤ (J 38 k).toInt ∧ (J 38 k).toInt ≤ 3) ∧ (0 ≤ (J 39 k).toInt ∧ (J 39 k).toInt ≤ 9) ∧ (0 ≤ (J 40 k).toInt ∧ (J 40 k).toInt ≤ 9) ∧ (0 ≤ (J 41 k).toInt ∧ (J 41 k).toInt ≤ 364)) ∧ (∀ k, k < nL J → (0 ≤ (J 43 k).toInt ∧ (J 43 k).toInt ≤ 3) ∧ (0 ≤ (J 44 k).toInt ∧ (J 44 k).toInt ≤ 35039) ∧ (0 ≤ (J 45 k).toInt ∧ (J 45 k).toInt ≤ 255)) ∧ (∀ k, k < nM J → (1 ≤ (J 47 k).toInt ∧ (J 47 k).toInt ≤ 99) ∧ (0 ≤ (J 48 k).toInt ∧ (J 48 k).toInt ≤ 99) ∧ (0 ≤ (J 49 k).toInt ∧ (J 49 k).toInt ≤ 99) ∧ (0 ≤ (J 50 k).toInt ∧ (J 50 k).toInt ≤ 99) ∧ (J 51 k = -1000000 ∨ ∃ j, j < k ∧ J 51 k = nI j)) ∧ (0 ≤ (J 27 0).toInt ∧ (J 27 0).toInt ≤ 364) ∧ (0 ≤ (J 53 0).toInt ∧ (J 53 0).toInt ≤ 16)
theorem JI.nb {J : MS} (h : JI J) : J 24 0 = nI (nB J) ∧ nB J ≤ 16 := h.1
theorem JI.nc {J : MS} (h : JI J) : J 33 0 = nI (nC J) ∧ nC J ≤ 40 := h.2.1
theorem JI.ng {J : MS} (h : JI J) : J 37 0 = nI (nG J) ∧ nG J ≤ 40 := h.2.2.1
theorem JI.nl {J : MS} (h : JI J) : J 42 0 = nI (nL J) ∧ nL J ≤ 40 := h.2.2.2.1
theorem JI.nm {J : MS} (h : JI J) : J 46 0 = nI (nM J) ∧ nM J ≤ 10 := h.2.2.2.2.1
theorem JI.row {J : MS} (h : JI J) : ∀ b, b < nB J → RowOk (fun k => J 25 (9 * b + k)) := h.2.2.2.2.2.1
theorem JI.can {J : MS} (h : JI J) : ∀ b, b < nB J → J 26 b = -1000000 ∨ ((J 25 (9 * b + 8)).toInt ≤ (J 26 b).toInt ∧ (J 26 b).toInt ≤ (J 25 (9 * b + 2)).toInt) := h.2.2.2.2.2.2.1
theorem JI.hal {J : MS} (h : JI J) : ∀ h, h < 4 → (0 ≤ (J 2 h).toInt ∧ (J 2 h).toInt ≤ 8) ∧ (0 ≤ (J 3 h).toInt ∧ (J 3 h).toInt ≤ 50) ∧ (0 ≤ (J 4 h).toInt ∧ (J 4 h).toInt ≤ 60) ∧ (0 ≤ (J 5 h).toInt ∧ (J 5 h).toInt ≤ 100) ∧ (∀ f, f < 2 → 0 ≤ (J 6 (2 * h + f)).toInt ∧ (J 6 (2 * h + f)).toInt ≤ 500) ∧ (∀ u, u < 5 → 0 ≤ (J 7 (5 * h + u)).toInt ∧ (J 7 (5 * h + u)).toInt ≤ 1000) ∧ (∀ u, u < 5 → 0 ≤ (J 8 (5 * h + u)).toInt ∧ (J 8 (5 * h + u)).toInt ≤ 4) ∧ (∀ u v, u < 5 → v < 5 → J 8 (5 * h + u) = J 8 (5 * h + v) → u = v) := h.2.2.2.2.2.2.2.1
theorem JI.she {J : MS} (h : JI J) : ∀ s, s < 8 → (-1 ≤ (J 9 s).toInt ∧ (J 9 s).toInt ≤ 2) ∧ (0 ≤ (J 10 s).toInt ∧ (J 10 s).toInt ≤ 60) := h.2.2.2.2.2.2.2.2.1
theorem JI.tap {J : MS} (h : JI J) : (0 ≤ (J 13 0).toInt ∧ (J 13 0).toInt ≤ 400) ∧ ∀ i : Nat, (i : Int) < (J 13 0).toInt → 0 ≤ (J 12 i).toInt ∧ (J 12 i).toInt ≤ 255 := h.2.2.2.2.2.2.2.2.2.1
theorem JI.coi {J : MS} (h : JI J) : ∀ k, k < nC J → (0 ≤ (J 34 k).toInt ∧ (J 34 k).toInt ≤ 3) ∧ (0 ≤ (J 35 k).toInt ∧ (J 35 k).toInt ≤ 35039) ∧ (1 ≤ (J 36 k).toInt ∧ (J 36 k).toInt ≤ 600) := h.2.2.2.2.2.2.2.2.2.2.1
theorem JI.giv {J : MS} (h : JI J) : ∀ k, k < nG J → (0 ≤ (J 38 k).toInt ∧ (J 38 k).toInt ≤ 3) ∧ (0 ≤ (J 39 k).toInt ∧ (J 39 k).toInt ≤ 9) ∧ (0 ≤ (J 40 k).toInt ∧ (J 40 k).toInt ≤ 9) ∧ (0 ≤ (J 41 k).toInt ∧ (J 41 k).toInt ≤ 364) := h.2.2.2.2.2.2.2.2.2.2.2.1
theorem JI.loo {J : MS} (h : JI J) : ∀ k, k < nL J → (0 ≤ (J 43 k).toInt ∧ (J 43 k).toInt ≤ 3) ∧ (0 ≤ (J 44 k).toInt ∧ (J 44 k).toInt ≤ 35039) ∧ (0 ≤ (J 45 k).toInt ∧ (J 45 k).toInt ≤ 255) := h.2.2.2.2.2.2.2.2.2.2.2.2.1
theorem JI.mee {J : MS} (h : JI J) : ∀ k, k < nM J → (1 ≤ (J 47 k).toInt ∧ (J 47 k).toInt ≤ 99) ∧ (0 ≤ (J 48 k).toInt ∧ (J 48 k).toInt ≤ 99) ∧ (0 ≤ (J 49 k).toInt ∧ (J 49 k).toInt ≤ 99) ∧ (0 ≤ (J 50 k).toInt ∧ (J 50 k).toInt ≤ 99) ∧ (J 51 k = -1000000 ∨ ∃ j, j < k ∧ J 51 k = nI j) := h.2.2.2.2.2.2.2.2.2.2.2.2.2.1
theorem JI.day {J : MS} (h : JI J) : 0 ≤ (J 27 0).toInt ∧ (J 27 0).toInt ≤ 364 := h.2.2.2.2.2.2.2.2.2.2.2.2.2.2.1
theorem JI.tra {J : MS} (h : JI J) : 0 ≤ (J 53 0).toInt ∧ (J 53 0).toInt ≤ 16 := h.2.2.2.2.2.2.2.2.2.2.2.2.2.2.2
/-- a list of the class side: its object a holds n elements, L i -/
def LiS (S : XS) (a n : Nat) (L : Nat → Nat) : Prop := xKD S a = some 16 ∧ ∃ e, xFR S 1600 a = some e ∧ xKD S e = some 102 ∧ xFI S 1601 a = nI n ∧ n ≤ xLN S e ∧ xLN S e ≤ 1000 ∧ (∀ i, i < n → xAR S e i = some (L i)) ∧ ((xRO S e = false ∧ 10 ≤ xLN S e) ∨ (e = xST S 0 ∧ xLN S e = 0 ∧ xRO S e = true))
theorem LiS.size {S : XS} {a n : Nat} {L : Nat → Nat} (h : LiS S a n L) (Q : Int32 → XS → Prop) : wx_J2_size Q S (some a) = Q (nI n) S := by
  obtain ⟨hk, e, h1, h2, h3, -⟩ := h
  unfold wx_J2_size
  simp only [dr_some, hk, h3, true_and]
theorem LiS.get {S : XS} {a n : Nat} {L : Nat → Nat} (h : LiS S a n L) {i : Nat} (hi : i < n) (Q : Option Nat → XS → Prop) : wx_J2_get Q S (some a) (nI i) = Q (some (L i)) S := by
  obtain ⟨hk, e, h1, h2, h3, h4, h5, h6, -⟩ := h
  unfold wx_J2_get wx_J17_checkIndex wx_J16_checkIndex wx_J2_elementData
  have g1 : ¬ nI i < 0 := nI_nn (by omega)
  have g2 : nI i < nI n := (nIq_lt (by omega) (by omega)).mpr hi
  simp only [dr_some, hk, h1, h2, h3, true_and, if_neg g1, if_pos g2, p_tn (show i < 2 ^ 31 by omega), h6 i hi, p_vpn (show i < xLN S e by omega) (by omega)]
theorem xOb_chg {M : Nat → Prop} {S S' : XS} (h : Chg M S S') {a : Nat} (ha : xOb S a) : xOb S' a := by
  have : xKD S' a = xKD S a := h.kd a (by rcases ha with z | z | z <;> rw [z] <;> exact fun e => nomatch e)
  unfold xOb at ha ⊢
  rw [this]
  exact ha
/-- how a list's growing changes the heap -/
def LM (S : XS) (a : Nat) : Nat → Prop := fun q => q = a ∨ (xFR S 1600 a = some q ∧ xRO S q = false)
theorem LiS.kept {M : Nat → Prop} {S S' : XS} {a n : Nat} {L : Nat → Nat} (h : LiS S a n L) (c : Chg M S S') (ha : ¬ M a) (he : ∀ e, xFR S 1600 a = some e → ¬ M e) : LiS S' a n L := by
  obtain ⟨hk, e, h1, h2, h3, h4, h5, h6, h7⟩ := h
  have k1 : xKD S a ≠ none := by rw [hk]; exact fun z => nomatch z
  have k2 : xKD S e ≠ none := by rw [h2]; exact fun z => nomatch z
  refine ⟨(c.kd a k1).trans hk, e, (c.fr a k1 ha 1600).trans h1, (c.kd e k2).trans h2, (c.fi a k1 ha 1601).trans h3, by rw [c.ln e k2]; exact h4, by rw [c.ln e k2]; exact h5, fun i hi => by rw [c.ar e k2 (he e h1)]; exact h6 i hi, ?_⟩
  rw [c.ro, c.st, c.ln e k2]
  exact h7
theorem x_new {S : XS} (n k : Nat) {q : Nat} (hq : xKD S q = none) {a m : Nat} (ha : xKD S a = some m) : xKD (sNewA S q n k) a = some m := by
  rw [xKD_sNewA, if_neg (fun e => by rw [e, hq] at ha; cases ha)]
  exact ha
theorem x_ne {S : XS} {q a m : Nat} (hq : xKD S q = none) (ha : xKD S a = some m) : a ≠ q := fun e => by rw [e, hq] at ha; cases ha
theorem x_nek {S : XS} {q a m n : Nat} (hq : xKD S q = some n) (ha : xKD S a = some m) (h : m ≠ n) : a ≠ q := fun e => by rw [e, hq] at ha; exact h (Option.some.inj ha).symm
theorem xClean.ar {S : XS} (h : xClean S) {q : Nat} (hq : xKD S q = none) (i : Nat) : xAR S q i = none := (h q hq).2.2.2.1 i
theorem xClean.ai {S : XS} (h : xClean S) {q : Nat} (hq : xKD S q = none) (i : Nat) : xAI S q i = 0 := (h q hq).2.2.1 i
theorem xClean.fi {S : XS} (h : xClean S) {q : Nat} (hq : xKD S q = none) (i : Nat) : xFI S i q = 0 := (h q hq).1 i
theorem xClean.fr {S : XS} (h : xClean S) {q : Nat} (hq : xKD S q = none) (i : Nat) : xFR S i q = none := (h q hq).2.1 i
theorem xClean.ro {S : XS} (h : xClean S) {q : Nat} (hq : xKD S q = none) : xRO S q = false := (h q hq).2.2.2.2
theorem x_newS {S : XS} (n : Nat) {q : Nat} (hq : xKD S q = none) {a m : Nat} (ha : xKD S a = some m) : xKD (sNew S q n) a = some m := x_new n 0 hq ha
theorem some_ne {a : Nat} {o : Option Nat} (h : o = some a) : o ≠ none := by rw [h]; exact fun z => nomatch z
theorem shr1 : ∀ n : Fin 201, nI n.val >>> ((1 : Int32) &&& 31) = nI (n.val / 2) := by decide +kernel
/-- a list's array grows when it is full -/
theorem LiS.grow {S : XS} {a n : Nat} {L : Nat → Nat} (h : LiS S a n L) (hcl : xClean S) (hob : ∀ i, i < n → xOb S (L i)) (hn : n ≤ 200) {e : Nat} (he : xFR S 1600 a = some e) (hfull : n = xLN S e)
    {mc ms : Nat} (hc : 1 ≤ mc) (hm : 400 ≤ ms) (Q : Option Nat → XS → Prop)
    (k : ∀ (S' : XS) (q : Nat), xKD S q = none → LiS S' a n L → xFR S' 1600 a = some q → xRO S' q = false → n < xLN S' q → Chg (fun b => b = a) S S' → Q (some q) S') : wx_J2_grow Q mc ms S (some a) := by
  obtain ⟨hk, e', h1, h2, h3, h4, h5, h6, h7⟩ := h
  obtain rfl : e' = e := Option.some.inj (h1.symm.trans he)
  have hne : xKD S a ≠ none := some_ne hk
  have hs : nI n + 1 = nI (n + 1) := nI_a n 1
  unfold wx_J2_grow wx_J2_grow_2
  simp only [dr_some, hk, true_and, h1, h2, h3, ← hfull, hs]
  refine ⟨1, 400, hc, hm, ?_⟩
  rcases h7 with ⟨h7, h8⟩ | ⟨h7, h8, h9⟩
  · have hb : (0 : Int32) < Int32.ofNat n := (nIq_lt (show 0 < 2 ^ 31 by decide) (by omega)).mpr (by omega)
    rw [if_pos hb]
    have e1 : nI (n + 1) - Int32.ofNat n = 1 := by
      show nI (n + 1) - nI n = 1
      rw [nI_s (by omega), Nat.add_sub_cancel_left]; rfl
    have e2 : Int32.ofNat n >>> ((1 : Int32) &&& 31) = nI (n / 2) := shr1 ⟨n, by omega⟩
    unfold wx_J2_grow_2_20 wx_J12_newLength
    rw [e1, e2]
    have e3 : (if (1 : Int32) < nI (n / 2) then nI (n / 2) else 1) = nI (n / 2) := if_pos ((nIq_lt (a := 1) (by decide) (by omega)).mpr (by omega))
    rw [e3]
    have e4 : Int32.ofNat n + nI (n / 2) = nI (n + n / 2) := nI_a _ _
    rw [e4, if_neg (fun z => by rw [p_le, p_nI (by omega)] at z; have : (0 : Int32).toInt = 0 := rfl; omega), if_neg (fun z => by rw [p_lt, p_nI (by omega)] at z; have : (2147483639 : Int32).toInt = 2147483639 := rfl; omega)]
    unfold wx_J14_copyOf_2 wx_J14_copyOf_3 wx_J14_copyOf_3_24
    simp only [dr_some, hk, h1, h2, true_and, if_true]
    refine ⟨1, 400, Nat.le_refl _, Nat.le_refl _, h7, 1, 400, Nat.le_refl _, Nat.le_refl _, nI_nn (by omega), ?_⟩
    rw [p_tn (show n + n / 2 < 2 ^ 31 by omega)]
    refine ⟨by omega, Nat.le_refl _, by omega, fun q hq => ?_⟩
    have hqa : a ≠ q := x_ne hq hk
    have hqe : e' ≠ q := x_ne hq h2
    have hqe2 : q ≠ e' := fun z => hqe z.symm
    have e5 : (if nI (n + n / 2) < Int32.ofNat (xLN (sNewA S q 102 (n + n / 2)) e') then nI (n + n / 2) else Int32.ofNat (xLN (sNewA S q 102 (n + n / 2)) e')) = nI n := by
      rw [xLN_sNewA, if_neg hqe, ← hfull, if_neg (fun z => by rw [p_lt, p_nI (by omega), p_ofNat (by omega)] at z; omega)]
      rfl
    rw [e5, p_tn (show n < 2 ^ 31 by omega)]
    have e6 : Int32.toNatClampNeg (0 : Int32) = 0 := rfl
    rw [e6]
    refine ⟨x_new 102 0 hq h2, by simp [xSall], h7, by simpa [xSall] using hcl.ro hq, by decide, by decide, nI_nn (by omega), ?_, ?_, ?_, ?_⟩
    · rw [xLN_sNewA, if_neg hqe]; omega
    · rw [xLN_sNewA, if_pos rfl]; omega
    · intro j hj y hy
      have : L j = y := by
        rw [xAR_sNewA, Nat.zero_add, h6 j hj] at hy
        exact Option.some.inj hy
      subst this
      exact xOb_chg ((Chg.refl (M := fun _ => False) hcl).sNewA hq) (hob j hj)
    · refine ⟨x_new 102 0 hq hk, k _ q hq ⟨x_new 102 0 hq hk, q, ?_, ?_, ?_, ?_, ?_, ?_, ?_⟩ ?_ ?_ ?_ ?_⟩
      · simp [xSall]
      · simp [xSall]
      · simpa [xSall] using h3
      · simp [xSall]
      · simp [xSall]; omega
      · intro i hi
        simp [xSall, va_cpy]
        rw [if_pos hi]
        exact h6 i hi
      · left
        refine ⟨by simpa [xSall] using hcl.ro hq, by simp [xSall]; omega⟩
      · simp [xSall]
      · simpa [xSall] using hcl.ro hq
      · simp [xSall]; omega
      · exact (((Chg.refl hcl).sNewA hq).sARf (Or.inl hq) (by simp [xSall])).sFR (Or.inr rfl) (some_ne (x_new 102 0 hq hk))
  · have hz : n = 0 := hfull.trans h8
    subst hz
    have hb : ¬ (0 : Int32) < Int32.ofNat 0 := by decide
    rw [if_neg hb, if_pos (by rw [h7])]
    refine ⟨by decide, by decide, by decide, by decide, fun q hq => ?_⟩
    have hqa : a ≠ q := x_ne hq hk
    refine k _ q hq ⟨?_, q, ?_, ?_, ?_, ?_, ?_, ?_, ?_⟩ ?_ ?_ ?_ ?_
    · exact x_new 102 0 hq hk
    · simp [xSall]
    · simp [xSall]
    · simpa [xSall] using h3
    · exact Nat.zero_le _
    · simp [xSall]; decide
    · intro i hi; exact absurd hi (Nat.not_lt_zero i)
    · left; exact ⟨hcl.ro hq, by simp [xSall]; decide⟩
    · simp [xSall]
    · exact hcl.ro hq
    · simp [xSall]; decide
    · exact ((Chg.refl hcl).sNewA hq).sFR (Or.inr rfl) (some_ne (x_new 102 0 hq hk))
theorem LiS.other {S S' : XS} {a n : Nat} {L : Nat → Nat} (h : LiS S a n L) (c : Chg (LM S a) S S') {b : Nat} (hb : b ≠ a) (he : ∀ e, xFR S 1600 b = some e → xFR S 1600 a = some e → xRO S e = true) {m : Nat} {L' : Nat → Nat} (h' : LiS S b m L') : LiS S' b m L' := by
  obtain ⟨hk, e0, h1, h2, -⟩ := h
  obtain ⟨hk', e1, g1, g2, -⟩ := id h'
  refine LiS.kept (M := LM S a) h' c ?_ ?_
  · rintro (z | ⟨z, w⟩)
    · exact hb z
    · rw [h1] at z
      have : e0 = b := Option.some.inj z
      subst this
      rw [hk'] at h2
      cases h2
  · rintro e ge (z | ⟨z, w⟩)
    · subst z
      rw [g1] at ge
      have : e1 = e := Option.some.inj ge
      subst this
      rw [hk] at g2
      cases g2
    · rw [he e ge z] at w
      cases w
theorem nI_tInc (n : Nat) : nI n + (1 : Int32) = nI (n + 1) := nI_a n 1
theorem LiS.put {S : XS} {a n : Nat} {L : Nat → Nat} (h : LiS S a n L) (hcl : xClean S) {e : Nat} (he : xFR S 1600 a = some e) (hro : xRO S e = false) (hlt : n < xLN S e) {b : Nat} (hb : xOb S b) {mc ms : Nat} (Q : XS → Prop)
    (k : ∀ S' : XS, LiS S' a (n + 1) (fun i => if i = n then b else L i) → Chg (fun q => q = a ∨ q = e) S S' → xFR S' 1600 a = some e → Q S') : wx_J2_add_2_11 Q mc ms S (some a) (some b) (some e) (nI n) := by
  obtain ⟨hk, e', h1, h2, h3, h4, h5, h6, h7⟩ := id h
  obtain rfl : e' = e := Option.some.inj (h1.symm.trans he)
  have hae : a ≠ e' := x_nek h2 hk (by decide)
  unfold wx_J2_add_2_11
  simp only [dr_some, h2, hro, hb, true_and, xKD_sAR, hk, p_tn (show n < 2 ^ 31 by omega), nI_tInc]
  refine ⟨p_vpn hlt (by omega), k _ ⟨hk, e', by simpa [xSall] using h1, h2, by simp [xSall], hlt, h5, fun i hi => ?_, h7⟩ ?_ (by simpa [xSall] using h1)⟩
  · rw [xAR_sFI, xAR_sAR, if_pos rfl]
    unfold va_up
    show (if i = n then some b else xAR S e' i) = some (if i = n then b else L i)
    by_cases z : i = n
    · rw [if_pos z, if_pos z]
    · rw [if_neg z, if_neg z]
      exact h6 i (by omega)
  · exact ((Chg.refl hcl).sAR (Or.inr (Or.inr rfl)) (some_ne h2)).sFI (Or.inr (Or.inl rfl)) (some_ne hk)
/-- an element comes to the end -/
theorem LiS.add {S : XS} {a n : Nat} {L : Nat → Nat} (h : LiS S a n L) (hcl : xClean S) (hob : ∀ i, i < n → xOb S (L i)) (hn : n ≤ 200) {b : Nat} (hb : xOb S b)
    {mc ms : Nat} (hc : 1 ≤ mc) (hm : 400 ≤ ms) (Q : Int32 → XS → Prop)
    (k : ∀ S' : XS, LiS S' a (n + 1) (fun i => if i = n then b else L i) → Chg (LM S a) S S' → (∀ e, xFR S' 1600 a = some e → xFR S 1600 a = some e ∨ xKD S e = none) → Q 1 S') : wx_J2_add Q mc ms S (some a) (some b) := by
  obtain ⟨hk, e, h1, h2, h3, h4, h5, h6, h7⟩ := id h
  have hne : xKD S a ≠ none := some_ne hk
  unfold wx_J2_add
  simp only [dr_some, hk, true_and]
  refine ⟨1, 400, hc, hm, ?_⟩
  have c1 : Chg (fun b => b = a) S (sFI S 5100 a (xFI S 5100 a + 1)) := (Chg.refl hcl).sFI (Or.inr rfl) hne
  have l1 : LiS (sFI S 5100 a (xFI S 5100 a + 1)) a n L := ⟨hk, e, h1, h2, by simpa [xSall] using h3, h4, h5, h6, h7⟩
  have o1 : ∀ i, i < n → xOb (sFI S 5100 a (xFI S 5100 a + 1)) (L i) := hob
  have ob : xOb (sFI S 5100 a (xFI S 5100 a + 1)) b := hb
  have he1 : xFR (sFI S 5100 a (xFI S 5100 a + 1)) 1600 a = some e := h1
  have hro1 : xRO (sFI S 5100 a (xFI S 5100 a + 1)) = xRO S := rfl
  generalize sFI S 5100 a (xFI S 5100 a + 1) = S1 at c1 l1 o1 ob he1 hro1 ⊢
  obtain ⟨kk, e1, g1, g2, g3, g4, g5, g6, g7⟩ := id l1
  obtain rfl : e1 = e := Option.some.inj (g1.symm.trans he1)
  unfold wx_J2_add_2
  simp only [dr_some, g1, g2, g3, true_and]
  by_cases hfull : n = xLN S1 e1
  · rw [if_pos (by rw [← hfull]; rfl)]
    refine ⟨kk, 1, 400, Nat.le_refl _, Nat.le_refl _, ?_⟩
    refine l1.grow c1.cl o1 hn g1 hfull (Nat.le_refl _) (Nat.le_refl _) _ (fun S2 q hq l2 he2 hr2 hl2 c2 => ?_)
    refine l2.put c2.cl he2 hr2 hl2 (xOb_chg c2 ob) _ (fun S3 l3 c3 he3 => ?_)
    refine k S3 l3 ?_ (fun e he => ?_)
    · refine ((c1.trans c2 (fun a _ z => z)).trans c3 (fun x hx z => ?_)).mono (fun x hx z => Or.inl z)
      rcases z with z | z
      · exact z
      · subst z
        exact absurd (c1.fresh hq) hx
    · right
      rw [he3] at he
      rw [← Option.some.inj he]
      exact c1.fresh hq
  · have hfi : ¬ nI n = Int32.ofNat (xLN S1 e1) := fun z => hfull ((nI_inj (by omega) (by omega)).mp z)
    rw [if_neg hfi]
    have hro : xRO S1 e1 = false := by
      rcases g7 with z | z
      · exact z.1
      · exact absurd (by omega) hfull
    refine l1.put c1.cl g1 hro (by omega) ob _ (fun S3 l3 c3 he3 => ?_)
    refine k S3 l3 (c1.mono (fun x _ z => Or.inl z) |>.trans c3 (fun x hx z => ?_)) (fun e he => ?_)
    · rcases z with z | z
      · exact Or.inl z
      · subst z
        exact Or.inr ⟨h1, by rw [← hro1]; exact hro⟩
    · left
      rw [he3] at he
      rw [← he]
      exact h1
/-- an element comes to a place -/
theorem LiS.add3 {S : XS} {a n : Nat} {L : Nat → Nat} (h : LiS S a n L) (hcl : xClean S) (hob : ∀ i, i < n → xOb S (L i)) (hn : n ≤ 200) {b p : Nat} (hb : xOb S b) (hp : p ≤ n)
    {mc ms : Nat} (hc : 1 ≤ mc) (hm : 400 ≤ ms) (Q : XS → Prop)
    (k : ∀ S' : XS, LiS S' a (n + 1) (fun i => if i < p then L i else if i = p then b else L (i - 1)) → Chg (LM S a) S S' → (∀ e, xFR S' 1600 a = some e → xFR S 1600 a = some e ∨ xKD S e = none) → Q S') : wx_J2_add_3 Q mc ms S (some a) (nI p) (some b) := by
  obtain ⟨hk, e, h1, h2, h3, h4, h5, h6, h7⟩ := id h
  have hne : xKD S a ≠ none := some_ne hk
  unfold wx_J2_add_3 wx_J2_rangeCheckForAdd
  have z0 : (0 : Int32) = nI 0 := rfl
  simp only [dr_some, hk, true_and]
  rw [if_neg (by rw [h3, nIq_lt (by omega) (by omega)]; omega), if_pos (by rw [z0, nIq_le (by omega) (by omega)]; omega)]
  have c1 : Chg (fun b => b = a) S (sFI S 5100 a (xFI S 5100 a + 1)) := (Chg.refl hcl).sFI (Or.inr rfl) hne
  have l1 : LiS (sFI S 5100 a (xFI S 5100 a + 1)) a n L := ⟨hk, e, h1, h2, by simpa [xSall] using h3, h4, h5, h6, h7⟩
  have o1 : ∀ i, i < n → xOb (sFI S 5100 a (xFI S 5100 a + 1)) (L i) := hob
  have ob : xOb (sFI S 5100 a (xFI S 5100 a + 1)) b := hb
  have he1 : xFR (sFI S 5100 a (xFI S 5100 a + 1)) 1600 a = some e := h1
  have hro1 : xRO (sFI S 5100 a (xFI S 5100 a + 1)) = xRO S := rfl
  generalize sFI S 5100 a (xFI S 5100 a + 1) = S1 at c1 l1 o1 ob he1 hro1 ⊢
  obtain ⟨kk, e1, g1, g2, g3, g4, g5, g6, g7⟩ := id l1
  obtain rfl : e1 = e := Option.some.inj (g1.symm.trans he1)
  simp only [dr_some, g1, g2, g3, true_and, hk]
  have put : ∀ (S2 : XS) (e2 : Nat), LiS S2 a n L → xClean S2 → xFR S2 1600 a = some e2 → xRO S2 e2 = false → n < xLN S2 e2 → xOb S2 b → (∀ i, i < n → xOb S2 (L i)) → ∀ (mc ms : Nat), (∀ S' : XS, LiS S' a (n + 1) (fun i => if i < p then L i else if i = p then b else L (i - 1)) → Chg (fun q => q = a ∨ q = e2) S2 S' → xFR S' 1600 a = some e2 → Q S') → wx_J2_add_3_38 Q mc ms S2 (some a) (nI p) (some b) (nI n) (some e2) := by
    intro S2 e2 l2 cl2 he2 hr2 hl2 hb2 hob2 mc ms kk
    obtain ⟨hk2, e', f1, f2, f3, f4, f5, f6, f7⟩ := id l2
    obtain rfl : e' = e2 := Option.some.inj (f1.symm.trans he2)
    have hae : a ≠ e' := x_nek f2 hk2 (by decide)
    unfold wx_J2_add_3_38
    have s1 : nI n - nI p = nI (n - p) := nI_s hp
    simp only [dr_some, f2, hr2, true_and, xKD_sAR, xKD_sARf, xRO_sARf, xLN_sARf, hk2, s1, nI_tInc, p_tn (show p < 2 ^ 31 by omega), p_tn (show p + 1 < 2 ^ 31 by omega), p_tn (show n - p < 2 ^ 31 by omega)]
    refine ⟨nI_nn (by omega), nI_nn (by omega), nI_nn (by omega), by omega, by omega, ?_, p_vpn (by omega) (by omega), hb2, kk _ ⟨hk2, e', by simpa [xSall] using f1, f2, by simp [xSall], hl2, f5, ?_, Or.inl ⟨hr2, ?_⟩⟩ ?_ (by simpa [xSall] using f1)⟩
    · intro j hj y hy
      rw [f6 _ (by omega)] at hy
      rw [← Option.some.inj hy]
      exact hob2 _ (by omega)
    · intro i hi
      simp only [xAR_sFI, xAR_sAR, xAR_sARf, if_true]
      unfold va_up va_cpy
      show _ = some (if i < p then L i else if i = p then b else L (i - 1))
      by_cases z : i = p
      · subst z
        simp [xSall]
      · rw [if_neg z]
        by_cases z2 : i < p
        · rw [if_neg (by omega), if_pos z2]
          exact f6 i (by omega)
        · rw [if_pos (by omega), if_neg z2, if_neg z, show p + (i - (p + 1)) = i - 1 by omega]
          exact f6 _ (by omega)
    · show 10 ≤ xLN S2 e'
      rcases f7 with z | z
      · exact z.2
      · omega
    · exact (((Chg.refl cl2).sARf (Or.inr (Or.inr rfl)) (some_ne f2)).sAR (Or.inr (Or.inr rfl)) (some_ne f2)).sFI (Or.inr (Or.inl rfl)) (some_ne hk2)
  by_cases hfull : n = xLN S1 e1
  · rw [if_pos (by rw [← hfull]; rfl)]
    refine ⟨1, 400, hc, hm, ?_⟩
    refine l1.grow c1.cl o1 hn g1 hfull (Nat.le_refl _) (Nat.le_refl _) _ (fun S2 q hq l2 he2 hr2 hl2 c2 => ?_)
    refine put S2 q l2 c2.cl he2 hr2 hl2 (xOb_chg c2 ob) (fun i hi => xOb_chg c2 (o1 i hi)) _ _ (fun S3 l3 c3 he3 => ?_)
    refine k S3 l3 ?_ (fun e he => ?_)
    · refine ((c1.trans c2 (fun a _ z => z)).trans c3 (fun x hx z => ?_)).mono (fun x hx z => Or.inl z)
      rcases z with z | z
      · exact z
      · subst z
        exact absurd (c1.fresh hq) hx
    · right
      rw [he3] at he
      rw [← Option.some.inj he]
      exact c1.fresh hq
  · have hfi : ¬ nI n = Int32.ofNat (xLN S1 e1) := fun z => hfull ((nI_inj (by omega) (by omega)).mp z)
    rw [if_neg hfi]
    have hro : xRO S1 e1 = false := by
      rcases g7 with z | z
      · exact z.1
      · exact absurd (by omega) hfull
    refine put S1 e1 l1 c1.cl g1 hro (by omega) ob o1 _ _ (fun S3 l3 c3 he3 => ?_)
    refine k S3 l3 (c1.mono (fun x _ z => Or.inl z) |>.trans c3 (fun x hx z => ?_)) (fun e he => ?_)
    · rcases z with z | z
      · exact Or.inl z
      · subst z
        exact Or.inr ⟨h1, by rw [← hro1]; exact hro⟩
    · left
      rw [he3] at he
      rw [← he]
      exact h1
