/-! PLAIN SIDE 36: a funeral (class side) -/
/-- those in its way on floor f -/
abbrev pIw (J : MS) (hs h : Nat) (d fr to : Int32) (f k : Nat) : Prop := hs.testBit k = true ∧ pAt J k (nI h) (nI f) d ∧ pAg J k fr to 3 (J 2 h)
def iwM (J : MS) (hs h : Nat) (d fr to : Int32) (f : Nat) : Nat → Nat
  | 0 => 0
  | k + 1 => if pIw J hs h d fr to f k then iwM J hs h d fr to f k ||| 2 ^ k else iwM J hs h d fr to f k
theorem iwM_lt (J : MS) (hs h : Nat) (d fr to : Int32) (f : Nat) : ∀ k, iwM J hs h d fr to f k < 2 ^ k
  | 0 => by unfold iwM; decide
  | k + 1 => by
    unfold iwM
    have := iwM_lt J hs h d fr to f k
    have h2 : 2 ^ k < 2 ^ (k + 1) := Nat.pow_lt_pow_right (by decide) (by omega)
    split
    · exact or_lt (by omega) (by omega)
    · omega
theorem iwM_bit (J : MS) (hs h : Nat) (d fr to : Int32) (f : Nat) : ∀ k j, (iwM J hs h d fr to f k).testBit j = true ↔ j < k ∧ pIw J hs h d fr to f j
  | 0, j => by
    unfold iwM
    rw [Nat.zero_testBit]
    constructor
    · intro h; cases h
    · rintro ⟨h, _⟩; exact absurd h (Nat.not_lt_zero j)
  | k + 1, j => by
    unfold iwM
    have ih := iwM_bit J hs h d fr to f k j
    by_cases p : pIw J hs h d fr to f k
    · rw [if_pos p, testBit_or, Bool.or_eq_true, ih, decide_eq_true_iff]
      constructor
      · rintro (⟨a, b⟩ | a)
        · exact ⟨by omega, b⟩
        · subst a; exact ⟨by omega, p⟩
      · rintro ⟨a, b⟩
        by_cases z : k = j
        · exact Or.inr z
        · exact Or.inl ⟨by omega, b⟩
    · rw [if_neg p, ih]
      constructor
      · rintro ⟨a, b⟩; exact ⟨by omega, b⟩
      · rintro ⟨a, b⟩
        by_cases z : j = k
        · subst z; exact absurd b p
        · exact ⟨by omega, b⟩
/-- all that is asked for a funeral: J, who holds, hall, day, from, to, people -/
def iwA (J : MS) (hs h : Nat) (d fr to : Int32) (f : Nat) : Nat := iwM J hs h d fr to f (nB J)
def flF (J : MS) (hs h : Nat) (d fr to pe : Int32) : Nat → Option Nat
  | 0 => none
  | f + 1 => if pe ≤ J 6 (2 * h + f) ∧ (∀ a, flF J hs h d fr to pe f = some a → pcN (iwA J hs h d fr to f) 16 < pcN (iwA J hs h d fr to a) 16) then some f else flF J hs h d fr to pe f
def mvF (J : MS) (hs h : Nat) (d fr to : Int32) : Option Nat → Nat
  | none => 0
  | some a => iwA J hs h d fr to a
/-- whether booking k stands in the way of b on floor f' of hall h' -/
abbrev pSt (J : MS) (hs mv h' f' b : Nat) (pl : Nat → Int32) (k : Nat) : Prop := ((hs.testBit k = true ∧ ¬ mv.testBit k = true ∧ pAt J k (nI h') (nI f') (oB J b 2)) ∨ (pl k = nI (2 * h' + f') ∧ oB J k 2 = oB J b 2)) ∧ pAg J b (oB J k 3) (oB J k 4) (oB J k 6) (J 2 h')
def noSt (J : MS) (hs mv h' f' b : Nat) (pl : Nat → Int32) (n : Nat) : Bool := decide (∀ k, k < n → ¬ pSt J hs mv h' f' b pl k)
theorem noSt_iff {J : MS} {hs mv h' f' b : Nat} {pl : Nat → Int32} {n : Nat} : noSt J hs mv h' f' b pl n = true ↔ ∀ k, k < n → ¬ pSt J hs mv h' f' b pl k := decide_eq_true_iff
abbrev frB (J : MS) (hs mv h : Nat) (fr to : Int32) (fl : Option Nat) (pl : Nat → Int32) (b h' f' : Nat) : Prop := pFire J b h' f' ∧ ¬ (h' = h ∧ fl = some f' ∧ pAg J b fr to 3 (J 2 h')) ∧ noSt J hs mv h' f' b pl (nB J) = true
def pfF (J : MS) (hs mv h : Nat) (fr to : Int32) (fl : Option Nat) (pl : Nat → Int32) (b : Nat) : Nat → Int32
  | 0 => -1000000
  | r + 1 => if frB J hs mv h fr to fl pl b ((h + (8 - (r + 1)) / 2) % 4) ((8 - (r + 1)) % 2) then nI (2 * ((h + (8 - (r + 1)) / 2) % 4) + (8 - (r + 1)) % 2) else pfF J hs mv h fr to fl pl b r
def plF (J : MS) (hs mv h : Nat) (fr to : Int32) (fl : Option Nat) : Nat → Nat → Int32
  | 0 => fun _ => -1000000
  | k + 1 => if mv.testBit k = true then upd (plF J hs mv h fr to fl k) k (pfF J hs mv h fr to fl (plF J hs mv h fr to fl k) k 8) else plF J hs mv h fr to fl k
def loS (mv : Nat) (pl : Nat → Int32) : Nat → Int32
  | 0 => 0
  | k + 1 => loS mv pl k + (if mv.testBit k = true ∧ pl k = -1000000 then 1 else 0)
/-- the object of a funeral -/
def FuO (ad : Nat → Nat) (S : XS) (q p h : Nat) (d fr to : Int32) (hs : Nat) (fl : Int32) (mv : Nat) (pl : Nat → Int32) : Prop :=
  xKD S q = some 8 ∧ xKD S p = some 100 ∧ xLN S p = 16 ∧ xFR S 807 q = some p ∧ xFR S 808 q = some (ad 0) ∧ xFI S 800 q = nI h ∧ xFI S 801 q = d ∧ xFI S 802 q = fr ∧ xFI S 803 q = to ∧ xFI S 804 q = nI hs ∧ xFI S 805 q = fl ∧ xFI S 806 q = nI mv ∧ ∀ i, i < 16 → xAI S p i = pl i
section
variable {ad : Nat → Nat} {J : MS} {S : XS} {q p h : Nat} {d fr to : Int32} {hs : Nat} {fl : Int32} {mv : Nat} {pl : Nat → Int32}
theorem ex_inWay (g : XA ad J S) (F : FuO ad S q p h d fr to hs fl mv pl) (hh : h < 4) (hs16 : hs < 2 ^ 16) {f : Nat} (Q : Int32 → XS → Prop) (k1 : Q (nI (iwA J hs h d fr to f)) S) : wx_X9_inWay Q S (some q) (nI f) := by
  obtain ⟨a1, a2, a3, a4, a5, a6, a7, a8, a9, a10, a11, a12, a13⟩ := F
  have nb := g.ji.nb.2
  obtain ⟨g0, g1⟩ := g.ha h hh
  have L : ∀ r k, k + r = nB J → wx_X9_inWay_4 Q (r + 1) S (some q) (nI f) (nI (iwM J hs h d fr to f k)) (nI k) := by
    intro r
    induction r with
    | zero =>
      intro k hk
      have : k = nB J := by omega
      subst this
      unfold wx_X9_inWay_4
      simp only [dr_some, a1, a5, g.k0, g.r2, g.bk.ls.1, g.bk.ls.size, true_and]
      rw [if_pos (by grind)]
      exact k1
    | succ r ih =>
      intro k hk
      have hk' : k < nB J := by omega
      have ih' := ih (k + 1) (by omega)
      unfold wx_X9_inWay_4 wx_X9_inWay_120 wx_X9_inWay_121
      simp only [dr_some, a1, a5, g.k0, g.r2, g.bk.ls.1, g.bk.ls.size, true_and]
      rw [if_neg (by rw [nIq_le (by omega) (by omega)]; omega)]
      simp only [dr_some, a1, a5, a6, a7, a8, a9, a10, g.k0, g.r1, g.r2, g.bk.ls.1, g.bk.ls.get hk', g.kb hk', true_and, ex_isAt _ g hk', ex_against _ g hk', bI_ite, g.k (show 2 ≤ 12 by decide), show kr 2 = 104 from rfl, g.b.l2, p_vpn hh (show 4 < 2 ^ 31 by decide), p_tn (show h < 2 ^ 31 by omega), g0, g1.ka, g1.i0, nI_tInc, p_or0, nI_setbit (show k < 31 by omega)]
      rw [nI_bit (by omega) (by omega)]
      unfold iwM at ih'
      by_cases z1 : hs.testBit k = true
      · rw [bI_t z1, if_pos rfl]
        by_cases z2 : pAt J k (nI h) (nI f) d
        · rw [if_pos z2]
          by_cases z3 : pAg J k fr to 3 (J 2 h)
          · rw [if_pos z3]; rw [if_pos ⟨z1, z2, z3⟩] at ih'; exact ih'
          · rw [if_neg z3]; rw [if_neg (fun y => z3 y.2.2)] at ih'; exact ih'
        · rw [if_neg z2]; rw [if_neg (fun y => z2 y.2.1)] at ih'; exact ih'
      · rw [bI_f z1, if_neg (by decide)]; rw [if_neg (fun y => z1 y.1)] at ih'; exact ih'
  exact ⟨nB J + 1, L (nB J) 0 (by omega)⟩
theorem ex_isFreeFor (g : XA ad J S) {flo : Option Nat} (hfl : flo = none ∨ ∃ a, a < 2 ∧ flo = some a) (F : FuO ad S q p h d fr to hs (encO flo) mv pl) (hh : h < 4) (hs16 : hs < 2 ^ 16) (mv16 : mv < 2 ^ 16) {b h' f' : Nat} (hb : b < nB J) (hd : oB J b 2 = d) (h4 : h' < 4) (f2 : f' < 2) (Q : Int32 → XS → Prop) (k1 : Q (bI (frB J hs mv h fr to flo pl b h' f')) S) : wx_X9_isFreeFor Q S (some q) (some (ad (100 + b))) (nI h') (nI f') := by
  obtain ⟨a1, a2, a3, a4, a5, a6, a7, a8, a9, a10, a11, a12, a13⟩ := F
  have nb := g.ji.nb.2
  obtain ⟨g0, g1⟩ := g.ha h' h4
  obtain ⟨f0, f1, f2', f3, f4, f5, f6, f7, f8, f9, f10⟩ := g.bf hb
  have cod : (2 : Int32) * nI h' + nI f' = nI (2 * h' + f') := by
    have e9 : (2 : Int32) = nI 2 := rfl
    rw [e9, nI_m, nI_a]
  have L : ∀ r k, k + r = nB J → noSt J hs mv h' f' b pl k = true → pFire J b h' f' → ¬ (h' = h ∧ flo = some f' ∧ pAg J b fr to 3 (J 2 h')) → wx_X9_isFreeFor_87 Q (r + 1) S (some q) (some (ad (100 + b))) (nI h') (nI f') (J 2 h') (nI k) := by
    intro r
    induction r with
    | zero =>
      intro k hk ns pf pn
      have : k = nB J := by omega
      subst this
      unfold wx_X9_isFreeFor_87
      simp only [dr_some, a1, a5, g.k0, g.r2, g.bk.ls.1, g.bk.ls.size, true_and]
      rw [if_pos (by grind)]
      rw [bI_t ⟨pf, pn, ns⟩] at k1
      exact k1
    | succ r ih =>
      intro k hk ns pf pn
      have hk' : k < nB J := by omega
      obtain ⟨e0, e1, e2, e3, e4, e5, e6, e7, e8, e9, e10⟩ := g.bf hk'
      have stop : pSt J hs mv h' f' b pl k → Q 0 S := by
        intro y
        rw [bI_f (fun w => noSt_iff.mp w.2.2 k hk' y)] at k1
        exact k1
      have goOn : ¬ pSt J hs mv h' f' b pl k → wx_X9_isFreeFor_87 Q (r + 1) S (some q) (some (ad (100 + b))) (nI h') (nI f') (J 2 h') (nI (k + 1)) := by
        intro y
        refine ih (k + 1) (by omega) (noSt_iff.mpr (fun i hi => ?_)) pf pn
        by_cases z : i = k
        · rw [z]; exact y
        · exact noSt_iff.mp ns i (by omega)
      unfold wx_X9_isFreeFor_87 wx_X9_isFreeFor_170 wx_X9_isFreeFor_171 wx_X9_isFreeFor_204 wx_X9_isFreeFor_205 wx_X9_isFreeFor_217 wx_X9_isFreeFor_243
      simp only [dr_some, a1, a5, g.k0, g.r2, g.bk.ls.1, g.bk.ls.size, true_and]
      rw [if_neg (by rw [nIq_le (by omega) (by omega)]; omega)]
      simp only [dr_some, a1, a4, a2, a3, a5, a10, a12, g.k0, g.r2, g.bk.ls.1, g.bk.ls.get hk', g.kb hk', g.kb hb, true_and, ex_isAt _ g hk', ex_against _ g hb, bI_ite, e3, e4, e5, e7, f3, p_vpn (show k < 16 by omega) (show 16 < 2 ^ 31 by decide), p_tn (show k < 2 ^ 31 by omega), a13 k (by omega), cod, nI_tInc]
      have one : ¬ (1 : Int32) = 0 := by decide
      simp only [if_true, if_neg one]
      have ag : (if pAg J b (oB J k 3) (oB J k 4) (oB J k 6) (J 2 h') then Q 0 S else wx_X9_isFreeFor_87 Q (r + 1) S (some q) (some (ad (100 + b))) (nI h') (nI f') (J 2 h') (nI (k + 1))) ∨ True := Or.inr trivial
      -- with who stands there known
      have fin : ∀ (P : Prop) [Decidable P], (P ↔ ((hs.testBit k = true ∧ ¬ mv.testBit k = true ∧ pAt J k (nI h') (nI f') (oB J b 2)) ∨ (pl k = nI (2 * h' + f') ∧ oB J k 2 = oB J b 2))) → (if P then (if pAg J b (oB J k 3) (oB J k 4) (oB J k 6) (J 2 h') then Q 0 S else wx_X9_isFreeFor_87 Q (r + 1) S (some q) (some (ad (100 + b))) (nI h') (nI f') (J 2 h') (nI (k + 1))) else wx_X9_isFreeFor_87 Q (r + 1) S (some q) (some (ad (100 + b))) (nI h') (nI f') (J 2 h') (nI (k + 1))) := by
        intro P _ hP
        by_cases z : P
        · rw [if_pos z]
          by_cases y : pAg J b (oB J k 3) (oB J k 4) (oB J k 6) (J 2 h')
          · rw [if_pos y]; exact stop ⟨hP.mp z, y⟩
          · rw [if_neg y]; exact goOn (fun w => y w.2)
        · rw [if_neg z]; exact goOn (fun w => z (hP.mpr w.1))
      have fT : ((hs.testBit k = true ∧ ¬ mv.testBit k = true ∧ pAt J k (nI h') (nI f') (oB J b 2)) ∨ (pl k = nI (2 * h' + f') ∧ oB J k 2 = oB J b 2)) → (if pAg J b (oB J k 3) (oB J k 4) (oB J k 6) (J 2 h') then Q 0 S else wx_X9_isFreeFor_87 Q (r + 1) S (some q) (some (ad (100 + b))) (nI h') (nI f') (J 2 h') (nI (k + 1))) := fun w => by have := fin True ⟨fun _ => w, fun _ => trivial⟩; rw [if_pos trivial] at this; exact this
      have fF : ¬ ((hs.testBit k = true ∧ ¬ mv.testBit k = true ∧ pAt J k (nI h') (nI f') (oB J b 2)) ∨ (pl k = nI (2 * h' + f') ∧ oB J k 2 = oB J b 2)) → wx_X9_isFreeFor_87 Q (r + 1) S (some q) (some (ad (100 + b))) (nI h') (nI f') (J 2 h') (nI (k + 1)) := fun w => by have := fin False ⟨fun y => y.elim, fun y => absurd y w⟩; rw [if_neg (fun y => y)] at this; exact this
      rw [nI_bit (show hs < 2 ^ 31 by omega) (by omega), nI_bit (show mv < 2 ^ 31 by omega) (by omega), bI_ite]
      have notSt : ¬ (hs.testBit k = true ∧ ¬ mv.testBit k = true ∧ pAt J k (nI h') (nI f') (oB J b 2)) → (if pl k = nI (2 * h' + f') then (if oB J k 2 = oB J b 2 then (if pAg J b (oB J k 3) (oB J k 4) (oB J k 6) (J 2 h') then Q 0 S else wx_X9_isFreeFor_87 Q (r + 1) S (some q) (some (ad (100 + b))) (nI h') (nI f') (J 2 h') (nI (k + 1))) else wx_X9_isFreeFor_87 Q (r + 1) S (some q) (some (ad (100 + b))) (nI h') (nI f') (J 2 h') (nI (k + 1))) else wx_X9_isFreeFor_87 Q (r + 1) S (some q) (some (ad (100 + b))) (nI h') (nI f') (J 2 h') (nI (k + 1))) := by
        intro w
        by_cases y1 : pl k = nI (2 * h' + f')
        · rw [if_pos y1]
          by_cases y2 : oB J k 2 = oB J b 2
          · rw [if_pos y2]; exact fT (Or.inr ⟨y1, y2⟩)
          · rw [if_neg y2]; exact fF (fun v => v.elim w (fun u => y2 u.2))
        · rw [if_neg y1]; exact fF (fun v => v.elim w (fun u => y1 u.1))
      by_cases z1 : hs.testBit k = true
      · rw [bI_t z1, if_pos rfl]
        by_cases z2 : mv.testBit k = true
        · rw [if_pos z2]; exact notSt (fun w => w.2.1 z2)
        · rw [if_neg z2]
          by_cases z3 : pAt J k (nI h') (nI f') (oB J b 2)
          · rw [if_pos z3]
            have w : hs.testBit k = true ∧ ¬ mv.testBit k = true ∧ pAt J k (nI h') (nI f') (oB J b 2) := ⟨z1, z2, z3⟩
            split
            · split <;> exact fT (Or.inl w)
            · exact fT (Or.inl w)
          · rw [if_neg z3]; exact notSt (fun w => z3 w.2.2)
      · rw [bI_f z1, if_neg (by decide)]; exact notSt (fun w => z1 w.1)
  unfold wx_X9_isFreeFor wx_X9_isFreeFor_84
  simp only [dr_some, a1, a5, a6, a7, a8, a9, a11, g.k0, g.r1, g.k (show 2 ≤ 12 by decide), show kr 2 = 104 from rfl, g.b.l2, p_vpn h4 (show 4 < 2 ^ 31 by decide), p_tn (show h' < 2 ^ 31 by omega), g0, g1.ka, g.kb hb, g1.r4, g1.kf, g1.lf, p_vpn f2 (show 2 < 2 ^ 31 by decide), p_tn (show f' < 2 ^ 31 by omega), g1.af f' f2, f6, f3, g1.i0, ex_against _ g hb, bI_ite, true_and]
  by_cases pf : pFire J b h' f'
  · rw [if_pos (show oB J b 5 ≤ J 6 (2 * h' + f') from pf)]
    have go : ¬ (h' = h ∧ flo = some f' ∧ pAg J b fr to 3 (J 2 h')) → ∃ n51, wx_X9_isFreeFor_87 Q n51 S (some q) (some (ad (100 + b))) (nI h') (nI f') (J 2 h') 0 := fun pn => ⟨nB J + 1, L (nB J) 0 (by omega) (noSt_iff.mpr (fun i hi => absurd hi (Nat.not_lt_zero i))) pf pn⟩
    have hi : nI h' = nI h ↔ h' = h := nI_inj (by omega) (by omega)
    have fi : nI f' = encO flo ↔ flo = some f' := by
      rcases hfl with e | ⟨a, a2', e⟩
      · rw [e]
        constructor
        · intro y; exact absurd y (enc_ne (by omega))
        · intro y; cases y
      · rw [e]
        show nI f' = nI a ↔ _
        rw [nI_inj (by omega) (by omega)]
        constructor
        · intro y; rw [y]
        · intro y; exact (Option.some.inj y).symm
    by_cases z1 : nI h' = nI h
    · rw [if_pos z1]
      by_cases z2 : nI f' = encO flo
      · rw [if_pos z2, if_pos hd]
        by_cases z3 : pAg J b fr to 3 (J 2 h')
        · rw [if_pos z3]
          rw [bI_f (fun w => w.2.1 ⟨hi.mp z1, fi.mp z2, z3⟩)] at k1
          exact k1
        · rw [if_neg z3]; exact go (fun w => z3 w.2.2)
      · rw [if_neg z2]; exact go (fun w => z2 (fi.mpr w.2.1))
    · rw [if_neg z1]; exact go (fun w => z1 (hi.mpr w.1))
  · rw [if_neg (show ¬ oB J b 5 ≤ J 6 (2 * h' + f') from pf)]
    rw [bI_f (fun w => pf w.1)] at k1
    exact k1
end
