/-! PLAIN SIDE 38: a funeral in the model -/
theorem plF_at (J : MS) (hs mv h : Nat) (fr to : Int32) (fl : Option Nat) (i : Nat) : ∀ m, plF J hs mv h fr to fl m i = if i < m ∧ mv.testBit i = true then pfF J hs mv h fr to fl (plF J hs mv h fr to fl i) i 8 else -1000000
  | 0 => by rw [if_neg (fun y => Nat.not_lt_zero i y.1)]; rfl
  | m + 1 => by
    have ih := plF_at J hs mv h fr to fl i m
    have es : plF J hs mv h fr to fl (m + 1) = if mv.testBit m = true then upd (plF J hs mv h fr to fl m) m (pfF J hs mv h fr to fl (plF J hs mv h fr to fl m) m 8) else plF J hs mv h fr to fl m := rfl
    rw [es]
    by_cases z : mv.testBit m = true
    · rw [if_pos z]
      show (if i = m then _ else _) = _
      by_cases w : i = m
      · subst w
        rw [if_pos rfl, if_pos ⟨by omega, z⟩]
      · rw [if_neg w, ih]
        by_cases y : i < m ∧ mv.testBit i = true
        · rw [if_pos y, if_pos ⟨by omega, y.2⟩]
        · rw [if_neg y, if_neg (fun v => y ⟨by omega, v.2⟩)]
    · rw [if_neg z, ih]
      by_cases y : i < m ∧ mv.testBit i = true
      · rw [if_pos y, if_pos ⟨by omega, y.2⟩]
      · rw [if_neg y, if_neg (fun v => y ⟨by
          by_cases w : i = m
          · rw [w] at v; exact absurd v.2 z
          · omega, v.2⟩)]
def cnF (J : MS) (hs mv h : Nat) (fr to : Int32) (fl : Option Nat) : Nat → Int32
  | 0 => 0
  | k + 1 => cnF J hs mv h fr to fl k + (if mv.testBit k = true ∧ ¬ pfF J hs mv h fr to fl (plF J hs mv h fr to fl k) k 8 = -1000000 then 1 else 0)
theorem lo_eq (J : MS) (hs mv h : Nat) (fr to : Int32) (fl : Option Nat) {n : Nat} (hmv : mv < 2 ^ n) : ∀ j, loS mv (plF J hs mv h fr to fl n) j = nI (pcN mv j) - cnF J hs mv h fr to fl (min j n)
  | 0 => by
    show (0 : Int32) = nI 0 - cnF J hs mv h fr to fl (min 0 n)
    rw [Nat.zero_min]
    show (0 : Int32) = nI 0 - 0
    decide
  | j + 1 => by
    have ih := lo_eq J hs mv h fr to fl hmv j
    unfold loS pcN
    rw [ih, plF_at]
    by_cases z : mv.testBit j = true
    · have jn : j < n := tb_lt hmv z
      rw [if_pos z, if_pos (And.intro jn z), Nat.min_eq_left (by omega), Nat.min_eq_left (by omega)]
      have e : cnF J hs mv h fr to fl (j + 1) = cnF J hs mv h fr to fl j + (if mv.testBit j = true ∧ ¬ pfF J hs mv h fr to fl (plF J hs mv h fr to fl j) j 8 = -1000000 then 1 else 0) := rfl
      have ea : nI (pcN mv j + 1) = nI (pcN mv j) + 1 := (nI_tInc _).symm
      rw [e, ea]
      by_cases y : pfF J hs mv h fr to fl (plF J hs mv h fr to fl j) j 8 = -1000000
      · rw [if_pos ⟨z, y⟩, if_neg (fun w => w.2 y)]; grind
      · rw [if_neg (fun w => y w.2), if_pos ⟨z, y⟩]; grind
    · rw [if_neg z, if_neg (fun w => z w.1), Nat.add_zero, p_add0]
      rcases Nat.lt_or_ge j n with w | w
      · have e : cnF J hs mv h fr to fl (j + 1) = cnF J hs mv h fr to fl j + (if mv.testBit j = true ∧ ¬ pfF J hs mv h fr to fl (plF J hs mv h fr to fl j) j 8 = -1000000 then 1 else 0) := rfl
        rw [Nat.min_eq_left (by omega), Nat.min_eq_left (by omega), e, if_neg (fun y => z y.1), p_add0]
      · rw [Nat.min_eq_right (by omega), Nat.min_eq_right (by omega)]
section
variable {J J' : MS} {h : Nat} {d fr to : Int32} {hs : Nat} {mv : Nat} {pl : Nat → Int32}
theorem Sm.pm (e : Sm J' J) (i : Nat) (a b c x y z : Int32) : pMeets J' i a b c x y z ↔ pMeets J i a b c x y z := by
  unfold pMeets
  rw [e 2 (by decide)]
theorem em_clashing (g : JI J) (e : Sm J' J) (hh : h < 4) (hs16 : hs < 2 ^ 16) {f : Nat} (f2 : f < 2) (Q : Int32 → MS → Prop) (k1 : Q (nI (iwA J hs h d fr to f)) J') : wm_clashing Q J' (nI hs) (nI h) (nI f) d fr to := by
  obtain ⟨n1, nb⟩ := g.nb
  have n1' : J' 24 0 = nI (nB J) := by rw [e 24 (by decide)]; exact n1
  have one : ¬ (1 : Int32) = 0 := by decide
  have L : ∀ r k, k + r = nB J → wm_clashing_6 Q (r + 1) J' (nI hs) (nI h) (nI f) d fr to (nI (iwM J hs h d fr to f k)) (nI k) := by
    intro r
    induction r with
    | zero =>
      intro k hk
      have : k = nB J := by omega
      subst this
      unfold wm_clashing_6
      rw [n1', if_pos (by grind)]
      exact k1
    | succ r ih =>
      intro k hk
      have k16 : k < 16 := by omega
      have ih' := ih (k + 1) (by omega)
      unfold wm_clashing_6 wm_clashing_98 wm_clashing_99 wm_clashing_116
      rw [n1', if_neg (by rw [nIq_le (by omega) (by omega)]; omega), nI_bit (by omega) (by omega)]
      simp only [em_of0 _ k16, em_of1 _ k16, em_of2 _ k16, em_of3 _ k16, em_of4 _ k16, em_of6 _ k16, em_meets _ hh, bI_ite, e.oB, if_true, if_neg one, p_or0, nI_setbit (show k < 31 by omega), nI_tInc]
      unfold iwM at ih'
      by_cases z0 : hs.testBit k = true
      · rw [bI_t z0, if_pos rfl]
        by_cases z1 : oB J k 0 = nI h
        · rw [if_pos z1]
          by_cases z2 : oB J k 1 = nI f
          · rw [if_pos z2]
            by_cases z3 : oB J k 2 = d
            · rw [if_pos z3]
              have eq : pMeets J' h (oB J k 3) (oB J k 4) (oB J k 6) fr to 3 ↔ pAg J k fr to 3 (J 2 h) := (e.pm h _ _ _ _ _ _)
              by_cases z4 : pAg J k fr to 3 (J 2 h)
              · rw [if_pos (eq.mpr z4)]; rw [if_pos ⟨z0, ⟨z1, z2, z3⟩, z4⟩] at ih'; exact ih'
              · rw [if_neg (fun y => z4 (eq.mp y))]; rw [if_neg (fun y => z4 y.2.2)] at ih'; exact ih'
            · rw [if_neg z3]; rw [if_neg (fun y => z3 y.2.1.2.2)] at ih'; exact ih'
          · rw [if_neg z2]; rw [if_neg (fun y => z2 y.2.1.2.1)] at ih'; exact ih'
        · rw [if_neg z1]; rw [if_neg (fun y => z1 y.2.1.1)] at ih'; exact ih'
      · rw [bI_f z0, if_neg (by decide)]; rw [if_neg (fun y => z0 y.1)] at ih'; exact ih'
  exact ⟨nB J + 1, L (nB J) 0 (by omega)⟩
theorem em_bits {s : Nat} (hs : s < 2 ^ 16) (Q : Int32 → MS → Prop) (k1 : Q (nI (pcN s 16)) J') : wm_bits Q J' (nI s) := by
  have L : ∀ r k, k + r = 16 → wm_bits_4 Q (r + 1) J' (nI s) (nI (pcN s k)) (nI k) := by
    intro r
    induction r with
    | zero =>
      intro k hk
      have : k = 16 := by omega
      subst this
      unfold wm_bits_4
      rw [if_pos (by decide)]
      exact k1
    | succ r ih =>
      intro k hk
      have ih' := ih (k + 1) (by omega)
      unfold wm_bits_4
      rw [if_neg (by show ¬ nI 16 ≤ nI k; rw [nIq_le (by omega) (by omega)]; omega), nI_bit (by omega) (by omega), nI_tInc]
      unfold pcN at ih'
      by_cases z : s.testBit k = true
      · rw [if_pos z] at ih'
        rw [bI_t z, nI_tInc]; exact ih'
      · rw [if_neg z] at ih'
        rw [bI_f z, p_add0]; exact ih'
  exact ⟨17, L 16 0 rfl⟩
theorem em_isFree (g : JI J) (e : Sm J' J) {flo : Option Nat} (hfl : flo = none ∨ ∃ a, a < 2 ∧ flo = some a) (hh : h < 4) (hs16 : hs < 2 ^ 16) (mv16 : mv < 2 ^ 16) (e32 : J' 32 0 = nI mv) (e31 : ∀ k, k < 16 → J' 31 k = pl k) (hpl : ∀ k, ¬ mv.testBit k = true → pl k = -1000000) {b h' f' : Nat} (hb : b < nB J) (h4 : h' < 4) (f2 : f' < 2) (Q : Int32 → MS → Prop) (k1 : Q (bI (frB J hs mv h fr to flo pl b h' f')) J') : wm_isFree Q J' (nI b) (nI h') (nI f') (nI hs) (nI h) (encO flo) fr to := by
  obtain ⟨n1, nb⟩ := g.nb
  have n1' : J' 24 0 = nI (nB J) := by rw [e 24 (by decide)]; exact n1
  have b16 := g.b hb
  have ji' := e.ji g
  have one : ¬ (1 : Int32) = 0 := by decide
  have cod : (2 : Int32) * nI h' + nI f' = nI (2 * h' + f') := by
    have e9 : (2 : Int32) = nI 2 := rfl
    rw [e9, nI_m, nI_a]
  have L : ∀ r k, k + r = nB J → ∀ p : Prop, ∀ [Decidable p], (p ↔ (pFire J b h' f' ∧ ¬ (h' = h ∧ flo = some f' ∧ pAg J b fr to 3 (J 2 h'))) ∧ noSt J hs mv h' f' b pl k = true) → wm_isFree_64 Q (r + 1) J' (nI b) (nI h') (nI f') (nI hs) (bI p) (nI k) := by
    intro r
    induction r with
    | zero =>
      intro k hk p _ hp
      have : k = nB J := by omega
      subst this
      unfold wm_isFree_64
      rw [n1', if_pos (by grind), bI_nar, true_and]
      have : bI p = bI (frB J hs mv h fr to flo pl b h' f') := bI_cong ⟨fun y => ⟨(hp.mp y).1.1, (hp.mp y).1.2, (hp.mp y).2⟩, fun y => hp.mpr ⟨⟨y.1, y.2.1⟩, y.2.2⟩⟩
      rw [this]
      exact k1
    | succ r ih =>
      intro k hk p _ hp
      have hk' : k < nB J := by omega
      have k16 : k < 16 := by omega
      have n1k : noSt J hs mv h' f' b pl (k + 1) = true ↔ noSt J hs mv h' f' b pl k = true ∧ ¬ pSt J hs mv h' f' b pl k := by
        rw [noSt_iff, noSt_iff]
        constructor
        · exact fun y => ⟨fun i hi => y i (by omega), y k (by omega)⟩
        · rintro ⟨y1, y2⟩ i hi
          by_cases z : i = k
          · rw [z]; exact y2
          · exact y1 i (by omega)
      -- the next one, with what is known by now
      have n0 : (¬ p ∨ pSt J hs mv h' f' b pl k) → wm_isFree_64 Q (r + 1) J' (nI b) (nI h') (nI f') (nI hs) 0 (nI (k + 1)) := by
        intro y
        have := ih (k + 1) (by omega) False ⟨fun w => w.elim, fun w => by
          rcases y with y | y
          · exact y (hp.mpr ⟨w.1, (n1k.mp w.2).1⟩)
          · exact (n1k.mp w.2).2 y⟩
        exact this
      have np : ¬ pSt J hs mv h' f' b pl k → p → wm_isFree_64 Q (r + 1) J' (nI b) (nI h') (nI f') (nI hs) 1 (nI (k + 1)) := by
        intro y hp1
        have := ih (k + 1) (by omega) True ⟨fun _ => ⟨(hp.mp hp1).1, n1k.mpr ⟨(hp.mp hp1).2, y⟩⟩, fun _ => trivial⟩
        exact this
      have eqm : pMeets J' h' (oB J k 3) (oB J k 4) (oB J k 6) (oB J b 3) (oB J b 4) (oB J b 6) ↔ pAg J b (oB J k 3) (oB J k 4) (oB J k 6) (J 2 h') := by
        rw [e.pm]
        show (oB J k 3 < oB J b 4 + (if oB J k 6 = oB J b 6 then 0 else J 2 h') ∧ oB J b 3 < oB J k 4 + (if oB J k 6 = oB J b 6 then 0 else J 2 h')) ↔ (oB J b 3 < oB J k 4 + (if oB J b 6 = oB J k 6 then 0 else J 2 h') ∧ oB J k 3 < oB J b 4 + (if oB J b 6 = oB J k 6 then 0 else J 2 h'))
        by_cases z : oB J k 6 = oB J b 6
        · rw [if_pos z, if_pos z.symm]; exact ⟨fun y => ⟨y.2, y.1⟩, fun y => ⟨y.2, y.1⟩⟩
        · rw [if_neg z, if_neg (fun y => z y.symm)]; exact ⟨fun y => ⟨y.2, y.1⟩, fun y => ⟨y.2, y.1⟩⟩
      -- with whether it stands there
      have fin : ∀ (s : Prop) [Decidable s], ((s ∧ oB J k 2 = oB J b 2) ↔ ((hs.testBit k = true ∧ ¬ mv.testBit k = true ∧ pAt J k (nI h') (nI f') (oB J b 2)) ∨ (pl k = nI (2 * h' + f') ∧ oB J k 2 = oB J b 2))) → wm_isFree_146 Q (wm_isFree_64 Q (r + 1)) J' (nI b) (nI h') (nI f') (nI hs) (bI p) (nI k) (bI s) := by
        intro s _ hss
        unfold wm_isFree_146 wm_isFree_227 wm_isFree_223 wm_isFree_228
        simp only [bI_ite, em_of2 _ k16, em_of3 _ k16, em_of4 _ k16, em_of6 _ k16, em_of2 _ b16, em_of3 _ b16, em_of4 _ b16, em_of6 _ b16, em_meets _ h4, e.oB, nI_tInc]
        by_cases zp : p
        · rw [if_pos zp]
          by_cases z1 : s
          · rw [if_pos z1]
            by_cases z2 : oB J k 2 = oB J b 2
            · rw [if_pos z2]
              have st := hss.mp ⟨z1, z2⟩
              by_cases z3 : pAg J b (oB J k 3) (oB J k 4) (oB J k 6) (J 2 h')
              · rw [if_pos (eqm.mpr z3)]; exact n0 (Or.inr ⟨st, z3⟩)
              · rw [if_neg (fun y => z3 (eqm.mp y))]; exact np (fun y => z3 y.2) zp
            · rw [if_neg z2]; exact np (fun y => z2 (hss.mpr y.1).2) zp
          · rw [if_neg z1]; exact np (fun y => z1 (hss.mpr y.1).1) zp
        · rw [if_neg zp]; exact n0 (Or.inl zp)
      unfold wm_isFree_64 wm_isFree_122
      rw [n1', if_neg (by rw [nIq_le (by omega) (by omega)]; omega), e32, nI_bit (show mv < 2 ^ 31 by omega) (by omega), nI_bit (show hs < 2 ^ 31 by omega) (by omega), bI_ite, cod]
      simp only [em_of0 _ k16, em_of1 _ k16, e.oB, p_tn (show k < 2 ^ 31 by omega), e31 k k16, p_vpn k16 (show 16 < 2 ^ 31 by decide), true_and]
      have z0 : (0 : Int32) = bI False := rfl
      have z1 : (1 : Int32) = bI True := rfl
      by_cases m : mv.testBit k = true
      · rw [if_pos m]
        by_cases y : pl k = nI (2 * h' + f')
        · rw [if_pos y]
          have := fin True ⟨fun w => Or.inr ⟨y, w.2⟩, fun w => ⟨trivial, w.elim (fun u => absurd m u.2.1) (fun u => u.2)⟩⟩
          exact this
        · rw [if_neg y]
          have := fin False ⟨fun w => w.1.elim, fun w => w.elim (fun u => absurd m u.2.1) (fun u => absurd u.1 y)⟩
          exact this
      · rw [if_neg m]
        have pn : ¬ pl k = nI (2 * h' + f') := by rw [hpl k m]; exact fun y => enc_ne (show 2 * h' + f' < 2 ^ 31 by omega) y.symm
        have no : ¬ (hs.testBit k = true ∧ oB J k 0 = nI h' ∧ oB J k 1 = nI f') → wm_isFree_146 Q (wm_isFree_64 Q (r + 1)) J' (nI b) (nI h') (nI f') (nI hs) (bI p) (nI k) 0 := by
          intro y
          have := fin False ⟨fun w => w.1.elim, fun w => w.elim (fun u => absurd ⟨u.1, u.2.2.1, u.2.2.2.1⟩ y) (fun u => absurd u.1 pn)⟩
          exact this
        by_cases y0 : hs.testBit k = true
        · rw [bI_t y0, if_pos rfl]
          by_cases y1 : oB J k 0 = nI h'
          · rw [if_pos y1]
            by_cases y2 : oB J k 1 = nI f'
            · rw [if_pos y2]
              have := fin True ⟨fun w => Or.inl ⟨y0, m, y1, y2, w.2⟩, fun w => ⟨trivial, w.elim (fun u => u.2.2.2.2) (fun u => u.2)⟩⟩
              exact this
            · rw [if_neg y2]; exact no (fun w => y2 w.2.2)
          · rw [if_neg y1]; exact no (fun w => y1 w.2.1)
        · rw [bI_f y0, if_neg (by decide)]; exact no (fun w => y0 w.1)
  have hb' : b < nB J' := by rw [e.nB]; exact hb
  have go : ∀ p : Prop, ∀ [Decidable p], (p ↔ (pFire J b h' f' ∧ ¬ (h' = h ∧ flo = some f' ∧ pAg J b fr to 3 (J 2 h')))) → wm_isFree_59 Q J' (nI b) (nI h') (nI f') (nI hs) (bI p) := by
    intro p _ hp
    unfold wm_isFree_59
    exact ⟨nB J + 1, L (nB J) 0 (by omega) p ⟨fun y => ⟨hp.mp y, noSt_iff.mpr (fun i hi => absurd hi (Nat.not_lt_zero i))⟩, fun y => hp.mpr y.1⟩⟩
  have hi : nI h' = nI h ↔ h' = h := nI_inj (by omega) (by omega)
  have fi : nI f' = encO flo ↔ flo = some f' := by
    rcases hfl with w | ⟨a, a2', w⟩
    · rw [w]
      constructor
      · intro y; exact absurd y (enc_ne (by omega))
      · intro y; cases y
    · rw [w]
      show nI f' = nI a ↔ _
      rw [nI_inj (by omega) (by omega)]
      constructor
      · intro y; rw [y]
      · intro y; exact (Option.some.inj y).symm
  unfold wm_isFree wm_isFree_58 wm_isFree_54
  rw [em_fire _ ji' hb' h4 f2, bI_ite]
  simp only [em_of3 _ b16, em_of4 _ b16, em_of6 _ b16, em_meets _ h4, e.oB, bI_ite]
  by_cases pf : pFire J b h' f'
  · rw [if_pos ((e.fire b h' f').mpr pf)]
    have yes : ¬ (h' = h ∧ flo = some f' ∧ pAg J b fr to 3 (J 2 h')) → wm_isFree_59 Q J' (nI b) (nI h') (nI f') (nI hs) 1 := fun y => go True ⟨fun _ => ⟨pf, y⟩, fun _ => trivial⟩
    by_cases z1 : nI h' = nI h
    · rw [if_pos z1]
      by_cases z2 : nI f' = encO flo
      · rw [if_pos z2]
        have eq : pMeets J' h' (oB J b 3) (oB J b 4) (oB J b 6) fr to 3 ↔ pAg J b fr to 3 (J 2 h') := e.pm h' _ _ _ _ _ _
        by_cases z3 : pAg J b fr to 3 (J 2 h')
        · rw [if_pos (eq.mpr z3)]
          exact go False ⟨fun y => y.elim, fun y => y.2 ⟨hi.mp z1, fi.mp z2, z3⟩⟩
        · rw [if_neg (fun y => z3 (eq.mp y))]; exact yes (fun y => z3 y.2.2)
      · rw [if_neg z2]; exact yes (fun y => z2 (fi.mpr y.2.1))
    · rw [if_neg z1]; exact yes (fun y => z1 (hi.mpr y.1))
  · rw [if_neg (fun y => pf ((e.fire b h' f').mp y))]
    exact go False ⟨fun y => y.elim, fun y => pf y.1⟩
end
