/-! PLAIN SIDE 29: looks; home -/
theorem KOrd.first {k1 k2 : Nat → Int} {n : Nat} {f : Nat → Nat} (ok : KOrd k1 k2 (fun _ => True) n n f) (C : Nat → Prop) [∀ b, Decidable (C b)] : ((∀ i, i < n → ¬ C (f i)) ∧ scanF k1 k2 C n = none) ∨ ∃ j, j < n ∧ C (f j) ∧ (∀ i, i < j → ¬ C (f i)) ∧ scanF k1 k2 C n = some (f j) := by
  cases e : scanF k1 k2 C n with
  | none => exact Or.inl ⟨fun i hi => scanF_none _ _ _ n e (f i) (ok.mem i hi).1, rfl⟩
  | some a =>
    obtain ⟨a1, a2, a3⟩ := scanF_some _ _ _ n a e
    obtain ⟨j, j1, j2⟩ := ok.all a a1 trivial
    refine Or.inr ⟨j, j1, by rw [j2]; exact a2, fun i hi c => ?_, by rw [j2]⟩
    have q := ok.lt i j hi j1
    rw [j2] at q
    rcases a3 (f i) (ok.mem i (by omega)).1 c with w | w
    · rw [w] at q; unfold klt at q; omega
    · unfold klt at q w; omega
/-- the scan for the last -/
def scanM (k1 k2 : Nat → Int) (C : Nat → Prop) [∀ b, Decidable (C b)] : Nat → Option Nat
  | 0 => none
  | m + 1 => if C m ∧ (∀ a, scanM k1 k2 C m = some a → klt k1 k2 a m) then some m else scanM k1 k2 C m
theorem scanM_none (k1 k2 : Nat → Int) (C : Nat → Prop) [∀ b, Decidable (C b)] : ∀ m, scanM k1 k2 C m = none → ∀ b, b < m → ¬ C b
  | 0, _, b, h => absurd h (Nat.not_lt_zero b)
  | m + 1, h, b, hb => by
    unfold scanM at h
    by_cases z : C m ∧ (∀ a, scanM k1 k2 C m = some a → klt k1 k2 a m)
    · rw [if_pos z] at h; cases h
    · rw [if_neg z] at h
      by_cases w : b = m
      · subst w
        intro cb
        exact z ⟨cb, fun a e => by rw [h] at e; cases e⟩
      · exact scanM_none k1 k2 C m h b (by omega)
theorem scanM_some (k1 k2 : Nat → Int) (C : Nat → Prop) [∀ b, Decidable (C b)] : ∀ m a, scanM k1 k2 C m = some a → a < m ∧ C a ∧ ∀ b, b < m → C b → b = a ∨ klt k1 k2 b a
  | 0, a, h => by cases h
  | m + 1, a, h => by
    unfold scanM at h
    by_cases z : C m ∧ (∀ a, scanM k1 k2 C m = some a → klt k1 k2 a m)
    · rw [if_pos z] at h
      cases h
      refine ⟨by omega, z.1, fun b hb cb => ?_⟩
      by_cases w : b = m
      · exact Or.inl w
      · right
        cases e : scanM k1 k2 C m with
        | none => exact absurd cb (scanM_none k1 k2 C m e b (by omega))
        | some a =>
          have q := z.2 a e
          rcases (scanM_some k1 k2 C m a e).2.2 b (by omega) cb with r | r
          · rw [r]; exact q
          · unfold klt at q r ⊢; omega
    · rw [if_neg z] at h
      obtain ⟨q1, q2, q3⟩ := scanM_some k1 k2 C m a h
      refine ⟨by omega, q2, fun b hb cb => ?_⟩
      by_cases w : b = m
      · subst w
        by_cases y : b = a
        · exact Or.inl y
        · right
          have : ¬ klt k1 k2 a b := fun y => z ⟨cb, fun a' e => by rw [h] at e; cases e; exact y⟩
          unfold klt at this ⊢; omega
      · exact q3 b (by omega) cb
def dmg (J : MS) (b : Nat) : Nat := (J 45 b).toNatClampNeg
abbrev pHit (J : MS) (h : Int32) (dm b : Nat) : Prop := J 43 b = h ∧ (dmg J b).testBit dm = true
abbrev pMiss (J : MS) (h : Int32) (dm b : Nat) : Prop := J 43 b = h ∧ ¬ (dmg J b).testBit dm = true
abbrev pBefo (J : MS) (h : Int32) (dm fi b : Nat) : Prop := pMiss J h dm b ∧ klt (tk1 (J 44)) tk2 b fi
def bfF (J : MS) (h : Int32) (dm : Nat) (f : Nat → Nat) : Nat → Int32
  | 0 => -1000000
  | j + 1 => if pMiss J h dm (f j) then J 44 (f j) else bfF J h dm f j
/-- a booking that lies between two looks -/
abbrev pBtw (J : MS) (h bef aft : Int32) (set b : Nat) : Prop := set.testBit b = true ∧ oB J b 0 = h ∧ 96 * oB J b 2 + oB J b 3 < aft ∧ bef < 96 * oB J b 2 + oB J b 4
def btF (J : MS) (h bef aft : Int32) (set : Nat) : Nat → Nat × Int32
  | 0 => (0, -1000000)
  | k + 1 => if pBtw J h bef aft set k then ((btF J h bef aft set k).1 + 1, nI k) else btF J h bef aft set k
def fHome (J : MS) (h bef aft : Int32) (set : Nat) : Int32 := if (btF J h bef aft set (nB J)).1 = 1 then (btF J h bef aft set (nB J)).2 else -1000000
theorem btF_le (J : MS) (h bef aft : Int32) (set : Nat) : ∀ k, (btF J h bef aft set k).1 ≤ k
  | 0 => Nat.le_refl 0
  | k + 1 => by
    unfold btF
    have := btF_le J h bef aft set k
    split
    · exact Nat.succ_le_succ this
    · omega
theorem btF_mono (J : MS) (h bef aft : Int32) (set : Nat) : ∀ r k, (btF J h bef aft set k).1 ≤ (btF J h bef aft set (k + r)).1
  | 0, k => Nat.le_refl _
  | r + 1, k => by
    have := btF_mono J h bef aft set r k
    show _ ≤ (if pBtw J h bef aft set (k + r) then ((btF J h bef aft set (k + r)).1 + 1, nI (k + r)) else btF J h bef aft set (k + r)).1
    split
    · exact Nat.le_succ_of_le this
    · exact this
theorem btF_0 (J : MS) (h bef aft : Int32) (set : Nat) : ∀ k, (btF J h bef aft set k).1 = 0 → (btF J h bef aft set k).2 = -1000000
  | 0, _ => rfl
  | k + 1, hk => by
    unfold btF at hk ⊢
    by_cases z : pBtw J h bef aft set k
    · rw [if_pos z] at hk; cases hk
    · rw [if_neg z] at hk ⊢; exact btF_0 J h bef aft set k hk
theorem btF_pos (J : MS) (h bef aft : Int32) (set : Nat) : ∀ k, k ≤ 16 → 0 < (btF J h bef aft set k).1 → ¬ (btF J h bef aft set k).2 = -1000000
  | 0, _, hk => absurd hk (Nat.not_lt_zero 0)
  | k + 1, h16, hk => by
    unfold btF at hk ⊢
    by_cases z : pBtw J h bef aft set k
    · rw [if_pos z]; exact enc_ne (by omega)
    · rw [if_neg z] at hk ⊢; exact btF_pos J h bef aft set k (by omega) hk
section
variable {ad : Nat → Nat} {J : MS} {S : XS} {x : Nat}
theorem dmg_eq (g : JI J) {b : Nat} (hb : b < nL J) : J 45 b = nI (dmg J b) ∧ dmg J b < 256 := by
  have h := (g.loo b hb).2.2
  obtain ⟨j, j1, j2⟩ := p_ex (n := 256) h.1 (by omega)
  unfold dmg
  rw [j2, p_tn (by omega)]
  exact ⟨rfl, j1⟩
/-- the looks of a hall, cut at the first that shows the damage: j is its place (or the end), bef the time before it -/
theorem looks_cut (g : JI J) (h : Int32) (dm : Nat) : ((∀ i, i < nL J → ¬ pHit J h dm (ordF (J 44) (nL J) i)) ∧ scanF (tk1 (J 44)) tk2 (pHit J h dm) (nL J) = none) ∨ ∃ j, j < nL J ∧ pHit J h dm (ordF (J 44) (nL J) j) ∧ (∀ i, i < j → ¬ pHit J h dm (ordF (J 44) (nL J) i)) ∧ scanF (tk1 (J 44)) tk2 (pHit J h dm) (nL J) = some (ordF (J 44) (nL J) j) ∧ ((bfF J h dm (ordF (J 44) (nL J)) j = -1000000 ∧ scanM (tk1 (J 44)) tk2 (pBefo J h dm (ordF (J 44) (nL J) j)) (nL J) = none) ∨ ∃ la, la < nL J ∧ bfF J h dm (ordF (J 44) (nL J)) j = J 44 la ∧ scanM (tk1 (J 44)) tk2 (pBefo J h dm (ordF (J 44) (nL J) j)) (nL J) = some la) := by
  have ok := ordF_ok (J 44) (nL J)
  generalize ordF (J 44) (nL J) = f at ok ⊢
  rcases ok.first (pHit J h dm) with w | ⟨j, j1, j2, j3, j4⟩
  · exact Or.inl w
  · refine Or.inr ⟨j, j1, j2, j3, j4, ?_⟩
    have B : ∀ k, k ≤ j → (bfF J h dm f k = -1000000 ∧ ∀ i, i < k → ¬ pMiss J h dm (f i)) ∨ ∃ i0, i0 < k ∧ pMiss J h dm (f i0) ∧ (∀ i, i0 < i → i < k → ¬ pMiss J h dm (f i)) ∧ bfF J h dm f k = J 44 (f i0) := by
      intro k
      induction k with
      | zero => intro _; exact Or.inl ⟨rfl, fun i hi => absurd hi (Nat.not_lt_zero i)⟩
      | succ k ih =>
        intro hk
        unfold bfF
        by_cases z : pMiss J h dm (f k)
        · rw [if_pos z]
          exact Or.inr ⟨k, by omega, z, fun i h1 h2 => by omega, rfl⟩
        · rw [if_neg z]
          rcases ih (by omega) with ⟨q1, q2⟩ | ⟨i0, q1, q2, q3, q4⟩
          · left
            refine ⟨q1, fun i hi => ?_⟩
            by_cases y : i = k
            · rw [y]; exact z
            · exact q2 i (by omega)
          · right
            refine ⟨i0, by omega, q2, fun i h1 h2 => ?_, q4⟩
            by_cases y : i = k
            · rw [y]; exact z
            · exact q3 i h1 (by omega)
    cases e : scanM (tk1 (J 44)) tk2 (pBefo J h dm (f j)) (nL J) with
    | none =>
      left
      rcases B j (Nat.le_refl j) with ⟨q1, q2⟩ | ⟨i0, q1, q2, q3, q4⟩
      · exact ⟨q1, rfl⟩
      · exact absurd ⟨q2, ok.lt i0 j q1 j1⟩ (scanM_none _ _ _ _ e (f i0) (ok.mem i0 (by omega)).1)
    | some la =>
      right
      obtain ⟨a1, ⟨a2, a3⟩, a4⟩ := scanM_some _ _ _ _ la e
      obtain ⟨ia, ia1, ia2⟩ := ok.all la a1 trivial
      have iaj : ia < j := by
        rcases Nat.lt_trichotomy ia j with y | y | y
        · exact y
        · rw [← ia2, y] at a3; unfold klt at a3; omega
        · have := ok.lt j ia y ia1
          rw [ia2] at this
          unfold klt at this a3; omega
      refine ⟨la, a1, ?_, rfl⟩
      rcases B j (Nat.le_refl j) with ⟨q1, q2⟩ | ⟨i0, q1, q2, q3, q4⟩
      · exact absurd (by rw [ia2]; exact a2) (q2 ia iaj)
      · rw [q4]
        have : i0 = ia := by
          rcases Nat.lt_trichotomy i0 ia with y | y | y
          · exact absurd (by rw [ia2]; exact a2) (q3 ia y iaj)
          · exact y
          · rcases a4 (f i0) (ok.mem i0 (by omega)).1 ⟨q2, ok.lt i0 j q1 j1⟩ with w | w
            · exact ok.inj (by omega) ia1 (by rw [w, ia2])
            · have := ok.lt ia i0 y (by omega)
              rw [ia2] at this
              unfold klt at this w; omega
        rw [this, ia2]
theorem em_home1 (g : JI J) (h : Int32) (fi la set : Nat) (hf : fi < nL J) (hl : la < nL J) (hs : set < 2 ^ 16) (Q : Int32 → MS → Prop) (k1 : Q (fHome J h (J 44 la) (J 44 fi) set) J) : ∀ r k, k + r = nB J → wm_home_311 Q (r + 1) J h (nI fi) (nI la) (nI set) (btF J h (J 44 la) (J 44 fi) set k).2 (nI (btF J h (J 44 la) (J 44 fi) set k).1) (nI k) := by
  obtain ⟨n1, nb⟩ := g.nb
  have n2 := g.nl.2
  intro r
  induction r with
  | zero =>
    intro k hk
    have : k = nB J := by omega
    subst this
    have le := btF_le J h (J 44 la) (J 44 fi) set (nB J)
    unfold wm_home_311
    rw [n1, if_pos (by grind)]
    unfold fHome at k1
    by_cases z : (btF J h (J 44 la) (J 44 fi) set (nB J)).1 = 1
    · rw [if_pos z] at k1
      rw [if_pos (by rw [z]; rfl)]
      exact k1
    · rw [if_neg z] at k1
      rw [if_neg (show ¬ nI (btF J h (J 44 la) (J 44 fi) set (nB J)).1 = (1 : Int32) from nI_ne (b := 1) (by omega) (by decide) z)]
      exact k1
  | succ r ih =>
    intro k hk
    have hk' : k < nB J := by omega
    have k16 := g.b hk'
    have ih' := ih (k + 1) (by omega)
    unfold wm_home_311 wm_home_400
    rw [n1, if_neg (by rw [nIq_le (by omega) (by omega)]; omega)]
    simp only [em_of2 _ k16, em_of3 _ k16, em_of4 _ k16, em_of0 _ k16, nI_bit (show set < 2 ^ 31 by omega) (show k < 31 by omega), p_vpn (show fi < 40 by omega) (show 40 < 2 ^ 31 by decide), p_vpn (show la < 40 by omega) (show 40 < 2 ^ 31 by decide), p_tn (show fi < 2 ^ 31 by omega), p_tn (show la < 2 ^ 31 by omega), true_and, nI_tInc]
    unfold btF at ih'
    have keep : ¬ pBtw J h (J 44 la) (J 44 fi) set k → wm_home_311 Q (r + 1) J h (nI fi) (nI la) (nI set) (btF J h (J 44 la) (J 44 fi) set k).2 (nI (btF J h (J 44 la) (J 44 fi) set k).1) (nI (k + 1)) := by
      intro hn
      rw [if_neg hn] at ih'
      exact ih'
    by_cases t : set.testBit k = true
    · rw [bI_t t, if_pos rfl]
      by_cases z1 : oB J k 0 = h
      · rw [if_pos z1]
        by_cases z2 : J 44 fi ≤ 96 * oB J k 2 + oB J k 3
        · rw [if_pos z2]; exact keep (fun y => by have := y.2.2.1; grind)
        · rw [if_neg z2]
          by_cases z3 : 96 * oB J k 2 + oB J k 4 ≤ J 44 la
          · rw [if_pos z3]; exact keep (fun y => by have := y.2.2.2; grind)
          · rw [if_neg z3]
            rw [if_pos ⟨t, z1, by grind, by grind⟩] at ih'
            exact ih'
      · rw [if_neg z1]; exact keep (fun y => z1 y.2.1)
    · rw [bI_f t, if_neg (by decide)]; exact keep (fun y => t y.1)
theorem ex_home1 (g : XA ad J S) (h bef aft : Int32) {set : Nat} (hs : set < 2 ^ 16) (Q : Int32 → XS → Prop) (k1 : Q (fHome J h bef aft set) S) : ∀ r k, k + r = nB J → (btF J h bef aft set k).1 ≤ 1 → wx_X0_home_154 Q (r + 1) S (some (ad 0)) h bef aft (nI set) (btF J h bef aft set k).2 (nI k) := by
  have nb := g.ji.nb.2
  intro r
  induction r with
  | zero =>
    intro k hk hle
    have : k = nB J := by omega
    subst this
    unfold wx_X0_home_154
    simp only [dr_some, g.k0, g.r2, g.bk.ls.1, g.bk.ls.size, true_and]
    rw [if_pos (by grind)]
    unfold fHome at k1
    by_cases z : (btF J h bef aft set (nB J)).1 = 1
    · rw [if_pos z] at k1; exact k1
    · rw [if_neg z] at k1
      rw [btF_0 J h bef aft set (nB J) (by omega)]
      exact k1
  | succ r ih =>
    intro k hk hle
    have hk' : k < nB J := by omega
    obtain ⟨f0, f1, f2, f3, f4, f5, f6, f7, f8, f9, f10⟩ := g.bf hk'
    unfold wx_X0_home_154 wx_X0_home_257
    simp only [dr_some, g.k0, g.r2, g.bk.ls.1, g.bk.ls.size, true_and]
    rw [if_neg (by rw [nIq_le (by omega) (by omega)]; omega)]
    simp only [g.bk.ls.get hk', dr_some, g.kb hk', true_and, f1, f3, f4, f5, nI_tInc]
    rw [nI_bit (by omega) (by omega), bI_ite]
    have keep : ¬ pBtw J h bef aft set k → wx_X0_home_154 Q (r + 1) S (some (ad 0)) h bef aft (nI set) (btF J h bef aft set k).2 (nI (k + 1)) := by
      intro hn
      have ih' := ih (k + 1) (by omega)
      unfold btF at ih'
      rw [if_neg hn] at ih'
      exact ih' hle
    by_cases t : set.testBit k = true
    · rw [if_pos t]
      by_cases z1 : oB J k 0 = h
      · rw [if_pos z1]
        by_cases z2 : aft ≤ 96 * oB J k 2 + oB J k 3
        · rw [if_pos z2]; exact keep (fun y => by have := y.2.2.1; grind)
        · rw [if_neg z2]
          by_cases z3 : bef < 96 * oB J k 2 + oB J k 4
          · rw [if_pos z3]
            have hit : pBtw J h bef aft set k := ⟨t, z1, by grind, z3⟩
            by_cases z4 : (btF J h bef aft set k).1 = 0
            · rw [if_pos (btF_0 J h bef aft set k z4)]
              have ih' := ih (k + 1) (by omega)
              unfold btF at ih'
              rw [if_pos hit, z4] at ih'
              exact ih' (Nat.le_refl _)
            · rw [if_neg (btF_pos J h bef aft set k (by omega) (by omega))]
              -- a second one
              have e2 : (btF J h bef aft set (k + 1)).1 = 2 := by
                show (if pBtw J h bef aft set k then _ else _ : Nat × Int32).1 = 2
                rw [if_pos hit]
                show (btF J h bef aft set k).1 + 1 = 2
                omega
              have m := btF_mono J h bef aft set r (k + 1)
              rw [e2, show k + 1 + r = nB J by omega] at m
              unfold fHome at k1
              rw [if_neg (by omega)] at k1
              exact k1
          · rw [if_neg z3]; exact keep (fun y => z3 y.2.2.2)
      · rw [if_neg z1]; exact keep (fun y => z1 y.2.1)
    · rw [if_neg t]; exact keep (fun y => t y.1)
end
