/-! PLAIN SIDE 28: keys -/
def kStep (J : MS) (key : Int32) (p : Int32 × Int32) (b : Nat) : Int32 × Int32 := if J 38 b = key then (if p.1 = -1000000 ∨ J 39 b = p.1 then (J 40 b, p.2) else (p.1, p.2 + 1)) else p
def kFold (J : MS) (key : Int32) (f : Nat → Nat) : Nat → Int32 × Int32
  | 0 => (-1000000, 0)
  | j + 1 => kStep J key (kFold J key f j) (f j)
/-- place j parts those till day d from those behind -/
def kCut (t : Nat → Int32) (f : Nat → Nat) (n : Nat) (d : Int) (j : Nat) : Prop := j ≤ n ∧ (∀ i, i < j → (t (f i)).toInt ≤ d) ∧ ∀ i, j ≤ i → i < n → d < (t (f i)).toInt
theorem kCut_ex {t : Nat → Int32} {f : Nat → Nat} {n : Nat} (ok : KOrd (tk1 t) tk2 (fun _ => True) n n f) (d : Int) : ∃ j, kCut t f n d j := by
  have L : ∀ m, m ≤ n → (∀ i, i < m → (t (f i)).toInt ≤ d) ∨ ∃ j, j < m ∧ (∀ i, i < j → (t (f i)).toInt ≤ d) ∧ d < (t (f j)).toInt := by
    intro m
    induction m with
    | zero => intro _; exact Or.inl (fun i hi => absurd hi (Nat.not_lt_zero i))
    | succ m ih =>
      intro hm
      rcases ih (by omega) with h | ⟨j, h1, h2, h3⟩
      · by_cases z : (t (f m)).toInt ≤ d
        · left
          intro i hi
          by_cases w : i = m
          · rw [w]; exact z
          · exact h i (by omega)
        · exact Or.inr ⟨m, by omega, h, by omega⟩
      · exact Or.inr ⟨j, by omega, h2, h3⟩
  rcases L n (Nat.le_refl n) with h | ⟨j, h1, h2, h3⟩
  · exact ⟨n, Nat.le_refl n, h, fun i h1 h2 => absurd h2 (by omega)⟩
  · refine ⟨j, by omega, h2, fun i h4 h5 => ?_⟩
    by_cases z : i = j
    · rw [z]; exact h3
    · have := ok.lt j i (by omega) h5
      unfold klt tk1 tk2 at this
      omega
theorem kCut_u {t : Nat → Int32} {f : Nat → Nat} {n : Nat} {d : Int} {j k : Nat} (a : kCut t f n d j) (b : kCut t f n d k) : j = k := by
  obtain ⟨a1, a2, a3⟩ := a
  obtain ⟨b1, b2, b3⟩ := b
  rcases Nat.lt_trichotomy j k with z | z | z
  · have := a3 j (Nat.le_refl j) (by omega)
    have := b2 j z
    omega
  · exact z
  · have := b3 k (Nat.le_refl k) (by omega)
    have := a2 k z
    omega
/-- what comes before day D and number g -/
def kBef (t : Nat → Int32) (D : Int) (g b : Nat) : Prop := (t b).toInt < D ∨ ((t b).toInt = D ∧ b < g)
def kPos (t : Nat → Int32) (f : Nat → Nat) (n : Nat) (D : Int) (g j : Nat) : Prop := j ≤ n ∧ (∀ i, i < j → kBef t D g (f i)) ∧ ∀ i, j ≤ i → i < n → ¬ kBef t D g (f i)
theorem kPos_hit {t : Nat → Int32} {f : Nat → Nat} {n : Nat} (ok : KOrd (tk1 t) tk2 (fun _ => True) n n f) {D : Int} {g j : Nat} (h : kPos t f n D g j) (hg : g < n) (ht : (t g).toInt = D) : j < n ∧ f j = g ∧ kPos t f n D (g + 1) (j + 1) := by
  obtain ⟨h1, h2, h3⟩ := h
  obtain ⟨i0, i1, i2⟩ := ok.all g hg trivial
  have a : j ≤ i0 := by
    rcases Nat.lt_or_ge i0 j with z | z
    · have := h2 i0 z
      rw [i2] at this
      unfold kBef at this
      omega
    · exact z
  have b : i0 = j := by
    by_cases z : i0 = j
    · exact z
    · have q := ok.lt j i0 (by omega) i1
      have q2 := h3 j (Nat.le_refl j) (by omega)
      rw [i2] at q
      unfold klt tk1 tk2 at q
      unfold kBef at q2
      omega
  subst b
  refine ⟨i1, i2, by omega, fun i hi => ?_, fun i hi hi2 => ?_⟩
  · by_cases z : i = i0
    · rw [z, i2]; unfold kBef; omega
    · have := h2 i (by omega)
      unfold kBef at this ⊢; omega
  · have q := ok.lt i0 i (by omega) hi2
    rw [i2] at q
    unfold klt tk1 tk2 at q
    unfold kBef; omega
theorem kPos_miss {t : Nat → Int32} {f : Nat → Nat} {n : Nat} {D : Int} {g j : Nat} (h : kPos t f n D g j) (ht : ¬ (t g).toInt = D) : kPos t f n D (g + 1) j := by
  obtain ⟨h1, h2, h3⟩ := h
  refine ⟨h1, fun i hi => ?_, fun i hi hi2 => ?_⟩
  · have := h2 i hi
    unfold kBef at this ⊢; omega
  · have := h3 i hi hi2
    unfold kBef at this ⊢
    intro y
    by_cases z : f i = g
    · rw [z] at y this; omega
    · omega
theorem kPos_day {t : Nat → Int32} {f : Nat → Nat} {n : Nat} (ok : KOrd (tk1 t) tk2 (fun _ => True) n n f) {D : Int} {j : Nat} (h : kPos t f n D n j) : kPos t f n (D + 1) 0 j := by
  obtain ⟨h1, h2, h3⟩ := h
  refine ⟨h1, fun i hi => ?_, fun i hi hi2 => ?_⟩
  · have := h2 i hi
    unfold kBef at this ⊢; omega
  · have := h3 i hi hi2
    have := (ok.mem i hi2).1
    unfold kBef at *; omega
section
variable {ad : Nat → Nat} {J : MS} {S : XS} {x : Nat}
theorem em_key (g : JI J) (key what : Int32) {d : Nat} (hd : d ≤ 364) (Q : Int32 → MS → Prop) {j : Nat} (cut : kCut (J 41) (ordF (J 41) (nG J)) (nG J) d j) (k1 : if what = 0 then Q (kFold J key (ordF (J 41) (nG J)) j).1 J else Q (kFold J key (ordF (J 41) (nG J)) j).2 J) : wm_key_47 Q (d + 2) J key (nI d) what (-1000000) 0 0 := by
  obtain ⟨n1, n2⟩ := g.ng
  have ok := ordF_ok (J 41) (nG J)
  generalize hf : ordF (J 41) (nG J) = f at ok cut k1
  have one : ¬ (1 : Int32) = 0 := by decide
  -- the inner loop
  have L1 : ∀ (K47 : MS → Int32 → Int32 → Int32 → Int32 → Int32 → Int32 → Prop) (D : Nat), D ≤ 364 → ∀ r gg j, gg + r = nG J → kPos (J 41) f (nG J) D gg j → (∀ j', kPos (J 41) f (nG J) D (nG J) j' → K47 J key (nI d) what (kFold J key f j').1 (kFold J key f j').2 (nI D + 1)) → wm_key_56 Q K47 (r + 1) J key (nI d) what (kFold J key f j).1 (kFold J key f j).2 (nI D) (nI gg) := by
    intro K47 D hD r
    induction r with
    | zero =>
      intro gg j hg hp kk
      have : gg = nG J := by omega
      subst this
      unfold wm_key_56
      rw [n1, if_pos (by grind)]
      exact kk j hp
    | succ r ih =>
      intro gg j hg hp kk
      have hg' : gg < nG J := by omega
      have vg : vp_in (nI gg) 40 := p_vpn (by omega) (by decide)
      unfold wm_key_56 wm_key_107 wm_key_112 wm_key_131 wm_key_145 wm_key_148
      rw [n1, if_neg (by rw [nIq_le (by omega) (by omega)]; omega)]
      simp only [vg, true_and, p_tn (show gg < 2 ^ 31 by omega), nI_tInc, if_true, if_neg one, p_add0]
      have eD : J 41 gg = nI D ↔ (J 41 gg).toInt = (D : Int) := by rw [p_eq, p_nI (by omega)]
      by_cases z2 : J 41 gg = nI D
      · obtain ⟨q1, q2, q3⟩ := kPos_hit ok hp hg' (eD.mp z2)
        have ih' := ih (gg + 1) (j + 1) (by omega) q3 kk
        unfold kFold kStep at ih'
        rw [q2] at ih'
        by_cases z1 : J 38 gg = key
        · rw [if_pos z1, if_pos z2]
          rw [if_pos z1] at ih'
          by_cases w1 : (kFold J key f j).1 = -1000000
          · rw [if_pos w1]
            rw [if_pos (Or.inl w1)] at ih'
            exact ih'
          · rw [if_neg w1]
            by_cases w2 : J 39 gg = (kFold J key f j).1
            · rw [if_pos w2]
              rw [if_pos (Or.inr w2)] at ih'
              exact ih'
            · rw [if_neg w2]
              rw [if_neg (fun y => by rcases y with y | y; exact w1 y; exact w2 y)] at ih'
              exact ih'
        · rw [if_neg z1]
          rw [if_neg z1] at ih'
          exact ih'
      · have ih' := ih (gg + 1) j (by omega) (kPos_miss hp (fun y => z2 (eD.mpr y))) kk
        by_cases z1 : J 38 gg = key
        · rw [if_pos z1, if_neg z2]; exact ih'
        · rw [if_neg z1]; exact ih'
  have L0 : ∀ r D j, D + r = d + 1 → kPos (J 41) f (nG J) D 0 j → wm_key_47 Q (r + 1) J key (nI d) what (kFold J key f j).1 (kFold J key f j).2 (nI D) := by
    intro r
    induction r with
    | zero =>
      intro D j hD hp
      have : D = d + 1 := by omega
      subst this
      unfold wm_key_47
      rw [if_pos (by rw [nIq_lt (by omega) (by omega)]; omega)]
      have cj : kCut (J 41) f (nG J) d j := ⟨hp.1, fun i hi => by have := hp.2.1 i hi; unfold kBef at this; omega, fun i h1 h2 => by have := hp.2.2 i h1 h2; unfold kBef at this; omega⟩
      rw [kCut_u cj cut]
      exact k1
    | succ r ih =>
      intro D j hD hp
      unfold wm_key_47
      rw [if_neg (by rw [nIq_lt (by omega) (by omega)]; omega)]
      refine ⟨nG J + 1, L1 _ D (by omega) (nG J) 0 j (by omega) hp (fun j' hp' => ?_)⟩
      rw [nI_tInc]
      exact ih (D + 1) j' (by omega) (kPos_day ok hp')
  refine L0 (d + 1) 0 0 (by omega) ⟨by omega, fun i hi => absurd hi (Nat.not_lt_zero i), fun i _ hi => ?_⟩
  have := (g.giv (f i) (ok.mem i hi).1).2.2.2
  unfold kBef
  intro y
  omega
theorem ex_key (g : XA ad J S) (key what d : Int32) (Q : Int32 → XS → Prop) {j : Nat} (cut : kCut (J 41) (ordF (J 41) (nG J)) (nG J) d.toInt j) (k1 : if what = 0 then Q (kFold J key (ordF (J 41) (nG J)) j).1 S else Q (kFold J key (ordF (J 41) (nG J)) j).2 S) : wx_X0_key_37 Q (j + 1) S (some (ad 0)) key d what (-1000000) 0 0 := by
  obtain ⟨n1, n2⟩ := g.ji.ng
  obtain ⟨L, l, hl⟩ := g.ke
  obtain ⟨c1, c2, c3⟩ := cut
  have loop : ∀ r i, i + r = j → wx_X0_key_37 Q (r + 1) S (some (ad 0)) key d what (kFold J key (ordF (J 41) (nG J)) i).1 (kFold J key (ordF (J 41) (nG J)) i).2 (nI i) := by
    intro r
    induction r with
    | zero =>
      intro i hi
      have : i = j := by omega
      subst this
      unfold wx_X0_key_37 wx_X0_key_136
      simp only [dr_some, g.k0, g.r4, l.1, l.size, true_and]
      by_cases z : i = nG J
      · rw [if_pos (by rw [z]; grind)]
        exact k1
      · have hi' : i < nG J := by omega
        rw [if_neg (by rw [nIq_le (by omega) (by omega)]; omega)]
        obtain ⟨q0, q1, q2, q3, q4⟩ := hl i hi'
        have q2 : xFI S 901 (L i) = J 41 (ordF (J 41) (nG J) i) := q2
        simp only [l.get hi', dr_some, q0, true_and, q2]
        rw [if_pos (by rw [p_lt]; exact c3 i (Nat.le_refl i) hi')]
        exact k1
    | succ r ih =>
      intro i hi
      have hi' : i < nG J := by omega
      have ih' := ih (i + 1) (by omega)
      obtain ⟨q0, q1, q2, q3, q4⟩ := hl i hi'
      have q1 : xFI S 900 (L i) = J 38 (ordF (J 41) (nG J) i) := q1
      have q2 : xFI S 901 (L i) = J 41 (ordF (J 41) (nG J) i) := q2
      have q3 : xFI S 902 (L i) = J 39 (ordF (J 41) (nG J) i) := q3
      have q4 : xFI S 903 (L i) = J 40 (ordF (J 41) (nG J) i) := q4
      have ct := c2 i (by omega)
      unfold wx_X0_key_37 wx_X0_key_136 wx_X0_key_123 wx_X0_key_130
      simp only [dr_some, g.k0, g.r4, l.1, l.size, true_and]
      rw [if_neg (by rw [nIq_le (by omega) (by omega)]; omega)]
      simp only [l.get hi', dr_some, q0, true_and, q1, q2, q3, q4, g.k0, g.r4, l.1, nI_tInc]
      rw [if_neg (by rw [p_lt]; omega)]
      unfold kFold kStep at ih'
      generalize ordF (J 41) (nG J) i = b at *
      generalize (kFold J key (ordF (J 41) (nG J)) i) = p at *
      by_cases z1 : J 38 b = key
      · rw [if_pos z1]; rw [if_pos z1] at ih'
        by_cases w1 : p.1 = -1000000
        · rw [if_pos w1]
          rw [if_pos (Or.inl w1)] at ih'
          exact ih'
        · rw [if_neg w1]
          by_cases w2 : p.1 = J 39 b
          · rw [if_pos w2]
            rw [if_pos (Or.inr w2.symm)] at ih'
            exact ih'
          · rw [if_neg w2]
            rw [if_neg (fun y => by rcases y with y | y; exact w1 y; exact w2 y.symm)] at ih'
            exact ih'
      · rw [if_neg z1]; rw [if_neg z1] at ih'; exact ih'
  exact loop j 0 (by omega)
theorem op_key (h : XR x J S) (a b c : Int32) : wx_X0_key (fun r S1 => wm_key (fun r2 J1 => Ans x r S1 r2 J1) J a b c) S (some x) a b c := by
  obtain ⟨ad, rfl, h⟩ := h
  have g := h.m0
  generalize hJ : mset J 0 0 0 = J0 at g
  unfold wx_X0_key wm_key
  simp only [ex_isKey, ex_isDay, em_isDay, ex_in, em_in, bI_ite, hJ, Int32.toInt_toInt64, Int64.reduceToInt]
  by_cases qa : 0 ≤ a.toInt ∧ a.toInt ≤ 3
  · simp only [if_pos qa]
    by_cases qb : 0 ≤ b.toInt ∧ b.toInt ≤ 364
    · simp only [if_pos qb]
      by_cases qc : 0 ≤ c.toInt ∧ c.toInt ≤ 1
      · simp only [if_pos qc]
        obtain ⟨d, d1, rfl⟩ := p_ex (x := b) (n := 365) qb.1 (by omega)
        obtain ⟨j, cut⟩ := kCut_ex (ordF_ok (J0 41) (nG J0)) (d : Int)
        refine ⟨j + 1, ex_key g a c (nI d) _ (by rw [p_nI (by omega)]; exact cut) ?_⟩
        have em : ∀ r S', (r = if c = 0 then (kFold J0 a (ordF (J0 41) (nG J0)) j).1 else (kFold J0 a (ordF (J0 41) (nG J0)) j).2) → XA ad J0 S' → ∃ n8, wm_key_47 (fun r2 J1 => Ans (ad 0) r S' r2 J1) n8 J0 a (nI d) c (-1000000) 0 0 := by
          intro r S' hr g'
          refine ⟨d + 2, em_key g.ji a c (by omega) _ cut ?_⟩
          by_cases z : c = 0
          · rw [if_pos z] at hr ⊢; exact ⟨hr.symm, ad, rfl, g'⟩
          · rw [if_neg z] at hr ⊢; exact ⟨hr.symm, ad, rfl, g'⟩
        by_cases z : c = 0
        · rw [if_pos z]; exact em _ S (by rw [if_pos z]) g
        · rw [if_neg z]; exact em _ S (by rw [if_neg z]) g
      · simp only [if_neg qc]
        exact ⟨rfl, ad, rfl, g⟩
    · simp only [if_neg qb]
      exact ⟨rfl, ad, rfl, g⟩
  · simp only [if_neg qa]
    exact ⟨rfl, ad, rfl, g⟩
end
