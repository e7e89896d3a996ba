/-! PLAIN SIDE 9: what is told by time -/
theorem cpos_iff {t u : Nat → Int32} {v w : Int32} : ∀ n, (∀ i, i < n → (v < t i ↔ w < u i)) → cpos t v n = cpos u w n
  | 0, _ => rfl
  | n + 1, h => by
    unfold cpos
    rw [cpos_iff n (fun i hi => h i (Nat.lt_succ_of_lt hi))]
    by_cases z : v < t n
    · rw [if_pos z, if_pos ((h n (Nat.lt_succ_self n)).mp z)]
    · rw [if_neg z, if_neg (fun q => z ((h n (Nat.lt_succ_self n)).mpr q))]
theorem told_ins {G G' : Nat → Int32 × Int32 × Int32 × Int32} {T T' : Nat → Int32} {n : Nat} {w : Int32 × Int32 × Int32 × Int32} (hG : ∀ i, i < n → G' i = G i) (hw : G' n = w) (hT : ∀ i, i < n → T' i = T i) (hlt : ∀ i, i < n → (w.2.1 < (G i).2.1 ↔ T' n < T i)) : ∀ k, k < n + 1 → insF (fun k => G (ordF T n k)) (cpos (fun k => (G (ordF T n k)).2.1) w.2.1 n) w k = G' (ordF T' (n + 1) k) := by
  intro k hk
  have o : ∀ i, i < n → ordF T' n i = ordF T n i := ordF_cong n hT
  have e : cpos (fun k => (G (ordF T n k)).2.1) w.2.1 n = cpos (fun i => T' (ordF T' n i)) (T' n) n := by
    refine cpos_iff n (fun i hi => ?_)
    show w.2.1 < (G (ordF T n i)).2.1 ↔ T' n < T' (ordF T' n i)
    rw [o i hi, hT _ (ordF_lt T n i hi)]
    exact hlt _ (ordF_lt T n i hi)
  rw [e]
  have hp := cpos_le (fun i => T' (ordF T' n i)) (T' n) n
  show _ = G' (insF (ordF T' n) (cpos (fun i => T' (ordF T' n i)) (T' n) n) n k)
  generalize cpos (fun i => T' (ordF T' n i)) (T' n) n = p at hp ⊢
  unfold insF
  split
  · show G (ordF T n k) = G' (ordF T' n k)
    rw [o k (by omega), hG _ (ordF_lt T n k (by omega))]
  · split
    · exact hw.symm
    · show G (ordF T n (k - 1)) = G' (ordF T' n (k - 1))
      rw [o _ (by omega), hG _ (ordF_lt T n _ (by omega))]
theorem TL.congr {S : XS} {a n : Nat} {f g : Nat → Int32 × Int32 × Int32 × Int32} (h : TL S a n f) (e : ∀ k, k < n → f k = g k) : TL S a n g := by
  obtain ⟨L, h1, h2⟩ := h
  exact ⟨L, h1, fun k hk => by rw [← e k hk]; exact h2 k hk⟩
theorem LM.of {M : Nat → Prop} {S S1 : XS} {a : Nat} (c : Chg M S S1) (k : xKD S a ≠ none) (hm : ¬ M a) {q : Nat} (h : LM S1 a q) : LM S a q := by
  rcases h with h | ⟨h1, h2⟩
  · exact Or.inl h
  · exact Or.inr ⟨by rw [← c.fr a k hm 1600]; exact h1, by rw [← c.ro]; exact h2⟩
theorem ex_come {S : XS} {a n q : Nat} {f : Nat → Int32 × Int32 × Int32 × Int32} (h : TL S a n f) (hcl : xClean S) (hn : n ≤ 40) (kq : xKD S q = some 9) {mc ms : Nat} (hc : 1 ≤ mc) (hm : 400 ≤ ms) (Q : Int32 → XS → Prop)
    (k : ∀ S' : XS, TL S' a (n + 1) (insF f (cpos (fun i => (f i).2.1) (xFI S 901 q) n) (xFI S 900 q, xFI S 901 q, xFI S 902 q, xFI S 903 q)) → Chg (LM S a) S S' → (∀ e, xFR S' 1600 a = some e → xFR S 1600 a = some e ∨ xKD S e = none) → Q (nI (n + 1)) S') : wx_X0_come Q mc ms S (some a) (some q) := by
  obtain ⟨L, l, hf⟩ := h
  have kl := l.1
  have nq : ¬ LM S a q := by
    obtain ⟨-, e, g1, g2, -⟩ := id l
    rintro (z | ⟨z, -⟩)
    · rw [z, kl] at kq; cases kq
    · rw [g1] at z; rw [← Option.some.inj z, g2] at kq; cases kq
  have loop : ∀ m, m ≤ n → wx_X0_come_7 Q (m + 1) mc ms S (some a) (some q) (nI m) = wx_X0_come_39 Q mc ms S (some a) (some q) (nI (cpos (fun i => (f i).2.1) (xFI S 901 q) m)) := by
    intro m
    induction m with
    | zero => intro _; unfold wx_X0_come_7; exact if_pos (by decide)
    | succ m ih =>
      intro hm
      unfold wx_X0_come_7
      rw [if_neg (by show ¬ nI (m + 1) ≤ nI 0; rw [nIq_le (by omega) (by omega)]; omega)]
      have e1 : nI (m + 1) - 1 = nI m := by
        have : nI (m + 1) - nI 1 = nI (m + 1 - 1) := nI_s (by omega)
        exact this
      have e2 : nI (m + 1) + (-1 : Int32) = nI m := by rw [← e1]; grind
      obtain ⟨q0, q1, q2, q3, q4⟩ := hf m (by omega)
      simp only [dr_some, kq, kl, true_and, e1, l.get (show m < n by omega), q0, q2]
      show (if (f m).2.1 ≤ xFI S 901 q then _ else _) = _
      unfold cpos
      by_cases z : xFI S 901 q < (f m).2.1
      · rw [if_neg (by grind), if_pos z, e2]
        exact ih (by omega)
      · rw [if_pos (by grind), if_neg z]
  unfold wx_X0_come
  simp only [dr_some, kl, true_and, l.size]
  refine ⟨n + 1, ?_⟩
  rw [loop n (Nat.le_refl n)]
  have hp := cpos_le (fun i => (f i).2.1) (xFI S 901 q) n
  generalize cpos (fun i => (f i).2.1) (xFI S 901 q) n = p at hp k ⊢
  unfold wx_X0_come_39
  simp only [dr_some, kl, true_and]
  refine ⟨1, 400, hc, hm, ?_⟩
  refine l.add3 hcl (fun i hi => Or.inr (Or.inl (hf i hi).1)) (by omega) (Or.inr (Or.inl kq)) hp (Nat.le_refl _) (Nat.le_refl _) _ (fun S' l' c e => ?_)
  rw [l'.size]
  refine ⟨l'.1, k S' ⟨_, l', fun i hi => ?_⟩ c e⟩
  have key : ∀ (b : Nat) (w : Int32 × Int32 × Int32 × Int32), (xKD S b = some 9 ∧ xFI S 900 b = w.1 ∧ xFI S 901 b = w.2.1 ∧ xFI S 902 b = w.2.2.1 ∧ xFI S 903 b = w.2.2.2) → (xKD S' b = some 9 ∧ xFI S' 900 b = w.1 ∧ xFI S' 901 b = w.2.1 ∧ xFI S' 902 b = w.2.2.1 ∧ xFI S' 903 b = w.2.2.2) := by
    rintro b w ⟨w0, w1, w2, w3, w4⟩
    have nb : ¬ LM S a b := by
      obtain ⟨-, e, g1, g2, -⟩ := id l
      rintro (z | ⟨z, -⟩)
      · rw [z, kl] at w0; cases w0
      · rw [g1] at z; rw [← Option.some.inj z, g2] at w0; cases w0
    have hb := some_ne w0
    exact ⟨(c.kd b hb).trans w0, (c.fi b hb nb _).trans w1, (c.fi b hb nb _).trans w2, (c.fi b hb nb _).trans w3, (c.fi b hb nb _).trans w4⟩
  unfold insF
  split
  · exact key _ _ (hf i (by omega))
  · split
    · exact key q (_, _, _, _) ⟨kq, rfl, rfl, rfl, rfl⟩
    · exact key _ _ (hf (i - 1) (by omega))
theorem BBk.grow {ad : Nat → Nat} {J : MS} {S S' : XS} (h : XA ad J S) {i : Nat} (h3 : 3 ≤ i) (h7 : i ≤ 7) {M : Nat → Prop} (c : Chg M S S') (hm : ∀ l, 3 ≤ l → l ≤ 7 → l ≠ i → ¬ M (ad l)) (he : ∀ e, xFR S' 1600 (ad i) = some e → xFR S 1600 (ad i) = some e ∨ xKD S e = none) : BBk ad S' := by
  have g : ∀ l, 3 ≤ l → l ≤ 7 → ∀ e, xFR S' 1600 (ad l) = some e → xFR S 1600 (ad l) = some e ∨ (l = i ∧ xKD S e = none) := by
    intro l l3 l7 e q
    by_cases z : l = i
    · subst z
      rcases he e q with w | w
      · exact Or.inl w
      · exact Or.inr ⟨rfl, w⟩
    · left
      rw [c.fr _ (some_ne (h.k (show l ≤ 12 by omega))) (hm l l3 l7 z)] at q
      exact q
  intro l l' a1 a2 a3 a4 a5 e e1 e2
  rw [c.ro]
  rcases g l a1 a2 e e1 with w | ⟨w, w'⟩
  · rcases g l' a3 a4 e e2 with v | ⟨v, v'⟩
    · exact h.bb l l' a1 a2 a3 a4 a5 e w v
    · rw [back_102 h a1 a2 w] at v'; cases v'
  · rcases g l' a3 a4 e e2 with v | ⟨v, v'⟩
    · rw [back_102 h a3 a4 v] at w'; cases w'
    · exact absurd (w.trans v.symm) a5
section
variable {J : MS} {S : XS} {x : Nat}
theorem told_fresh {S : XS} {q : Nat} (hcl : xClean S) (hq : xKD S q = none) (v0 v1 v2 v3 : Int32) : Chg (fun _ => False) S (sFI (sFI (sFI (sFI (sNew S q 9) 900 q v0) 901 q v1) 902 q v2) 903 q v3) := by
  have k : xKD (sNew S q 9) q = some 9 := by simp [xSall]
  exact (((((Chg.refl hcl).sNew hq).sFI (Or.inl hq) (some_ne k)).sFI (Or.inl hq) (some_ne k)).sFI (Or.inl hq) (some_ne k)).sFI (Or.inl hq) (some_ne k)
/-- an element comes to one of the lists of what is told -/
theorem XA.come {ad : Nat → Nat} {J J' : MS} (g : XA ad J S) {i : Nat} (h4 : 4 ≤ i) (h6 : i ≤ 6) {n : Nat} {f : Nat → Int32 × Int32 × Int32 × Int32} (t : TL S (ad i) n f) (hn : n ≤ 40) {mc ms : Nat} (hc : 1 ≤ mc) (hm : 400 ≤ ms) {K : List Nat} (hJ : ∀ k, k ∉ K → J' k = J k) (hK : ∀ k ∈ K, 33 ≤ k ∧ k ≤ 45) (ji : JI J') (v0 v1 v2 v3 : Int32)
    (hT : ∀ S', TL S' (ad i) (n + 1) (insF f (cpos (fun i => (f i).2.1) v1 n) (v0, v1, v2, v3)) → (i = 4 → TL S' (ad 4) (nC J') (coF J')) ∧ (i = 5 → TL S' (ad 5) (nG J') (keF J')) ∧ (i = 6 → TL S' (ad 6) (nL J') (loF J')))
    (hK4 : i ≠ 4 → ∀ k, 33 ≤ k → k ≤ 36 → k ∉ K) (hK5 : i ≠ 5 → ∀ k, 37 ≤ k → k ≤ 41 → k ∉ K) (hK6 : i ≠ 6 → ∀ k, 42 ≤ k → k ≤ 45 → k ∉ K)
    (Q : Int32 → XS → Prop) (k : ∀ S', XA ad J' S' → Q (nI (n + 1)) S') {q : Nat} (hq : xKD S q = none) : wx_X0_come Q mc ms (sFI (sFI (sFI (sFI (sNew S q 9) 900 q v0) 901 q v1) 902 q v2) 903 q v3) (some (ad i)) (some q) := by
  have c1 := told_fresh g.b.cl hq v0 v1 v2 v3
  have kq : xKD (sFI (sFI (sFI (sFI (sNew S q 9) 900 q v0) 901 q v1) 902 q v2) 903 q v3) q = some 9 := by simp [xSall]
  have f0 : xFI (sFI (sFI (sFI (sFI (sNew S q 9) 900 q v0) 901 q v1) 902 q v2) 903 q v3) 900 q = v0 := by simp [xSall]
  have f1 : xFI (sFI (sFI (sFI (sFI (sNew S q 9) 900 q v0) 901 q v1) 902 q v2) 903 q v3) 901 q = v1 := by simp [xSall]
  have f2 : xFI (sFI (sFI (sFI (sFI (sNew S q 9) 900 q v0) 901 q v1) 902 q v2) 903 q v3) 902 q = v2 := by simp [xSall]
  have f3 : xFI (sFI (sFI (sFI (sFI (sNew S q 9) 900 q v0) 901 q v1) 902 q v2) 903 q v3) 903 q = v3 := by simp [xSall]
  generalize sFI (sFI (sFI (sFI (sNew S q 9) 900 q v0) 901 q v1) 902 q v2) 903 q v3 = S1 at c1 kq f0 f1 f2 f3 ⊢
  have hk := some_ne (g.k (show i ≤ 12 by omega))
  refine ex_come (t.kept c1 (fun z => z) (fun _ _ z => z) (fun _ _ z => z)) c1.cl hn kq hc hm Q (fun S' t' c2 e => ?_)
  rw [f0, f1, f2, f3] at t'
  have c : Chg (LM S (ad i)) S S' := (c1.mono (fun _ _ z => z.elim)).trans c2 (fun a ha z => LM.of c1 hk (fun z => z) z)
  have hR : ∀ r ∈ [i], lv (J 9) (nB J) r := by intro r hr; simp [xSall] at hr; exact lv_f (by omega)
  have o := Off.list g (i := i) (by omega) (by omega) hR (by simp [xSall])
  have e' : ∀ e, xFR S' 1600 (ad i) = some e → xFR S 1600 (ad i) = some e ∨ xKD S e = none := by
    intro b hb
    rcases e b hb with z | z
    · left; rw [c1.fr _ hk (fun z => z)] at z; exact z
    · right; exact c1.fresh z
  have nK : ∀ k, (k < 33 ∨ 45 < k) → k ∉ K := fun k hk z => by have := hK k z; omega
  obtain ⟨T4, T5, T6⟩ := hT S' t'
  have cM : Chg (fun q => MR ad [i] q ∨ LM S (ad i) q) S S' := c.mono (fun _ _ z => Or.inr z)
  refine k S' (g.gen (K := fun k => k ∈ K) (R := fun r => r ∈ [i]) cM o (fun _ _ => rfl) hJ ji
    ((g.b.kept c).cong (hJ 9 (nK 9 (by decide))) (by unfold nB; rw [hJ 24 (nK 24 (by decide))]))
    (Or.inr (by rw [hJ 13 (nK 13 (by decide)), hJ 14 (nK 14 (by decide)), hJ 27 (nK 27 (by decide)), hJ 1 (nK 1 (by decide))]; exact g.f.kept cM (some_ne g.k0) (o.live 0 (lv_f (by decide)) (by simp [xSall]; omega)))) (Or.inl ⟨by simp [xSall]; omega, by simp [xSall]; omega, nK _ (by decide), nK _ (by decide), nK _ (by decide)⟩) (Or.inl ⟨by simp [xSall]; omega, by simp [xSall]; omega, fun k h2 h8 => nK k (by omega)⟩) (Or.inl ⟨by simp [xSall]; omega, nK _ (by decide), nK _ (by decide)⟩)
    (Or.inl ⟨by simp [xSall]; omega, by simp [xSall]; omega, nK _ (by decide), nK _ (by decide), nK _ (by decide)⟩) ?_ ?_ ?_ (Or.inl ⟨by simp [xSall]; omega, fun k h2 h8 => nK k (by omega)⟩)
    (Or.inl ⟨by simp [xSall]; omega, by simp [xSall]; omega, nK _ (by decide), nK _ (by decide)⟩) (Or.inr (BBk.grow g (by omega) (by omega) c (fun l l3 l7 hl z => o.live l (lv_f (by omega)) (by simpa [xSall] using hl) (Or.inr z)) e')))
  · by_cases z : i = 4
    · exact Or.inr (T4 z)
    · exact Or.inl ⟨by simp [xSall]; omega, fun k h2 h8 => hK4 z k h2 h8⟩
  · by_cases z : i = 5
    · exact Or.inr (T5 z)
    · exact Or.inl ⟨by simp [xSall]; omega, fun k h2 h8 => hK5 z k h2 h8⟩
  · by_cases z : i = 6
    · exact Or.inr (T6 z)
    · exact Or.inl ⟨by simp [xSall]; omega, fun k h2 h8 => hK6 z k h2 h8⟩
theorem nI_ne {a b : Nat} (ha : a < 2 ^ 31) (hb : b < 2 ^ 31) (h : a ≠ b) : ¬ nI a = nI b := fun z => h ((nI_inj ha hb).mp z)
theorem p_mul15 {v : Int32} (h : 0 ≤ v.toInt ∧ v.toInt ≤ 35039) : (15 * v).toInt = 15 * v.toInt := by
  rw [Int32.toInt_mul]
  have : (15 : Int32).toInt = 15 := rfl
  rw [this, Int.bmod_eq_of_le] <;> omega
theorem p_lin96 {b c : Int32} (hb : 0 ≤ b.toInt ∧ b.toInt ≤ 400) (hc : 0 ≤ c.toInt ∧ c.toInt ≤ 100) : (96 * b + c).toInt = 96 * b.toInt + c.toInt := by
  have h96 : (96 : Int32).toInt = 96 := rfl
  have e : (96 * b).toInt = 96 * b.toInt := by
    rw [Int32.toInt_mul, h96, Int.bmod_eq_of_le] <;> omega
  rw [Int32.toInt_add, e, Int.bmod_eq_of_le] <;> omega
theorem op_coin (h : XR x J S) {mc ms : Nat} (hc : 100 ≤ mc) (hm : 1000 ≤ ms) (a b c d : Int32) : wx_X0_coin (fun r S1 => wm_coin (fun r2 J1 => Ans x r S1 r2 J1) J a b c d) mc ms S (some x) a b c d := by
  obtain ⟨ad, rfl, h⟩ := h
  have g := h.m0
  generalize hJ : mset J 0 0 0 = J0 at g
  have l4 := g.co
  unfold wx_X0_coin
  simp only [ex_isTime, ex_in, bI_ite, Int32.toInt_toInt64, Int64.reduceToInt]
  have em : ∀ Q : Int32 → MS → Prop, wm_coin Q J a b c d = if ((0 ≤ a.toInt ∧ a.toInt ≤ 3) ∧ (0 ≤ b.toInt ∧ b.toInt ≤ 364) ∧ 0 ≤ c.toInt ∧ c.toInt ≤ 95) ∧ (1 ≤ d.toInt ∧ d.toInt ≤ 600) then (if nC J0 = 40 then Q (-1000003) J0 else Q (nI (nC J0 + 1)) (mset (mset (mset (mset J0 34 (nC J0) a) 35 (nC J0) (96 * b + c)) 36 (nC J0) d) 33 0 (nI (nC J0 + 1)))) else Q (-1000001) J0 := by
    intro Q
    unfold wm_coin
    rw [hJ]
    obtain ⟨n1, n2⟩ := g.ji.nc
    simp only [em_isHall, em_isDay, em_in, bI_ite, Int32.toInt_toInt64, Int64.reduceToInt, ms_ne (show 33 ≠ 34 by decide), ms_ne (show 33 ≠ 35 by decide), ms_ne (show 33 ≠ 36 by decide), ms_eq, if_true, n1, p_tn (show nC J0 < 2 ^ 31 by omega), nI_tInc]
    by_cases q : ((0 ≤ a.toInt ∧ a.toInt ≤ 3) ∧ (0 ≤ b.toInt ∧ b.toInt ≤ 364) ∧ 0 ≤ c.toInt ∧ c.toInt ≤ 95) ∧ (1 ≤ d.toInt ∧ d.toInt ≤ 600)
    · rw [if_pos q, if_pos q.1.1, if_pos q.1.2.1, if_pos q.1.2.2, if_pos q.2]
      by_cases z : nC J0 = 40
      · rw [if_pos z, if_pos (by rw [z]; rfl)]
      · rw [if_neg z, if_neg (show ¬ nI (nC J0) = (40 : Int32) from nI_ne (b := 40) (by omega) (by decide) z)]
        have v := p_vpn (show nC J0 < 40 by omega) (by decide)
        simp only [v, true_and]
    · rw [if_neg q]
      split
      · split
        · split
          · split
            · exact absurd ⟨⟨‹_›, ‹_›, ‹_›⟩, ‹_›⟩ q
            · rfl
          · rfl
        · rfl
      · rfl
  have t95 : (95 : Int32).toInt = 95 := rfl
  simp only [em, t95]
  by_cases q1 : (0 ≤ a.toInt ∧ a.toInt ≤ 3) ∧ (0 ≤ b.toInt ∧ b.toInt ≤ 364) ∧ 0 ≤ c.toInt ∧ c.toInt ≤ 95
  · rw [if_pos q1]
    by_cases q2 : 1 ≤ d.toInt ∧ d.toInt ≤ 600
    · rw [if_pos q2]
      obtain ⟨n1, n2⟩ := g.ji.nc
      obtain ⟨L, l, -⟩ := id l4
      simp only [dr_some, g.k0, g.r3, l.1, l.size, true_and, if_pos (And.intro q1 q2)]
      by_cases z : nC J0 = 40
      · simp only [if_pos z]
        rw [if_pos (by rw [z]; rfl)]
        exact ⟨rfl, ad, rfl, g⟩
      · simp only [if_neg z]
        rw [if_neg (show ¬ nI (nC J0) = (40 : Int32) from nI_ne (b := 40) (by omega) (by decide) z)]
        refine ⟨by omega, by omega, fun q hq => ?_⟩
        unfold wx_X10_init
        simp only [dr_some, xKD_sNew, if_true, true_and]
        refine ⟨1, 400, by omega, by omega, ?_⟩
        have o : ∀ k, k ∉ [33, 34, 35, 36] → mset (mset (mset (mset J0 34 (nC J0) a) 35 (nC J0) (96 * b + c)) 36 (nC J0) d) 33 0 (nI (nC J0 + 1)) k = J0 k := by
          intro k hk
          simp [xSall] at hk
          rw [ms_ne hk.1, ms_ne hk.2.2.2, ms_ne hk.2.2.1, ms_ne hk.2.1]
        have e33 : mset (mset (mset (mset J0 34 (nC J0) a) 35 (nC J0) (96 * b + c)) 36 (nC J0) d) 33 0 (nI (nC J0 + 1)) 33 0 = nI (nC J0 + 1) := by rw [ms_eq, if_pos rfl]
        have e34 : ∀ i, mset (mset (mset (mset J0 34 (nC J0) a) 35 (nC J0) (96 * b + c)) 36 (nC J0) d) 33 0 (nI (nC J0 + 1)) 34 i = if i = nC J0 then a else J0 34 i := by intro i; rw [ms_ne (by decide), ms_ne (by decide), ms_ne (by decide), ms_eq]
        have e35 : ∀ i, mset (mset (mset (mset J0 34 (nC J0) a) 35 (nC J0) (96 * b + c)) 36 (nC J0) d) 33 0 (nI (nC J0 + 1)) 35 i = if i = nC J0 then 96 * b + c else J0 35 i := by intro i; rw [ms_ne (by decide), ms_ne (by decide), ms_eq, ms_ne (by decide)]
        have e36 : ∀ i, mset (mset (mset (mset J0 34 (nC J0) a) 35 (nC J0) (96 * b + c)) 36 (nC J0) d) 33 0 (nI (nC J0 + 1)) 36 i = if i = nC J0 then d else J0 36 i := by intro i; rw [ms_ne (by decide), ms_eq, ms_ne (by decide), ms_ne (by decide)]
        generalize mset (mset (mset (mset J0 34 (nC J0) a) 35 (nC J0) (96 * b + c)) 36 (nC J0) d) 33 0 (nI (nC J0 + 1)) = J' at o e33 e34 e35 e36 ⊢
        have hn : nC J' = nC J0 + 1 := by
          show (J' 33 0).toNatClampNeg = _
          rw [e33, p_tn (by omega)]
        have at_ : 0 ≤ (96 * b + c).toInt ∧ (96 * b + c).toInt ≤ 35039 := by rw [p_lin96 (by omega) (by omega)]; omega
        refine g.come (i := 4) (J' := J') (K := [33, 34, 35, 36]) (by decide) (by decide) l4 n2 (Nat.le_refl _) (Nat.le_refl _) o (by decide) ?_ a (1440 * b + 15 * c) d 0 (fun S' t' => ⟨fun _ => ?_, fun z => absurd z (by decide), fun z => absurd z (by decide)⟩) (fun z => absurd rfl z) (fun _ k h1 h2 => by simp [xSall]; omega) (fun _ k h1 h2 => by simp [xSall]; omega) _ (fun S' g' => ⟨rfl, ad, rfl, g'⟩) hq
        · have qJI := g.ji.cong (J' := fun k => if k = 33 then J0 33 else if k = 34 then J0 34 else if k = 35 then J0 35 else if k = 36 then J0 36 else J' k) (fun k hk => by
              by_cases z1 : k = 33
              · rw [if_pos z1, z1]
              · rw [if_neg z1]
                by_cases z2 : k = 34
                · rw [if_pos z2, z2]
                · rw [if_neg z2]
                  by_cases z3 : k = 35
                  · rw [if_pos z3, z3]
                  · rw [if_neg z3]
                    by_cases z4 : k = 36
                    · rw [if_pos z4, z4]
                    · rw [if_neg z4]; exact o k (by simp [xSall]; omega))
          refine ⟨qJI.nb, (⟨by rw [e33, hn], by omega⟩), qJI.ng, qJI.nl, qJI.nm, qJI.row, qJI.can, qJI.hal, qJI.she, qJI.tap, (fun k hk => ?_), qJI.giv, qJI.loo, qJI.mee, qJI.day, qJI.tra⟩
          rw [hn] at hk
          rw [e34, e35, e36]
          by_cases zk : k = nC J0
          · simp only [if_pos zk]
            exact ⟨q1.1, at_, q2⟩
          · simp only [if_neg zk]
            exact g.ji.coi k (by omega)
        · rw [hn]
          refine t'.congr (fun k hk => ?_)
          have := told_ins (G := fun i => (J0 34 i, 15 * J0 35 i, J0 36 i, 0)) (G' := fun i => (J' 34 i, 15 * J' 35 i, J' 36 i, 0)) (T := J0 35) (T' := J' 35) (n := nC J0) (w := (a, 1440 * b + 15 * c, d, 0)) (fun i hi => ?_) ?_ (fun i hi => ?_) (fun i hi => ?_) k hk
          · unfold coF
            rw [hn]
            exact this
          · show (J' 34 i, 15 * J' 35 i, J' 36 i, (0 : Int32)) = _
            rw [e34, e35, e36]
            simp only [if_neg (show ¬ i = nC J0 by omega)]
          · show (J' 34 (nC J0), 15 * J' 35 (nC J0), J' 36 (nC J0), (0 : Int32)) = _
            rw [e34, e35, e36]
            simp only [if_true]
            rw [show 15 * (96 * b + c) = 1440 * b + 15 * c by grind]
          · rw [e35, if_neg (by omega)]
          · show 1440 * b + 15 * c < 15 * J0 35 i ↔ J' 35 (nC J0) < J0 35 i
            rw [e35, if_pos rfl]
            have := (g.ji.coi i hi).2.1
            rw [show 1440 * b + 15 * c = 15 * (96 * b + c) by grind, p_lt, p_lt, p_mul15 at_, p_mul15 this]
            omega
    · rw [if_neg q2]
      simp only [if_neg (fun z => q2 (And.right z))]
      exact ⟨rfl, ad, rfl, g⟩
  · rw [if_neg q1]
    simp only [if_neg (fun z => q1 (And.left z))]
    exact ⟨rfl, ad, rfl, g⟩
end
