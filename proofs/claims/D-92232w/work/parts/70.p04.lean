/-! PLAIN SIDE 4: the relation behind a step -/
/-- M touches nothing but what the roles R own -/
def Off (ad : Nat → Nat) (l : Nat → Int32) (n : Nat) (S : XS) (M : Nat → Prop) (R : Nat → Prop) : Prop := (∀ r, lv l n r → ¬ R r → ¬ M (ad r)) ∧ (∀ q, xKD S q = some 9 → ¬ M q) ∧ (∀ q, xKD S q = some 10 → ¬ M q) ∧ (∀ q, xRO S q = true → ¬ M q) ∧ (∀ i, 3 ≤ i → i ≤ 7 → ¬ R i → ∀ e, xFR S 1600 (ad i) = some e → ¬ M e)
theorem Off.live {ad : Nat → Nat} {l : Nat → Int32} {n : Nat} {S : XS} {M : Nat → Prop} {R : Nat → Prop} (h : Off ad l n S M R) : ∀ r, lv l n r → ¬ R r → ¬ M (ad r) := h.1
theorem Off.k9 {ad : Nat → Nat} {l : Nat → Int32} {n : Nat} {S : XS} {M : Nat → Prop} {R : Nat → Prop} (h : Off ad l n S M R) : ∀ q, xKD S q = some 9 → ¬ M q := h.2.1
theorem Off.k10 {ad : Nat → Nat} {l : Nat → Int32} {n : Nat} {S : XS} {M : Nat → Prop} {R : Nat → Prop} (h : Off ad l n S M R) : ∀ q, xKD S q = some 10 → ¬ M q := h.2.2.1
theorem Off.kro {ad : Nat → Nat} {l : Nat → Int32} {n : Nat} {S : XS} {M : Nat → Prop} {R : Nat → Prop} (h : Off ad l n S M R) : ∀ q, xRO S q = true → ¬ M q := h.2.2.2.1
theorem Off.bk {ad : Nat → Nat} {l : Nat → Int32} {n : Nat} {S : XS} {M : Nat → Prop} {R : Nat → Prop} (h : Off ad l n S M R) : ∀ i, 3 ≤ i → i ≤ 7 → ¬ R i → ∀ e, xFR S 1600 (ad i) = some e → ¬ M e := h.2.2.2.2
def MR (ad : Nat → Nat) (R : List Nat) : Nat → Prop := fun a => ∃ r, r ∈ R ∧ a = ad r
theorem kr_9 (r : Nat) : kr r ≠ 9 ∧ kr r ≠ 10 ∧ kr r ≠ 102 := by
  have : ∀ (a : Nat) (p : Prop) [Decidable p] (b : Nat), (a ≠ 9 ∧ a ≠ 10 ∧ a ≠ 102) → (b ≠ 9 ∧ b ≠ 10 ∧ b ≠ 102) → ((if p then a else b) ≠ 9 ∧ (if p then a else b) ≠ 10 ∧ (if p then a else b) ≠ 102) := by
    intro a p _ b ha hb
    by_cases h : p
    · rw [if_pos h]; exact ha
    · rw [if_neg h]; exact hb
  unfold kr
  repeat (first | decide | refine this _ _ _ (by decide) ?_)
theorem lists_102 {ad : Nat → Nat} {J : MS} {S : XS} (h : XA ad J S) {i : Nat} (h3 : 3 ≤ i) (h7 : i ≤ 7) : ∃ n L, LiS S (ad i) n L := by
  obtain ⟨L4, q4, -⟩ := h.co
  obtain ⟨L5, q5, -⟩ := h.ke
  obtain ⟨L6, q6, -⟩ := h.lo
  obtain ⟨L7, q7, -⟩ := h.me
  have : i = 3 ∨ i = 4 ∨ i = 5 ∨ i = 6 ∨ i = 7 := by omega
  rcases this with rfl | rfl | rfl | rfl | rfl
  · exact ⟨_, _, h.bk.ls⟩
  · exact ⟨_, _, q4⟩
  · exact ⟨_, _, q5⟩
  · exact ⟨_, _, q6⟩
  · exact ⟨_, _, q7⟩
theorem back_102 {ad : Nat → Nat} {J : MS} {S : XS} (h : XA ad J S) {i : Nat} (h3 : 3 ≤ i) (h7 : i ≤ 7) {e : Nat} (he : xFR S 1600 (ad i) = some e) : xKD S e = some 102 := by
  obtain ⟨n, L, -, e', g1, g2, -⟩ := lists_102 h h3 h7
  rw [Option.some.inj (he.symm.trans g1)]
  exact g2
theorem Off.roles {ad : Nat → Nat} {J : MS} {S : XS} (h : XA ad J S) {R : List Nat} (hR : ∀ r ∈ R, lv (J 9) (nB J) r) : Off ad (J 9) (nB J) S (MR ad R) (fun r => r ∈ R) := by
  have key : ∀ (q k : Nat), xKD S q = some k → (∀ r, kr r ≠ k) → ¬ MR ad R q := by
    rintro q k hq hk ⟨r, hr, rfl⟩
    rw [h.b.kd r (hR r hr)] at hq
    exact hk r (Option.some.inj hq)
  refine ⟨?_, fun q hq => key q 9 hq (fun r => (kr_9 r).1), fun q hq => key q 10 hq (fun r => (kr_9 r).2.1), ?_, fun i h3 h7 _ e he => key e 102 (back_102 h h3 h7 he) (fun r => (kr_9 r).2.2)⟩
  · rintro r hr hn ⟨r', hr', e⟩
    rw [h.b.inj r r' hr (hR r' hr') e] at hn
    exact hn hr'
  · rintro q hq ⟨r, hr, rfl⟩
    rw [h.b.ro r (hR r hr)] at hq
    cases hq
/-- a list of ours grows, and one more role changes -/
theorem Off.list {ad : Nat → Nat} {J : MS} {S : XS} (h : XA ad J S) {i : Nat} (h3 : 3 ≤ i) (h7 : i ≤ 7) {R : List Nat} (hR : ∀ r ∈ R, lv (J 9) (nB J) r) (hi : i ∈ R) : Off ad (J 9) (nB J) S (fun q => MR ad R q ∨ LM S (ad i) q) (fun r => r ∈ R) := by
  have o := Off.roles h hR
  have hl : lv (J 9) (nB J) i := lv_f (by omega)
  have kl : xKD S (ad i) = some 16 := by
    rw [h.b.kd i hl]
    have : i = 3 ∨ i = 4 ∨ i = 5 ∨ i = 6 ∨ i = 7 := by omega
    rcases this with rfl | rfl | rfl | rfl | rfl <;> rfl
  have key : ∀ (q k : Nat), xKD S q = some k → k ≠ 16 → k ≠ 102 → ¬ LM S (ad i) q := by
    rintro q k hq h1 h2 (rfl | ⟨z, -⟩)
    · rw [kl] at hq; exact h1 (Option.some.inj hq).symm
    · rw [back_102 h h3 h7 z] at hq; exact h2 (Option.some.inj hq).symm
  refine ⟨fun r hr hn => ?_, fun q hq => ?_, fun q hq => ?_, fun q hq => ?_, fun j j3 j7 hn e he => ?_⟩
  · rintro (z | z)
    · exact o.live r hr hn z
    · rcases z with z | ⟨z, -⟩
      · exact hn (by rw [h.b.inj r i hr hl z]; exact hi)
      · have := back_102 h h3 h7 z
        rw [h.b.kd r hr] at this
        exact (kr_9 r).2.2 (Option.some.inj this)
  · rintro (z | z)
    · exact o.k9 q hq z
    · exact key q 9 hq (by decide) (by decide) z
  · rintro (z | z)
    · exact o.k10 q hq z
    · exact key q 10 hq (by decide) (by decide) z
  · rintro (z | z)
    · exact o.kro q hq z
    · rcases z with z | ⟨z, w⟩
      · rw [z, h.b.ro i hl] at hq; cases hq
      · rw [w] at hq; cases hq
  · rintro (z | z)
    · exact o.bk j j3 j7 hn e he z
    · rcases z with z | ⟨z, w⟩
      · have := back_102 h j3 j7 he
        rw [z, kl] at this; cases this
      · have hne : j ≠ i := fun q => hn (by rw [q]; exact hi)
        rw [h.bb j i j3 j7 h3 h7 hne e he z] at w
        cases w
theorem insF_cong {α : Type} {f g : Nat → α} {p n : Nat} {v : α} (h : ∀ i, i < n → f i = g i) {i : Nat} (hp : p ≤ n) (hi : i < n + 1) : insF f p v i = insF g p v i := by
  unfold insF
  split
  · exact h i (by omega)
  · split
    · rfl
    · exact h (i - 1) (by omega)
theorem cpos_le (t : Nat → Int32) (v : Int32) : ∀ n, cpos t v n ≤ n
  | 0 => Nat.le_refl 0
  | n + 1 => by
    unfold cpos
    split
    · exact Nat.le_succ_of_le (cpos_le t v n)
    · exact Nat.le_refl _
theorem cpos_cong {t u : Nat → Int32} {v : Int32} : ∀ n, (∀ i, i < n → t i = u i) → cpos t v n = cpos u v n
  | 0, _ => rfl
  | n + 1, h => by
    unfold cpos
    rw [h n (Nat.lt_succ_self n), cpos_cong n (fun i hi => h i (Nat.lt_succ_of_lt hi))]
theorem ordF_lt (t : Nat → Int32) : ∀ n i, i < n → ordF t n i < n
  | 0, i, h => absurd h (Nat.not_lt_zero i)
  | n + 1, i, h => by
    unfold ordF insF
    have := cpos_le (fun i => t (ordF t n i)) (t n) n
    split
    · exact Nat.lt_succ_of_lt (ordF_lt t n i (by omega))
    · split
      · exact Nat.lt_succ_self n
      · exact Nat.lt_succ_of_lt (ordF_lt t n (i - 1) (by omega))
theorem ordF_cong {t u : Nat → Int32} : ∀ n, (∀ i, i < n → t i = u i) → ∀ i, i < n → ordF t n i = ordF u n i
  | 0, _, i, h => absurd h (Nat.not_lt_zero i)
  | n + 1, h, i, hi => by
    have ih := ordF_cong n (fun j hj => h j (Nat.lt_succ_of_lt hj))
    have e : cpos (fun i => t (ordF t n i)) (t n) n = cpos (fun i => u (ordF u n i)) (u n) n := by
      rw [h n (Nat.lt_succ_self n)]
      refine cpos_cong n (fun j hj => ?_)
      show t (ordF t n j) = u (ordF u n j)
      rw [ih j hj]
      exact h _ (Nat.lt_succ_of_lt (ordF_lt u n j hj))
    unfold ordF
    rw [e]
    exact insF_cong ih (cpos_le _ _ n) hi
variable {M : Nat → Prop} {S S' : XS} {ad ad' : Nat → Nat} {J J' : MS} {R K : Nat → Prop}
/-- the relation behind a step: what the step doesn't touch is kept, the rest is to be given -/
theorem XA.gen (h : XA ad J S) (c : Chg M S S') (off : Off ad (J 9) (nB J) S M R) (hA : ∀ r, ¬ R r → ad' r = ad r) (hJ : ∀ k, ¬ K k → J' k = J k)
    (ji : JI J') (b : XBs ad' (J' 9) (nB J') S')
    (f : (¬ R 0 ∧ ¬ R 9 ∧ (∀ k, k < 9 → ¬ R k) ∧ ¬ R 11 ∧ ¬ R 12 ∧ ¬ K 13 ∧ ¬ K 14 ∧ ¬ K 27 ∧ ¬ K 1) ∨ XF ad' (J' 13 0) (J' 14 0) (J' 27 0) (J' 1 0) S')
    (sh : (¬ R 1 ∧ (∀ s, s < 8 → ¬ R (60 + s) ∧ ¬ R (70 + s)) ∧ ¬ K 9 ∧ ¬ K 10 ∧ ¬ K 11) ∨ SHT ad' (J' 9) (J' 10) (J' 11) S')
    (ha : (¬ R 2 ∧ (∀ i, i < 4 → ¬ R (20 + i) ∧ ¬ R (30 + i) ∧ ¬ R (40 + i) ∧ ¬ R (50 + i)) ∧ (∀ k, 2 ≤ k → k ≤ 8 → ¬ K k)) ∨ HAL ad' J' S')
    (tp : (¬ R 8 ∧ ¬ K 12 ∧ ¬ K 13) ∨ TAP ad' (J' 13 0) (J' 12) S')
    (bk : (¬ R 3 ∧ (∀ i, i < nB J → ¬ R (100 + i)) ∧ ¬ K 24 ∧ ¬ K 25 ∧ ¬ K 26) ∨ BKS ad' (nB J') (J' 25) (J' 26) S')
    (co : (¬ R 4 ∧ (∀ k, 33 ≤ k → k ≤ 36 → ¬ K k)) ∨ TL S' (ad' 4) (nC J') (coF J'))
    (ke : (¬ R 5 ∧ (∀ k, 37 ≤ k → k ≤ 41 → ¬ K k)) ∨ TL S' (ad' 5) (nG J') (keF J'))
    (lo : (¬ R 6 ∧ (∀ k, 42 ≤ k → k ≤ 45 → ¬ K k)) ∨ TL S' (ad' 6) (nL J') (loF J'))
    (me : (¬ R 7 ∧ (∀ k, 46 ≤ k → k ≤ 51 → ¬ K k)) ∨ ML S' (ad' 7) (nM J') (fun i k => J' (47 + i) k))
    (tr : (¬ R 9 ∧ ¬ R 10 ∧ ¬ K 52 ∧ ¬ K 53) ∨ TRA ad' (J' 53 0) (J' 52) S')
    (bb : (∀ i, 3 ≤ i → i ≤ 7 → ¬ R i) ∨ BBk ad' S') : XA ad' J' S' := by
  have B := h.b
  have n0 : ∀ r, r ≤ 12 → xKD S (ad r) ≠ none := fun r hr => some_ne (B.kd r (lv_f hr))
  have nm : ∀ r, r ≤ 12 → ¬ R r → ¬ M (ad r) := fun r hr hn => off.live r (lv_f hr) hn
  refine ⟨ji, b, ?_, ?_, ?_, ?_, ?_, ?_, ?_, ?_, ?_, ?_, ?_, h.cn.kept c off.kro⟩
  · rcases f with ⟨r0, r9, rk, r11, r12, k13, k14, k27, k1⟩ | f
    · have q := h.f.kept c (n0 0 (by decide)) (nm 0 (by decide) r0)
      rw [hJ 13 k13, hJ 14 k14, hJ 27 k27, hJ 1 k1]
      exact ⟨fun k hk => by rw [hA 0 r0, hA (k + 1) (by by_cases e : k = 8; omega; exact (by by_cases e : k + 1 < 9; exact rk _ e; omega))]; exact q.r k hk, by rw [hA 0 r0, hA 9 r9]; exact q.r11, by rw [hA 0 r0, hA 11 r11]; exact q.r13, by rw [hA 0 r0, hA 12 r12]; exact q.r14, by rw [hA 0 r0]; exact q.i8, by rw [hA 0 r0]; exact q.i9, by rw [hA 0 r0]; exact q.i10, by rw [hA 0 r0]; exact q.i12⟩
    · exact f
  · rcases sh with ⟨r1, rs, k9, k10, k11⟩ | f
    · have q := h.sh.kept B c (nm 1 (by decide) r1) (fun s hs hl => ⟨off.live _ (lv_s hs hl) (rs s hs).1, off.live _ (lv_i hs hl) (rs s hs).2⟩)
      rw [hJ 9 k9, hJ 10 k10, hJ 11 k11]
      refine ⟨fun s hs hl => ?_, fun s hs hl => ?_⟩
      · rw [hA 1 r1, hA _ (rs s hs).1, hA _ (rs s hs).2]; exact q.sm s hs hl
      · rw [hA 1 r1]; exact q.nn s hs hl
    · exact f
  · rcases ha with ⟨r1, rs, kk⟩ | f
    · have q := h.ha.kept c (n0 2 (by decide)) (nm 2 (by decide) r1) (fun i hi => ⟨off.live _ (lv_h hi).1 (rs i hi).1, off.live _ (lv_h hi).2.1 (rs i hi).2.1, off.live _ (lv_h hi).2.2.1 (rs i hi).2.2.1, off.live _ (lv_h hi).2.2.2 (rs i hi).2.2.2⟩)
      intro i hi
      unfold HAJ
      rw [hA 2 r1, hA _ (rs i hi).1, hA _ (rs i hi).2.1, hA _ (rs i hi).2.2.1, hA _ (rs i hi).2.2.2, hJ 2 (kk 2 (by decide) (by decide)), hJ 3 (kk 3 (by decide) (by decide)), hJ 4 (kk 4 (by decide) (by decide)), hJ 5 (kk 5 (by decide) (by decide)), hJ 6 (kk 6 (by decide) (by decide)), hJ 7 (kk 7 (by decide) (by decide)), hJ 8 (kk 8 (by decide) (by decide))]
      exact q i hi
    · exact f
  · rcases tp with ⟨r8, k12, k13⟩ | f
    · have q := h.tp.kept c (n0 8 (by decide)) (nm 8 (by decide) r8)
      rw [hJ 13 k13, hJ 12 k12]
      unfold TAP
      rw [hA 8 r8]; exact q
    · exact f
  · rcases bk with ⟨r3, rb, k24, k25, k26⟩ | f
    · have q := h.bk.kept B c (nm 3 (by decide) r3) (off.bk 3 (by decide) (by decide) r3) (fun i hi => off.live _ (lv_b hi) (rb i hi))
      unfold nB
      rw [hJ 24 k24, hJ 25 k25, hJ 26 k26]
      refine ⟨?_, fun i hi => by rw [hA _ (rb i hi)]; exact q.f i hi⟩
      rw [hA 3 r3]
      obtain ⟨z1, e, z2, z3, z4, z5, z6, z7, z8⟩ := q.ls
      exact ⟨z1, e, z2, z3, z4, z5, z6, fun i hi => by show _ = some (ad' (100 + i)); rw [hA _ (rb i hi)]; exact z7 i hi, z8⟩
    · exact f
  · rcases co with ⟨r, k⟩ | f
    · have q := h.co.kept c (nm 4 (by decide) r) (off.bk 4 (by decide) (by decide) r) off.k9
      unfold nC coF nC
      rw [hA 4 r, hJ 33 (k 33 (by decide) (by decide)), hJ 34 (k 34 (by decide) (by decide)), hJ 35 (k 35 (by decide) (by decide)), hJ 36 (k 36 (by decide) (by decide))]
      exact q
    · exact f
  · rcases ke with ⟨r, k⟩ | f
    · have q := h.ke.kept c (nm 5 (by decide) r) (off.bk 5 (by decide) (by decide) r) off.k9
      unfold nG keF nG
      rw [hA 5 r, hJ 37 (k 37 (by decide) (by decide)), hJ 38 (k 38 (by decide) (by decide)), hJ 39 (k 39 (by decide) (by decide)), hJ 40 (k 40 (by decide) (by decide)), hJ 41 (k 41 (by decide) (by decide))]
      exact q
    · exact f
  · rcases lo with ⟨r, k⟩ | f
    · have q := h.lo.kept c (nm 6 (by decide) r) (off.bk 6 (by decide) (by decide) r) off.k9
      unfold nL loF nL
      rw [hA 6 r, hJ 42 (k 42 (by decide) (by decide)), hJ 43 (k 43 (by decide) (by decide)), hJ 44 (k 44 (by decide) (by decide)), hJ 45 (k 45 (by decide) (by decide))]
      exact q
    · exact f
  · rcases me with ⟨r, k⟩ | f
    · have q := h.me.kept c (nm 7 (by decide) r) (off.bk 7 (by decide) (by decide) r) off.k10
      obtain ⟨L, q1, q2⟩ := q
      rw [hA 7 r]
      unfold nM
      rw [hJ 46 (k 46 (by decide) (by decide))]
      refine ⟨L, q1, fun j hj => ⟨(q2 j hj).1, fun i hi => ?_⟩⟩
      show _ = J' (47 + i) j
      rw [hJ (47 + i) (k _ (by omega) (by omega))]
      exact (q2 j hj).2 i hi
    · exact f
  · rcases tr with ⟨r9, r10, k52, k53⟩ | f
    · have q := h.tr.kept c (n0 9 (by decide)) (n0 10 (by decide)) (nm 9 (by decide) r9) (nm 10 (by decide) r10)
      rw [hJ 52 k52, hJ 53 k53]
      exact ⟨by rw [hA 9 r9, hA 10 r10]; exact q.r, by rw [hA 9 r9]; exact q.i, fun i hi => by rw [hA 10 r10]; exact q.a i hi⟩
    · exact f
  · rcases bb with r | f
    · have q := h.bb.kept c (fun i _ h7 => n0 i (by omega)) (fun i h3 h7 => nm i (by omega) (r i h3 h7))
      intro i i' a1 a2 a3 a4
      rw [hA i (r i a1 a2), hA i' (r i' a3 a4)]
      exact q i i' a1 a2 a3 a4
    · exact f
