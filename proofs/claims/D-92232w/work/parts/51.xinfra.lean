/-! THE CLASS SIDE's WORLD: a heap by its components. S = (kind of a cell; int fields; reference fields; int array places; reference array places; array lengths; cells that are only read; the addresses of statics and of String constants). -/
abbrev XS : Type := (Nat → Option Nat) × (Nat → Nat → Int32) × (Nat → Nat → Option Nat) × (Nat → Nat → Int32) × (Nat → Nat → Option Nat) × (Nat → Nat) × (Nat → Bool) × (Nat → Nat)
def xKD (S : XS) : Nat → Option Nat := S.1
def xFI (S : XS) : Nat → Nat → Int32 := S.2.1
def xFR (S : XS) : Nat → Nat → Option Nat := S.2.2.1
def xAI (S : XS) : Nat → Nat → Int32 := S.2.2.2.1
def xAR (S : XS) : Nat → Nat → Option Nat := S.2.2.2.2.1
def xLN (S : XS) : Nat → Nat := S.2.2.2.2.2.1
def xRO (S : XS) : Nat → Bool := S.2.2.2.2.2.2.1
def xST (S : XS) : Nat → Nat := S.2.2.2.2.2.2.2
def sFI (S : XS) (f a : Nat) (v : Int32) : XS := (S.1, fun g b => if g = f ∧ b = a then v else S.2.1 g b, S.2.2)
def sFR (S : XS) (f a : Nat) (r : Option Nat) : XS := (S.1, S.2.1, fun g b => if g = f ∧ b = a then r else S.2.2.1 g b, S.2.2.2)
def sAIf (S : XS) (a : Nat) (g : Nat → Int32) : XS := (S.1, S.2.1, S.2.2.1, fun b => if b = a then g else S.2.2.2.1 b, S.2.2.2.2)
def sARf (S : XS) (a : Nat) (g : Nat → Option Nat) : XS := (S.1, S.2.1, S.2.2.1, S.2.2.2.1, fun b => if b = a then g else S.2.2.2.2.1 b, S.2.2.2.2.2)
def sAI (S : XS) (a i : Nat) (v : Int32) : XS := sAIf S a (upd (xAI S a) i v)
def sAR (S : XS) (a i : Nat) (r : Option Nat) : XS := sARf S a (va_up (xAR S a) i r)
def sNew (S : XS) (a n : Nat) : XS := (fun b => if b = a then some n else S.1 b, S.2)
def sNewA (S : XS) (a n k : Nat) : XS := (fun b => if b = a then some n else S.1 b, S.2.1, S.2.2.1, S.2.2.2.1, S.2.2.2.2.1, fun b => if b = a then k else S.2.2.2.2.2.1 b, S.2.2.2.2.2.2)
/-- a reference is used: it is one -/
def dr (r : Option Nat) (P : Nat → Prop) : Prop := ∃ a, r = some a ∧ P a
theorem dr_some {a : Nat} {P : Nat → Prop} : dr (some a) P ↔ P a := ⟨fun ⟨b, h, k⟩ => Option.some.inj h ▸ k, fun h => ⟨a, rfl, h⟩⟩
theorem dr_none {P : Nat → Prop} : dr none P ↔ False := ⟨fun ⟨_, h, _⟩ => (nomatch h), False.elim⟩
abbrev XE : Type := va_G × (Nat → ClassId) × (Nat → Nat) × (Nat → Bool)
abbrev xe_D (E : XE) : va_G := E.1
abbrev xe_c (E : XE) : Nat → ClassId := E.2.1
abbrev xe_k (E : XE) : Nat → Nat := E.2.2.1
abbrev xe_o (E : XE) : Nat → Bool := E.2.2.2
def xFv (S : XS) (a : Nat) (q : Nat × Bool) : Value := if q.2 = true then va_rf (xFR S q.1 a) else .int (xFI S q.1 a)
def xfl (S : XS) (n a : Nat) : List Value := (xTab.getD n []).map (xFv S a)
def xIsR (n : Nat) : Bool := decide (102 ≤ n)
def xAc (S : XS) (a n : Nat) : vp_A := (xLN S a, if xIsR n = true then .inr (.inr (.inr (.inr (xAR S a)))) else .inl (xAI S a))
def xCell (E : XE) (S : XS) (a n : Nat) : va_E := if n < 100 then .inr (n, xfl S n a) else .inl (xe_c E (n - 100), xAc S a n)
def xROk (n : Nat) : Prop := n = 17 ∨ n = 101 ∨ n = 102 ∨ n = 106
/-- what is known of a cell that is only read (it may be an old one) -/
def xWk (E : XE) (e : va_E) (H : Heap) (a : Nat) : Prop := match e with
  | .inl x => ∃ cell : Cell, H[a]? = some cell ∧ cell.cls = x.1 ∧ (∀ k, cell.vm ≠ .statics k) ∧ cell.vm ≠ .unknown ∧ x.2.1 ≤ cell.slots.size ∧ cell.slots.size.toInt32 = Int32.ofNat x.2.1 ∧ ∀ j : Nat, j < x.2.1 → cell.slots[j]? = (vp_cell x.1 x.2).slots[j]?
  | .inr o => ∃ cell : Cell, H[a]? = some cell ∧ cell.cls = (xe_D E).1 o.1 ∧ cell.vm.isStatics = false ∧ cell.vm ≠ .unknown ∧ ∀ k : Nat, k < 2 → cell.slots[(xe_D E).2 o.1 k]? = some (vp_V o.2 k)
def xClean (S : XS) : Prop := ∀ a : Nat, xKD S a = none → (∀ f, xFI S f a = 0) ∧ (∀ f, xFR S f a = none) ∧ (∀ i, xAI S a i = 0) ∧ (∀ i, xAR S a i = none) ∧ xRO S a = false
def okXA (E : XE) (A : Nat → Prop) (S : XS) (H : Heap) : Prop :=
  (∀ a n : Nat, xKD S a = some n → xRO S a = false → va_at (xe_D E) vwX (a, xCell E S a n) H) ∧ (∀ a n : Nat, xKD S a = some n → xRO S a = true → xWk E (xCell E S a n) H a ∧ xROk n) ∧ xClean S ∧ (∀ a n : Nat, xKD S a = some n → xRO S a = false → A a) ∧ (∀ a : Nat, xRO S a = true → ¬ A a) ∧ xRO S = xe_o E ∧ xST S = xe_k E
def xTys (E : XE) : List (ClassId × FieldType) := (List.range 7).map (fun k => (xe_c E k, xTy k))
def KX (E : XE) (U : State) : Prop := va_K (xe_D E) vwX (xTys E) U ∧ (∀ w ∈ lw_nst, va_Nw w U) ∧ (∀ c ∈ xAOl, va_AO c U) ∧ (∀ t ∈ xFwl, va_Fw t.1 t.2.1 t.2.2 U) ∧ (∀ t ∈ xStrl, vk_R t.1 t.2.1 t.2.2.1 (xe_k E t.2.2.2) U) ∧ va_Mi "[Ljava/lang/Object;" (xe_k E 2) U
theorem xFwl_ok : ∀ t ∈ xFwl, t.2.1.cls ≠ "java/lang/invoke/MethodHandle" ∧ t.2.1.cls ≠ "java/lang/invoke/VarHandle" := by decide +kernel
theorem va_Nw.warmG {w : Cond} (hg : goodWord w = true) (ho : w.onTables = true) {s U : State} (hW : s.WarmedH U.vm) (hZ : va_Nw w s) : va_Nw w U :=
  va_Nw.of ho (word_at (a' := #[]) hW (good_of_word hg) (va_Nw.use (A := #[]) ho hZ))
theorem lid_vm {c : String} {x y : MethodName} {A A' : Array Value} {u U : State} (h : u.vm = U.vm) (hb : (Cond.landsInDefault c x y).before A u = true) : (Cond.landsInDefault c x y).before A' U = true := by
  simp only [Cond.before, Cond.holds, Cond.value, State.methodFound?, State.methodNamed?] at hb ⊢
  rw [← h]
  exact hb
theorem va_Nw.warmL {c : String} {x y : MethodName} {s U : State} (hW : s.WarmedH U.vm) (hZ : va_Nw (.landsInDefault c x y) s) : va_Nw (.landsInDefault c x y) U :=
  lid_vm (A := #[]) (rfl : (s.setVm U.vm).vm = U.vm) (by rw [Cond.landsInDefault_setVm (args := #[]) hW.alike (State.methodFound?_setVm hW.alike _ _ _)]; exact hZ)
theorem nst_warm {w : Cond} (h : w ∈ lw_nst) {s U : State} (hW : s.WarmedH U.vm) (hZ : va_Nw w s) : va_Nw w U := by
  rcases List.mem_append.mp h with h | h
  · have hb := (List.mem_filter.mp h).2
    cases w <;> simp only [nstB, Bool.false_eq_true] at hb
    all_goals first
      | exact va_Nw.warmF hW hZ
      | exact va_Nw.warmM hW hZ
      | exact va_Nw.warmC hW hZ
      | exact va_Nw.warmD hW hZ
  · simp only [xDefs, List.mem_cons, List.not_mem_nil, or_false] at h
    rcases h with rfl | rfl | rfl | rfl | rfl | rfl | rfl | rfl | rfl | rfl | rfl
    all_goals first
      | exact va_Nw.warmL hW hZ
      | exact va_Nw.warmG rfl rfl hW hZ
theorem nst_same {w : Cond} (h : w ∈ lw_nst) {u U : State} (hvm : u.vm = U.vm) (hZ : va_Nw w u) : va_Nw w U := by
  rcases List.mem_append.mp h with h | h
  · have hb := (List.mem_filter.mp h).2
    cases w <;> simp only [nstB, Bool.false_eq_true] at hb
    all_goals exact va_Nw.same rfl hvm hZ
  · simp only [xDefs, List.mem_cons, List.not_mem_nil, or_false] at h
    rcases h with rfl | rfl | rfl | rfl | rfl | rfl | rfl | rfl | rfl | rfl | rfl
    all_goals first
      | exact lid_vm (A := #[]) hvm hZ
      | exact va_Nw.same rfl hvm hZ
theorem KX.warm {E : XE} {s U : State} (hW : s.WarmedH U.vm) (h : KX E s) : KX E U :=
  ⟨va_K.moved hW.alike h.1, fun w hw => nst_warm hw hW (h.2.1 w hw), fun c hc => va_AO.moved hW.alike (h.2.2.1 c hc), fun t ht => va_Fw.moved (xFwl_ok t ht) hW.alike (h.2.2.2.1 t ht), fun t ht => vk_R.warm hW (h.2.2.2.2.1 t ht), va_Mi.moved hW.alike h.2.2.2.2.2⟩
theorem KX.same {E : XE} {u U : State} (hvm : u.vm = U.vm) (h : KX E u) : KX E U :=
  ⟨va_K.moved (hvm ▸ Vm.Alike.refl u.vm) h.1, fun w hw => nst_same hw hvm (h.2.1 w hw), fun c hc => va_AO.moved (hvm ▸ Vm.Alike.refl u.vm) (h.2.2.1 c hc), fun t ht => va_Fw.moved (xFwl_ok t ht) (hvm ▸ Vm.Alike.refl u.vm) (h.2.2.2.1 t ht), fun t ht => vk_R.same hvm.symm (h.2.2.2.2.1 t ht), va_Mi.moved (hvm ▸ Vm.Alike.refl u.vm) h.2.2.2.2.2⟩
/-- statics that are only read -/
def xZl : List (String × String × String × Nat) := [("java/util/ArrayList", "DEFAULTCAPACITY_EMPTY_ELEMENTDATA", "[Ljava/lang/Object;", 0), ("VillageHalls", "NAMES", "[Ljava/lang/String;", 1), ("java/lang/Throwable", "UNASSIGNED_STACK", "[Ljava/lang/StackTraceElement;", 3), ("java/lang/Throwable", "SUPPRESSED_SENTINEL", "Ljava/util/List;", 4), ("jdk/internal/util/Preconditions", "SIOOBE_FORMATTER", "Ljava/util/function/BiFunction;", 5)]
def xZi : List (String × String × String × Int32) := [("java/lang/String", "COMPACT_STRINGS", "Z", 1), ("java/lang/StringUTF16", "$assertionsDisabled", "Z", 1), ("java/lang/StringUTF16", "HI_BYTE_SHIFT", "I", 0), ("java/lang/StringUTF16", "LO_BYTE_SHIFT", "I", 8)]
def xZs : List (String × String × String) := [("java/lang/Throwable", "UNASSIGNED_STACK", "[Ljava/lang/StackTraceElement;"), ("java/lang/Throwable", "SUPPRESSED_SENTINEL", "Ljava/util/List;")]
def ZX (E : XE) (A : Nat → Prop) (U : State) (H : Heap) : Prop := (∀ t ∈ xZl, va_Z t.1 t.2.1 t.2.2.1 (.ref (xe_k E t.2.2.2)) A U H) ∧ (∀ t ∈ xZi, va_Z t.1 t.2.1 t.2.2.1 (.int t.2.2.2) A U H) ∧ ∀ t ∈ xZs, vx_L t.1 t.2.1 t.2.2 A U H
/-- the cells that a method may change -/
def xA (S : XS) (sz : Nat) : Nat → Prop := fun q => (xKD S q ≠ none ∧ xRO S q = false) ∨ sz ≤ q
def BX0 (E : XE) (S : XS) (sz : Nat) (U : State) : Prop := U.heap.size = sz ∧ okXA E (xA S sz) S U.heap ∧ KX E U ∧ ZX E (xA S sz) U U.heap
def BX1 (E : XE) (S : XS) (sz : Nat) (S' : XS) (t : State) : Prop := okXA E (xA S sz) S' t.heap
def XOk (E : XE) (C : Cx) : Prop := KX E (cx_s C) ∧ (∀ q : Nat, (cx_s C).heap.size ≤ q → cx_A C q) ∧ ZX E (cx_A C) (cx_s C) (cx_s C).heap
abbrev GX (E : XE) (C : Cx) (S : XS) (mc ms pc : Nat) (L : List (Option Value)) (st : List Value) : Prop := Gw (okXA E (cx_A C)) C S mc ms pc L st
def XMet (E : XE) (l : Launch) (y : MethodName) (cc : ByteArray) (nL : Nat) (ret : Option FieldType) (rm : Room) (As : List Value) (S : XS) (Qc : Nat → Array Value → State → Outcome → State → Prop) : Prop :=
  ∀ sz : Nat, Met l y (ws_ y cc nL ret) rm (va_Pc As (BX0 E S sz)) (Qc sz) rm.cells rm.slots (xA S sz)
theorem BX0_blind {E : XE} {S : XS} {sz : Nat} {As : List Value} : FrameBlind (va_Pc As (BX0 E S sz)) :=
  fun a U g mk q => ⟨q.1, q.2.1, q.2.2.1, KX.same (u := U) (U := U.calling g mk a) rfl q.2.2.2.1, ⟨fun t ht => va_Z.moved (u := U) (U := U.calling g mk a) (Vm.Alike.refl U.vm) (q.2.2.2.2.1 t ht), fun t ht => va_Z.moved (u := U) (U := U.calling g mk a) (Vm.Alike.refl U.vm) (q.2.2.2.2.2.1 t ht), fun t ht => vx_L.moved (u := U) (U := U.calling g mk a) (Vm.Alike.refl U.vm) (q.2.2.2.2.2.2 t ht)⟩⟩
/-! ===== the world as a list of cells, for the kit's rows ===== -/
def xL1 (E : XE) (S : XS) (a : Nat) : Option (Nat × va_E) := match xKD S a with
  | none => none
  | some n => if xRO S a = false then some (a, xCell E S a n) else none
def xLs (E : XE) (S : XS) (N : Nat) : va_W := (List.range N).filterMap (xL1 E S)
theorem xL1_some {E : XE} {S : XS} {a : Nat} {q : Nat × va_E} : xL1 E S a = some q ↔ ∃ n, xKD S a = some n ∧ xRO S a = false ∧ q = (a, xCell E S a n) := by
  unfold xL1
  cases h : xKD S a with
  | none => simp
  | some n =>
    cases h2 : xRO S a with
    | false => simp [eq_comm]
    | true => simp
theorem xLs_mem {E : XE} {S : XS} {N : Nat} {q : Nat × va_E} : q ∈ xLs E S N ↔ q.1 < N ∧ ∃ n, xKD S q.1 = some n ∧ xRO S q.1 = false ∧ q.2 = xCell E S q.1 n := by
  unfold xLs
  rw [List.mem_filterMap]
  constructor
  · rintro ⟨a, ha, h⟩
    obtain ⟨n, h1, h2, h3⟩ := xL1_some.mp h
    subst h3
    exact ⟨List.mem_range.mp ha, n, h1, h2, rfl⟩
  · rintro ⟨h0, n, h1, h2, h3⟩
    exact ⟨q.1, List.mem_range.mpr h0, xL1_some.mpr ⟨n, h1, h2, by rw [← h3]⟩⟩
theorem xLs_at {E : XE} {S : XS} {N a n : Nat} (h0 : a < N) (h1 : xKD S a = some n) (h2 : xRO S a = false) : ∃ k : Nat, (xLs E S N)[k]? = some (a, xCell E S a n) :=
  List.getElem?_of_mem (xLs_mem.mpr ⟨h0, n, h1, h2, rfl⟩)
theorem xLs_P {E : XE} {A : Nat → Prop} {S : XS} {H : Heap} (h : okXA E A S H) (N : Nat) : va_P (xe_D E) vwX (xLs E S N) H := by
  intro k q hq
  obtain ⟨-, n, h1, h2, h3⟩ := xLs_mem.mp (List.mem_of_getElem? hq)
  have := h.1 q.1 n h1 h2
  rw [← h3] at this
  exact this
theorem xLs_inj {E : XE} {S : XS} {N : Nat} : ∀ (i j : Nat) (p q : Nat × va_E), (xLs E S N)[i]? = some p → (xLs E S N)[j]? = some q → p.1 = q.1 → i = j := by
  have hp : (xLs E S N).Pairwise (fun p q => p.1 < q.1) := by
    unfold xLs
    refine List.Pairwise.filterMap (R := fun a b : Nat => a < b) _ ?_ List.pairwise_lt_range
    intro a b hab p hp q hq
    obtain ⟨_, _, _, rfl⟩ := xL1_some.mp hp
    obtain ⟨_, _, _, rfl⟩ := xL1_some.mp hq
    exact hab
  intro i j p q hi hj e
  obtain ⟨hi1, hi2⟩ := List.getElem?_eq_some_iff.mp hi
  obtain ⟨hj1, hj2⟩ := List.getElem?_eq_some_iff.mp hj
  have h2 := List.pairwise_iff_getElem.mp hp
  rcases Nat.lt_trichotomy i j with z | z | z
  · have := h2 i j hi1 hj1 z
    rw [hi2, hj2] at this
    omega
  · exact z
  · have := h2 j i hj1 hi1 z
    rw [hi2, hj2] at this
    omega
theorem xLs_D {E : XE} {A : Nat → Prop} {S : XS} {H : Heap} (h : okXA E A S H) (N : Nat) : va_D A (xLs E S N) := by
  refine ⟨xLs_inj, fun k q hq => ?_⟩
  obtain ⟨-, n, h1, h2, h3⟩ := xLs_mem.mp (List.mem_of_getElem? hq)
  exact h.2.2.2.1 q.1 n h1 h2
theorem okX_lt {E : XE} {A : Nat → Prop} {S : XS} {H : Heap} (h : okXA E A S H) {a n : Nat} (hk : xKD S a = some n) : a < H.size := by
  cases hr : xRO S a with
  | false => exact (h.1 a n hk hr).lt
  | true =>
    have h2 := (h.2.1 a n hk hr).1
    unfold xWk at h2
    split at h2
    · obtain ⟨cell, q, -⟩ := h2
      exact (Array.getElem?_eq_some_iff.mp q).1
    · obtain ⟨cell, q, -⟩ := h2
      exact (Array.getElem?_eq_some_iff.mp q).1
theorem xWk.kept {E : XE} {e : va_E} {H H1 : Heap} {a : Nat} (h : xWk E e H a) (hq : H1[a]? = H[a]?) : xWk E e H1 a := by
  unfold xWk at h ⊢
  split
  · obtain ⟨cell, q, r⟩ := h
    exact ⟨cell, hq.trans q, r⟩
  · obtain ⟨cell, q, r⟩ := h
    exact ⟨cell, hq.trans q, r⟩
/-- the world behind a step: what is only read stays as it was -/
theorem okX_to {E : XE} {A : Nat → Prop} {S S' : XS} {H0 H H1 : Heap} {locs locs1 : List Loc} (hA : ∀ q : Nat, H0.size ≤ q → A q) (h : okXA E A S H) (hS : va_S A H0 H locs) (hS1 : va_S A H0 H1 locs1)
    (hst : ∀ a n : Nat, xKD S' a = some n → xRO S' a = false → va_at (xe_D E) vwX (a, xCell E S' a n) H1)
    (hro : ∀ a n : Nat, xKD S' a = some n → xRO S' a = true → xKD S a = some n ∧ xRO S a = true ∧ xCell E S' a n = xCell E S a n)
    (hcl : xClean S') (hr : xRO S' = xRO S) (hT : xST S' = xST S) (hAA : ∀ a n : Nat, xKD S' a = some n → xRO S' a = false → A a) : okXA E A S' H1 := by
  refine ⟨hst, fun a n hk hr' => ?_, hcl, hAA, by rw [hr]; exact h.2.2.2.2.1, by rw [hr]; exact h.2.2.2.2.2.1, by rw [hT]; exact h.2.2.2.2.2.2⟩
  obtain ⟨h1, h2, h3⟩ := hro a n hk hr'
  obtain ⟨w1, w2⟩ := h.2.1 a n h1 h2
  have hnA : ¬ A a := h.2.2.2.2.1 a h2
  have hlt : a < H0.size := Nat.lt_of_not_le (fun z => hnA (hA a z))
  rw [h3]
  exact ⟨w1.kept ((hS1.2.1 a hlt hnA).trans (hS.2.1 a hlt hnA).symm), w2⟩
/-- one cell is changed -/
theorem okX_set {E : XE} {A : Nat → Prop} {S S' : XS} {H0 H H1 : Heap} {locs locs1 : List Loc} {a n q0 : Nat} {e' : va_E} (hA : ∀ q : Nat, H0.size ≤ q → A q) (h : okXA E A S H) (hS : va_S A H0 H locs) (hS1 : va_S A H0 H1 locs1)
    (hn : xKD S a = some n) (hro : xRO S a = false) (hq : (xLs E S H.size)[q0]? = some (a, xCell E S a n)) (hP : va_P (xe_D E) vwX ((xLs E S H.size).set q0 (a, e')) H1)
    (hk : xKD S' = xKD S) (hr : xRO S' = xRO S) (hT : xST S' = xST S) (hcl : xClean S') (ha : xCell E S' a n = e') (hb : ∀ b m : Nat, b ≠ a → xKD S b = some m → xCell E S' b m = xCell E S b m) : okXA E A S' H1 := by
  refine okX_to hA h hS hS1 (fun b m hkb hrb => ?_) (fun b m hkb hrb => ?_) hcl hr hT (fun b m hkb hrb => ?_)
  · rw [hk] at hkb
    rw [hr] at hrb
    by_cases e : b = a
    · subst e
      have : m = n := Option.some.inj (hkb.symm.trans hn)
      subst this
      rw [ha]
      refine hP q0 _ ?_
      rw [List.getElem?_set, if_pos rfl, if_pos (List.getElem?_eq_some_iff.mp hq).1]
    · rw [hb b m e hkb]
      obtain ⟨j, hj⟩ := xLs_at (E := E) (okX_lt h hkb) hkb hrb
      refine hP j _ ?_
      have hne : q0 ≠ j := by
        intro z
        subst z
        rw [hq] at hj
        exact e (congrArg Prod.fst (Option.some.inj hj)).symm
      rw [List.getElem?_set, if_neg hne]
      exact hj
  · rw [hk] at hkb
    rw [hr] at hrb
    have e : b ≠ a := by
      intro z
      subst z
      rw [hro] at hrb
      cases hrb
    exact ⟨hkb, hrb, hb b m e hkb⟩
  · rw [hk] at hkb
    rw [hr] at hrb
    exact h.2.2.2.1 b m hkb hrb
/-- one cell is made -/
theorem okX_push2 {E : XE} {A : Nat → Prop} {S S' : XS} {H0 H H1 : Heap} {locs locs1 : List Loc} {a n : Nat} {e' : va_E} (hA : ∀ q : Nat, H0.size ≤ q → A q) (h : okXA E A S H) (hS : va_S A H0 H locs) (hS1 : va_S A H0 H1 locs1)
    (hP : va_P (xe_D E) vwX (xLs E S H.size ++ [(a, e')]) H1) (hD : va_D A (xLs E S H.size ++ [(a, e')]))
    (hk : ∀ b, xKD S' b = if b = a then some n else xKD S b) (hr : xRO S' = xRO S) (hT : xST S' = xST S) (hF : ∀ f b, xFI S' f b = xFI S f b) (hFR : ∀ f b, xFR S' f b = xFR S f b) (hI : ∀ b, b ≠ a → xAI S' b = xAI S b) (hR : ∀ b, xAR S' b = xAR S b) (ha : xKD S a = none → xCell E S' a n = e') (hb : ∀ b m : Nat, b ≠ a → xKD S b = some m → xCell E S' b m = xCell E S b m) : okXA E A S' H1 ∧ xKD S a = none := by
  have hlast : (xLs E S H.size ++ [(a, e')])[(xLs E S H.size).length]? = some (a, e') := by simp
  have hAa : A a := hD.2 _ _ hlast
  have hnew : xKD S a = none := by
    cases hx : xKD S a with
    | none => rfl
    | some m =>
      exfalso
      have hro : xRO S a = false := by
        cases hz : xRO S a with
        | false => rfl
        | true => exact absurd hAa (h.2.2.2.2.1 a hz)
      obtain ⟨j, hj⟩ := xLs_at (E := E) (okX_lt h hx) hx hro
      have hjl := (List.getElem?_eq_some_iff.mp hj).1
      have := hD.1 j (xLs E S H.size).length (a, xCell E S a m) (a, e') (by rw [List.getElem?_append_left hjl]; exact hj) hlast rfl
      omega
  have hcl0 := h.2.2.1 a hnew
  refine ⟨okX_to hA h hS hS1 (fun b m hkb hrb => ?_) (fun b m hkb hrb => ?_) (fun b hkb => ?_) hr hT (fun b m hkb hrb => ?_), hnew⟩
  · rw [hk b] at hkb
    rw [hr] at hrb
    by_cases e : b = a
    · subst e
      rw [if_pos rfl] at hkb
      cases hkb
      rw [ha hnew]
      exact hP _ _ hlast
    · rw [if_neg e] at hkb
      rw [hb b m e hkb]
      obtain ⟨j, hj⟩ := xLs_at (E := E) (okX_lt h hkb) hkb hrb
      refine hP j _ ?_
      rw [List.getElem?_append_left (List.getElem?_eq_some_iff.mp hj).1]
      exact hj
  · rw [hk b] at hkb
    rw [hr] at hrb
    have e : b ≠ a := by
      intro z
      subst z
      rw [hcl0.2.2.2.2] at hrb
      cases hrb
    rw [if_neg e] at hkb
    exact ⟨hkb, hrb, hb b m e hkb⟩
  · rw [hk b] at hkb
    have e : b ≠ a := by
      intro z
      subst z
      rw [if_pos rfl] at hkb
      cases hkb
    rw [if_neg e] at hkb
    have hc := h.2.2.1 b hkb
    exact ⟨fun f => (hF f b).trans (hc.1 f), fun f => (hFR f b).trans (hc.2.1 f), fun i => by rw [hI b e]; exact hc.2.2.1 i, fun i => by rw [hR]; exact hc.2.2.2.1 i, by rw [hr]; exact hc.2.2.2.2⟩
  · rw [hk b] at hkb
    rw [hr] at hrb
    by_cases e : b = a
    · subst e
      exact hAa
    · rw [if_neg e] at hkb
      exact h.2.2.2.1 b m hkb hrb
theorem okX_push {E : XE} {A : Nat → Prop} {S S' : XS} {H0 H H1 : Heap} {locs locs1 : List Loc} {a n : Nat} {e' : va_E} (hA : ∀ q : Nat, H0.size ≤ q → A q) (h : okXA E A S H) (hS : va_S A H0 H locs) (hS1 : va_S A H0 H1 locs1)
    (hP : va_P (xe_D E) vwX (xLs E S H.size ++ [(a, e')]) H1) (hD : va_D A (xLs E S H.size ++ [(a, e')]))
    (hk : ∀ b, xKD S' b = if b = a then some n else xKD S b) (hr : xRO S' = xRO S) (hT : xST S' = xST S) (hF : ∀ f b, xFI S' f b = xFI S f b) (hFR : ∀ f b, xFR S' f b = xFR S f b) (hI : ∀ b, xAI S' b = xAI S b) (hR : ∀ b, xAR S' b = xAR S b) (ha : xKD S a = none → xCell E S' a n = e') (hb : ∀ b m : Nat, b ≠ a → xKD S b = some m → xCell E S' b m = xCell E S b m) : okXA E A S' H1 ∧ xKD S a = none :=
  okX_push2 hA h hS hS1 hP hD hk hr hT hF hFR (fun b _ => hI b) hR ha hb
/-! ===== cells behind the changes ===== -/
theorem xCell_o {E : XE} {S : XS} {a n : Nat} (h : n < 100) : xCell E S a n = .inr (n, xfl S n a) := if_pos h
theorem xCell_a {E : XE} {S : XS} {a n : Nat} (h : 100 ≤ n) : xCell E S a n = .inl (xe_c E (n - 100), xAc S a n) := if_neg (Nat.not_lt.mpr h)
theorem xCell_cong {E : XE} {S S' : XS} {b m : Nat} (hF : ∀ f, xFI S' f b = xFI S f b) (hR : ∀ f, xFR S' f b = xFR S f b) (hI : xAI S' b = xAI S b) (hAR : xAR S' b = xAR S b) (hL : xLN S' b = xLN S b) : xCell E S' b m = xCell E S b m := by
  have e1 : xfl S' m b = xfl S m b := by
    refine List.map_congr_left (fun q _ => ?_)
    unfold xFv
    rw [hF, hR]
  unfold xCell xAc
  rw [e1, hI, hAR, hL]
theorem xTab_nd : ∀ n : Fin 19, ∀ i : Fin 15, ∀ j : Fin 15, ((xTab.getD n.val [])[i.val]?).map Prod.fst = ((xTab.getD n.val [])[j.val]?).map Prod.fst → ((xTab.getD n.val [])[i.val]?).isSome = true → i = j := by decide +kernel
theorem xTab_len : ∀ n : Fin 19, (xTab.getD n.val []).length ≤ 15 := by decide +kernel
theorem xTab_ij {n i j f : Nat} {p q : Bool} (hn : n < 19) (h1 : (xTab.getD n [])[i]? = some (f, p)) (h2 : (xTab.getD n [])[j]? = some (f, q)) : i = j := by
  have l := xTab_len ⟨n, hn⟩
  have a : i < 15 := Nat.lt_of_lt_of_le (List.getElem?_eq_some_iff.mp h1).1 l
  have b : j < 15 := Nat.lt_of_lt_of_le (List.getElem?_eq_some_iff.mp h2).1 l
  have := xTab_nd ⟨n, hn⟩ ⟨i, a⟩ ⟨j, b⟩ (by rw [h1, h2]; rfl) (by rw [h1]; rfl)
  exact congrArg Fin.val this
theorem xfl_setI {S : XS} {n k f a : Nat} {v : Int32} (hn : n < 19) (hk : (xTab.getD n [])[k]? = some (f, false)) : xfl (sFI S f a v) n a = (xfl S n a).set k (.int v) := by
  unfold xfl
  refine List.ext_getElem? (fun j => ?_)
  rw [List.getElem?_set, List.getElem?_map, List.getElem?_map]
  by_cases hj : k = j
  · subst hj
    rw [if_pos rfl, if_pos (by rw [List.length_map]; exact (List.getElem?_eq_some_iff.mp hk).1), hk]
    simp [xFv, xFI, sFI]
  · rw [if_neg hj]
    cases hx : (xTab.getD n [])[j]? with
    | none => rfl
    | some q =>
      obtain ⟨g, b⟩ := q
      have hg : g ≠ f := fun e => hj (xTab_ij hn hk (e ▸ hx))
      simp [xFv, xFI, xFR, sFI, hg]
theorem xfl_setR {S : XS} {n k f a : Nat} {r : Option Nat} (hn : n < 19) (hk : (xTab.getD n [])[k]? = some (f, true)) : xfl (sFR S f a r) n a = (xfl S n a).set k (va_rf r) := by
  unfold xfl
  refine List.ext_getElem? (fun j => ?_)
  rw [List.getElem?_set, List.getElem?_map, List.getElem?_map]
  by_cases hj : k = j
  · subst hj
    rw [if_pos rfl, if_pos (by rw [List.length_map]; exact (List.getElem?_eq_some_iff.mp hk).1), hk]
    simp [xFv, xFR, sFR]
  · rw [if_neg hj]
    cases hx : (xTab.getD n [])[j]? with
    | none => rfl
    | some q =>
      obtain ⟨g, b⟩ := q
      have hg : g ≠ f := fun e => hj (xTab_ij hn hk (e ▸ hx))
      simp [xFv, xFI, xFR, sFR, hg]
theorem xfl_get {S : XS} {n k a : Nat} {q : Nat × Bool} (hk : (xTab.getD n [])[k]? = some q) : (xfl S n a)[k]? = some (xFv S a q) := by
  unfold xfl
  rw [List.getElem?_map, hk]
  rfl
theorem sFI_clean {S : XS} {f a n : Nat} {v : Int32} (h : xClean S) (ha : xKD S a = some n) : xClean (sFI S f a v) := by
  intro b hb
  have hne : b ≠ a := fun e => by subst e; have h1 : xKD S b = none := hb; rw [ha] at h1; cases h1
  have hc := h b hb
  refine ⟨fun g => ?_, hc.2⟩
  show (if g = f ∧ b = a then v else xFI S g b) = 0
  rw [if_neg (fun q => hne q.2)]
  exact hc.1 g
theorem sFR_clean {S : XS} {f a n : Nat} {v : Option Nat} (h : xClean S) (ha : xKD S a = some n) : xClean (sFR S f a v) := by
  intro b hb
  have hne : b ≠ a := fun e => by subst e; have h1 : xKD S b = none := hb; rw [ha] at h1; cases h1
  have hc := h b hb
  refine ⟨hc.1, fun g => ?_, hc.2.2⟩
  show (if g = f ∧ b = a then v else xFR S g b) = none
  rw [if_neg (fun q => hne q.2)]
  exact hc.2.1 g
theorem sAIf_clean {S : XS} {a n : Nat} {g : Nat → Int32} (h : xClean S) (ha : xKD S a = some n) : xClean (sAIf S a g) := by
  intro b hb
  have hne : b ≠ a := fun e => by subst e; have h1 : xKD S b = none := hb; rw [ha] at h1; cases h1
  have hc := h b hb
  refine ⟨hc.1, hc.2.1, fun i => ?_, hc.2.2.2⟩
  show (if b = a then g else xAI S b) i = 0
  rw [if_neg hne]
  exact hc.2.2.1 i
theorem sARf_clean {S : XS} {a n : Nat} {g : Nat → Option Nat} (h : xClean S) (ha : xKD S a = some n) : xClean (sARf S a g) := by
  intro b hb
  have hne : b ≠ a := fun e => by subst e; have h1 : xKD S b = none := hb; rw [ha] at h1; cases h1
  have hc := h b hb
  refine ⟨hc.1, hc.2.1, hc.2.2.1, fun i => ?_, hc.2.2.2.2⟩
  show (if b = a then g else xAR S b) i = none
  rw [if_neg hne]
  exact hc.2.2.2.1 i
theorem sFI_oth {E : XE} {S : XS} {f a b m : Nat} {v : Int32} (h : b ≠ a) : xCell E (sFI S f a v) b m = xCell E S b m :=
  xCell_cong (fun g => if_neg (fun q => h q.2)) (fun _ => rfl) rfl rfl rfl
theorem sFR_oth {E : XE} {S : XS} {f a b m : Nat} {v : Option Nat} (h : b ≠ a) : xCell E (sFR S f a v) b m = xCell E S b m :=
  xCell_cong (fun _ => rfl) (fun g => if_neg (fun q => h q.2)) rfl rfl rfl
theorem sAIf_oth {E : XE} {S : XS} {a b m : Nat} {g : Nat → Int32} (h : b ≠ a) : xCell E (sAIf S a g) b m = xCell E S b m :=
  xCell_cong (fun _ => rfl) (fun _ => rfl) (if_neg h) rfl rfl
theorem sARf_oth {E : XE} {S : XS} {a b m : Nat} {g : Nat → Option Nat} (h : b ≠ a) : xCell E (sARf S a g) b m = xCell E S b m :=
  xCell_cong (fun _ => rfl) (fun _ => rfl) rfl (if_neg h) rfl
theorem xTys_get {E : XE} {k : Nat} (h : k < 7) : (xTys E)[k]? = some (xe_c E k, xTy k) := by
  unfold xTys
  rw [List.getElem?_map, List.getElem?_range h]
  rfl
/-- an array's cell, old or ours -/
theorem x_arr {E : XE} {A : Nat → Prop} {S : XS} {s : State} {H : Heap} {a n : Nat} (hK : KX E s) (h : okXA E A S H) (hk : xKD S a = some n) (h1 : 100 ≤ n) (h2 : n < 107) : ∃ cell : Cell, H[a]? = some cell ∧ s.isArrayOf cell (xTy (n - 100)) ∧ cell.vm ≠ .unknown ∧ xLN S a ≤ cell.slots.size ∧ cell.slots.size.toInt32 = Int32.ofNat (xLN S a) ∧ ∀ j : Nat, j < xLN S a → cell.slots[j]? = some (if xIsR n = true then va_rf (xAR S a j) else .int (xAI S a j)) := by
  have hT := (hK.1.2 (n - 100) _ (xTys_get (by omega))).1
  have hsl : ∀ j : Nat, j < xLN S a → (vp_cell (xe_c E (n - 100)) (xAc S a n)).slots[j]? = some (if xIsR n = true then va_rf (xAR S a j) else .int (xAI S a j)) := by
    intro j hj
    unfold xAc
    cases hx : xIsR n with
    | true =>
      simp only [if_pos rfl, if_true]
      rw [vp_cell_q, arrV_read _ _ hj]
    | false =>
      simp only [Bool.false_eq_true, if_false]
      rw [vp_cell_i, arrV_read _ _ hj]
  have hsz : (vp_cell (xe_c E (n - 100)) (xAc S a n)).slots.size = xLN S a := by
    unfold xAc
    cases hx : xIsR n with
    | true =>
      simp only [if_true]
      rw [vp_cell_q, arrV_size]
    | false =>
      simp only [Bool.false_eq_true, if_false]
      rw [vp_cell_i, arrV_size]
  cases hr : xRO S a with
  | false =>
    have hat := h.1 a n hk hr
    rw [xCell_a h1] at hat
    refine ⟨_, hat, ?_, ?_, by rw [hsz]; exact Nat.le_refl _, by rw [hsz], hsl⟩
    · show s.isArrayOf (vp_cell _ _) _
      unfold xAc
      cases hx : xIsR n with
      | true => exact hT _ _
      | false => exact hT _ _
    · unfold xAc
      cases hx : xIsR n with
      | true => exact fun q => by cases q
      | false => exact fun q => by cases q
  | true =>
    have hw := (h.2.1 a n hk hr).1
    rw [xCell_a h1] at hw
    obtain ⟨cell, q1, q2, q3, q4, q5, q6, q7⟩ := hw
    refine ⟨cell, q1, ⟨q3, ?_⟩, q4, q5, q6, fun j hj => (q7 j hj).trans (hsl j hj)⟩
    rw [q2]
    exact (hT 0 (fun _ => .null)).2
theorem xRO_not {E : XE} {A : Nat → Prop} {S : XS} {H : Heap} {a n : Nat} (h : okXA E A S H) (hk : xKD S a = some n) (hn : ¬ xROk n) : xRO S a = false := by
  cases hr : xRO S a with
  | false => rfl
  | true => exact absurd (h.2.1 a n hk hr).2 hn
theorem okX_own {E : XE} {A : Nat → Prop} {S : XS} {H : Heap} {sz : Nat} (h : okXA E A S H) (hA : ∀ q : Nat, sz ≤ q → A q) (hH : sz ≤ H.size) : okXA E (xA S H.size) S H := by
  refine ⟨h.1, h.2.1, h.2.2.1, fun a n hk hr => Or.inl ⟨(by rw [hk]; exact fun z => by cases z), hr⟩, fun a hr z => ?_, h.2.2.2.2.2⟩
  rcases z with z | z
  · rw [hr] at z
    cases z.2
  · exact h.2.2.2.2.1 a hr (hA a (Nat.le_trans hH z))
theorem okX_back {E : XE} {A : Nat → Prop} {S S1 : XS} {H H1 : Heap} {sz : Nat} (h : okXA E A S H) (hA : ∀ q : Nat, sz ≤ q → A q) (hH : sz ≤ H.size) (h1 : okXA E (xA S H.size) S1 H1) : okXA E A S1 H1 := by
  refine ⟨h1.1, h1.2.1, h1.2.2.1, fun a n hk hr => ?_, fun a hr => ?_, h1.2.2.2.2.2⟩
  · rcases h1.2.2.2.1 a n hk hr with z | z
    · cases hx : xKD S a with
      | none => exact absurd hx z.1
      | some m => exact h.2.2.2.1 a m hx z.2
    · exact hA a (Nat.le_trans hH z)
  · rw [h1.2.2.2.2.2.1, ← h.2.2.2.2.2.1] at hr
    exact h.2.2.2.2.1 a hr
theorem okX_Asub {E : XE} {A : Nat → Prop} {S : XS} {H : Heap} {sz : Nat} (h : okXA E A S H) (hA : ∀ q : Nat, sz ≤ q → A q) (hH : sz ≤ H.size) : ∀ q : Nat, xA S H.size q → A q := by
  intro q z
  rcases z with z | z
  · cases hx : xKD S q with
    | none => exact absurd hx z.1
    | some m => exact h.2.2.2.1 q m hx z.2
  · exact hA q (Nat.le_trans hH z)
theorem va_Z.sub {cl n d : String} {v : Value} {A A' : Nat → Prop} {s U : State} {H : Heap} {locs : List Loc} (hZ : va_Z cl n d v A s s.heap) (hS : va_S A s.heap H locs) (hA : ∀ q, q < s.heap.size → A' q → A q) (hvm : s.vm.Alike U.vm) (hU : U.heap = H) : va_Z cl n d v A' U U.heap := by
  refine va_Z.moved hvm ?_
  obtain ⟨cf, kf, fi, f, a, cell, h1, h2, h3, h4, h5, h6, h7, h8⟩ := hZ
  have hlt : a < s.heap.size := (Array.getElem?_eq_some_iff.mp h5).1
  exact ⟨cf, kf, fi, f, a, cell, h1, h2, h3, h4, by rw [hU, hS.2.1 a hlt h8]; exact h5, h6, h7, fun z => h8 (hA a hlt z)⟩
theorem ZX.sub {E : XE} {A A' : Nat → Prop} {s U : State} {H : Heap} {locs : List Loc} (hZ : ZX E A s s.heap) (hS : va_S A s.heap H locs) (hA : ∀ q, q < s.heap.size → A' q → A q) (hvm : s.vm.Alike U.vm) (hU : U.heap = H) : ZX E A' U U.heap :=
  ⟨fun t ht => va_Z.sub (hZ.1 t ht) hS hA hvm hU, fun t ht => va_Z.sub (hZ.2.1 t ht) hS hA hvm hU, fun t ht => by
    refine vx_L.moved hvm ?_
    obtain ⟨c, k, i, f, a, cell, h1, h2, h3, h4, h5, h6, h7, h8, h9, h10⟩ := hZ.2.2 t ht
    have hlt : a < s.heap.size := (Array.getElem?_eq_some_iff.mp h5).1
    exact ⟨c, k, i, f, a, cell, h1, h2, h3, h4, by rw [hU, hS.2.1 a hlt h10]; exact h5, h6, h7, h8, h9, fun z => h10 (hA a hlt z)⟩⟩
