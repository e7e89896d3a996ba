/-! THE PACKAGED GOAL: Gw ok C w mc ms pc L st: whatever heap holds the world w, with mc cells and ms slots left to make, the walk from pc with the locals L and the stack st comes to its end. C: what stays the same all through a method's walk. -/
abbrev Cx : Type := Program × Launch × Env × Room × State × MethodId × (Array Value) × (List Frame) × Method × Code × (Nat → Prop) × (State → Prop) × Nat × Nat × Nat
abbrev cx_p (C : Cx) : Program := C.1
abbrev cx_l (C : Cx) : Launch := C.2.1
abbrev cx_e (C : Cx) : Env := C.2.2.1
abbrev cx_R (C : Cx) : Room := C.2.2.2.1
abbrev cx_s (C : Cx) : State := C.2.2.2.2.1
abbrev cx_m (C : Cx) : MethodId := C.2.2.2.2.2.1
abbrev cx_a (C : Cx) : Array Value := C.2.2.2.2.2.2.1
abbrev cx_b (C : Cx) : List Frame := C.2.2.2.2.2.2.2.1
abbrev cx_h (C : Cx) : Method := C.2.2.2.2.2.2.2.2.1
abbrev cx_c (C : Cx) : Code := C.2.2.2.2.2.2.2.2.2.1
abbrev cx_A (C : Cx) : Nat → Prop := C.2.2.2.2.2.2.2.2.2.2.1
abbrev cx_Q (C : Cx) : State → Prop := C.2.2.2.2.2.2.2.2.2.2.2.1
abbrev cx_nL (C : Cx) : Nat := C.2.2.2.2.2.2.2.2.2.2.2.2.1
abbrev cx_MC (C : Cx) : Nat := C.2.2.2.2.2.2.2.2.2.2.2.2.2.1
abbrev cx_MS (C : Cx) : Nat := C.2.2.2.2.2.2.2.2.2.2.2.2.2.2
/-- the locals by their places; none: nothing is said of it -/
def lx_has (ls : Array Slot) (nL : Nat) (L : List (Option Value)) : Prop := ls.size = nL ∧ lv_wf ls ∧ ∀ (i : Nat) (v : Value), L[i]? = some (some v) → ls[i]? = some (.val v)
def lx_pairs (L : List (Option Value)) : List (Nat × Value) := (List.range L.length).filterMap (fun i => match L[i]? with | some (some v) => some (i, v) | _ => none)
theorem lx_pairs_mem {L : List (Option Value)} {q : Nat × Value} : q ∈ lx_pairs L ↔ L[q.1]? = some (some q.2) := by
  unfold lx_pairs
  rw [List.mem_filterMap]
  constructor
  · rintro ⟨i, -, h⟩
    cases hi : L[i]? with
    | none => rw [hi] at h; cases h
    | some o =>
      cases o with
      | none => rw [hi] at h; cases h
      | some v => rw [hi] at h; cases h; exact hi
  · intro h
    exact ⟨q.1, List.mem_range.mpr (List.getElem?_eq_some_iff.mp h).1, by rw [h]⟩
theorem lx_of {ls : Array Slot} {nL : Nat} {L : List (Option Value)} {l : List (Nat × Value)} (h : lv_has ls nL l) (hl : ∀ q ∈ lx_pairs L, q ∈ l) : lx_has ls nL L :=
  ⟨h.1, h.2.1, fun i v hi => h.2.2 (i, v) (hl _ (lx_pairs_mem.mpr hi))⟩
theorem lx_to {ls : Array Slot} {nL : Nat} {L : List (Option Value)} (h : lx_has ls nL L) : lv_has ls nL (lx_pairs L) :=
  ⟨h.1, h.2.1, fun q hq => h.2.2 q.1 q.2 (lx_pairs_mem.mp hq)⟩
theorem lx_at {ls : Array Slot} {nL : Nat} {L : List (Option Value)} (h : lx_has ls nL L) {i : Nat} {v : Value} (hk : L[i]? = some (some v)) : ls[i]? = some (.val v) := h.2.2 i v hk
/-- no long stands right before the place i -/
def lx_ok1 (L : List (Option Value)) (i : Nat) : Bool := match i with
  | 0 => true
  | j + 1 => match L[j]? with
    | some (some w) => w.category != 2
    | _ => true
theorem lx_ok1_spec {L : List (Option Value)} {i j : Nat} {w : Value} (h : lx_ok1 L i = true) (hj : j + 1 = i) (hw : L[j]? = some (some w)) : ¬ w.category = 2 := by
  subst hj
  simp only [lx_ok1, hw, bne_iff_ne, ne_eq] at h
  exact h
theorem lx_set1 {ls ls' : Array Slot} {nL i : Nat} {v : Value} {L : List (Option Value)} (h : lv_has ls' nL ((i, v) :: (lx_pairs L).filter (fun q => !(q.1 == i) && !(q.1 + 1 == i && q.2.category == 2)))) (hk : lx_ok1 L i = true) : lx_has ls' nL (L.set i (some v)) := by
  refine ⟨h.1, h.2.1, fun j w hj => ?_⟩
  rw [List.getElem?_set] at hj
  by_cases e : i = j
  · subst e
    rw [if_pos rfl] at hj
    split at hj
    · cases hj
      exact h.2.2 (i, v) List.mem_cons_self
    · cases hj
  · rw [if_neg e] at hj
    refine h.2.2 (j, w) (List.mem_cons_of_mem _ (List.mem_filter.mpr ⟨lx_pairs_mem.mpr hj, ?_⟩))
    have e2 : ¬ (j + 1 = i ∧ w.category = 2) := fun q => lx_ok1_spec hk q.1 hj q.2
    have e3 : ¬ j = i := fun q => e q.symm
    simp only [Bool.and_eq_true, Bool.not_eq_true', beq_eq_false_iff_ne, ne_eq, Bool.and_eq_false_iff]
    refine ⟨e3, ?_⟩
    by_cases x : j + 1 = i
    · exact Or.inr (fun y => e2 ⟨x, y⟩)
    · exact Or.inl x
theorem lx_set2 {ls ls' : Array Slot} {nL i : Nat} {v : Value} {L : List (Option Value)} (h : lv_has ls' nL ((i, v) :: (lx_pairs L).filter (fun q => !(q.1 == i) && (!(q.1 == i + 1) && !(q.1 + 1 == i && q.2.category == 2))))) (hk : lx_ok1 L i = true) : lx_has ls' nL ((L.set i (some v)).set (i + 1) none) := by
  refine ⟨h.1, h.2.1, fun j w hj => ?_⟩
  rw [List.getElem?_set, List.getElem?_set] at hj
  by_cases e0 : i + 1 = j
  · rw [if_pos e0] at hj
    split at hj <;> cases hj
  rw [if_neg e0] at hj
  by_cases e : i = j
  · subst e
    rw [if_pos rfl] at hj
    split at hj
    · cases hj
      exact h.2.2 (i, v) List.mem_cons_self
    · cases hj
  · rw [if_neg e] at hj
    refine h.2.2 (j, w) (List.mem_cons_of_mem _ (List.mem_filter.mpr ⟨lx_pairs_mem.mpr hj, ?_⟩))
    have e2 : ¬ (j + 1 = i ∧ w.category = 2) := fun q => lx_ok1_spec hk q.1 hj q.2
    have e3 : ¬ j = i := fun q => e q.symm
    have e4 : ¬ j = i + 1 := fun q => e0 q.symm
    simp only [Bool.and_eq_true, Bool.not_eq_true', beq_eq_false_iff_ne, ne_eq, Bool.and_eq_false_iff]
    refine ⟨e3, e4, ?_⟩
    by_cases x : j + 1 = i
    · exact Or.inr (fun y => e2 ⟨x, y⟩)
    · exact Or.inl x
def lx_mask : List Bool → List (Option Value) → List (Option Value)
  | true :: bs, v :: L => v :: lx_mask bs L
  | false :: bs, _ :: L => none :: lx_mask bs L
  | _, _ => []
theorem lx_mask_spec : ∀ (bs : List Bool) (L : List (Option Value)) (i : Nat) (v : Value), (lx_mask bs L)[i]? = some (some v) → L[i]? = some (some v)
  | [], _, _, _, h => by simp [lx_mask] at h
  | true :: _, [], _, _, h => by simp [lx_mask] at h
  | false :: _, [], _, _, h => by simp [lx_mask] at h
  | true :: bs, x :: L, 0, v, h => h
  | true :: bs, x :: L, i + 1, v, h => lx_mask_spec bs L i v h
  | false :: bs, x :: L, 0, v, h => by simp [lx_mask] at h
  | false :: bs, x :: L, i + 1, v, h => lx_mask_spec bs L i v h
def Gw {ω : Type} (ok : ω → Heap → Prop) (C : Cx) (w : ω) (mc ms pc : Nat) (L : List (Option Value)) (st : List Value) : Prop :=
  ∀ (H : Heap) (locs : List Loc) (cells slots : Nat) (ls : Array Slot), ok w H → va_S (cx_A C) (cx_s C).heap H locs → cells + mc ≤ cx_MC C → slots + ms ≤ cx_MS C → lx_has ls (cx_nL C) L → W (cx_p C) (cx_l C) (cx_e C) (cx_R C) (cx_s C) (cx_m C) (cx_a C) (cx_b C) (cx_h C) (cx_c C) H locs cells slots (cx_Q C) (F0 (cx_m C) pc ls st)
/-- what a walk knows of its method: code cc, owner own, answer ret, the room's frames rf and locals rl -/
def COk (C : Cx) (cc : ByteArray) (own : String) (ret : Option FieldType) (rf rl nL : Nat) : Prop :=
  (cx_p C).tables.exec = Jvm.exec ∧ (cx_c C).code = cc ∧ (cx_h C).sig.returnType = ret ∧ (cx_h C).locks = false ∧ (cx_c C).maxLocals = cx_nL C ∧ (cx_s C).vm.findClass own = some (cx_m C).cls ∧ (∀ w ∈ lw_all, w.before (cx_a C) (cx_s C) = true) ∧ (cx_R C).frames = rf ∧ (cx_R C).locals = rl ∧ (cx_R C).cells = cx_MC C ∧ (cx_R C).slots = cx_MS C ∧ cx_nL C = nL
theorem it_p {c A B : Prop} [Decidable c] (hc : c) (h : if c then A else B) : A := by rw [if_pos hc] at h; exact h
theorem it_n {c A B : Prop} [Decidable c] (hc : ¬ c) (h : if c then A else B) : B := by rw [if_neg hc] at h; exact h
section GW
variable {ω : Type} {ok : ω → Heap → Prop} {C : Cx} {w : ω} {mc ms pc : Nat} {L : List (Option Value)} {st : List Value} {cc : ByteArray} {own : String} {ret : Option FieldType} {rf rl nL : Nat}

theorem g_iconst (hC : COk C cc own ret rf rl nL) {n : Int} {v : Int32} (d : decode cc pc = .ok (.iconst n, 1)) (hv : Int32.ofInt n = v) (k : Gw ok C w mc ms (pc + 1) L (.int v :: st)) : Gw ok C w mc ms (pc) L st :=
  fun H locs cells slots ls h1 h2 h3 h4 h5 => lv_iconst hC.1 hC.2.1 d hv (k H locs cells slots ls h1 h2 h3 h4 h5)
theorem g_bipush (hC : COk C cc own ret rf rl nL) {n : Int} {v : Int32} (d : decode cc pc = .ok (.bipush n, 2)) (hv : (Int8.ofInt n).toInt32 = v) (k : Gw ok C w mc ms (pc + 2) L (.int v :: st)) : Gw ok C w mc ms (pc) L st :=
  fun H locs cells slots ls h1 h2 h3 h4 h5 => lv_bipush hC.1 hC.2.1 d hv (k H locs cells slots ls h1 h2 h3 h4 h5)
theorem g_sipush (hC : COk C cc own ret rf rl nL) {n : Int} {v : Int32} (d : decode cc pc = .ok (.sipush n, 3)) (hv : (Int16.ofInt n).toInt32 = v) (k : Gw ok C w mc ms (pc + 3) L (.int v :: st)) : Gw ok C w mc ms (pc) L st :=
  fun H locs cells slots ls h1 h2 h3 h4 h5 => lv_sipush hC.1 hC.2.1 d hv (k H locs cells slots ls h1 h2 h3 h4 h5)
theorem g_lconst (hC : COk C cc own ret rf rl nL) {n : Fin 2} {v : Int64} (d : decode cc pc = .ok (.lconst n, 1)) (hv : Int64.ofNat (n : Nat) = v) (k : Gw ok C w mc ms (pc + 1) L (.long v :: st)) : Gw ok C w mc ms (pc) L st :=
  fun H locs cells slots ls h1 h2 h3 h4 h5 => lv_lconst hC.1 hC.2.1 d hv (k H locs cells slots ls h1 h2 h3 h4 h5)
theorem g_null (hC : COk C cc own ret rf rl nL)  (d : decode cc pc = .ok (.aconst_null, 1))  (k : Gw ok C w mc ms (pc + 1) L (.null :: st)) : Gw ok C w mc ms (pc) L st :=
  fun H locs cells slots ls h1 h2 h3 h4 h5 => lv_null hC.1 hC.2.1 d  (k H locs cells slots ls h1 h2 h3 h4 h5)
theorem g_iload_n (hC : COk C cc own ret rf rl nL) {k0 : Fin 4} {x : Int32} (d : decode cc pc = .ok (.iload_n k0, 1)) (hl : L[(k0 : Nat)]? = some (some (.int x))) (k : Gw ok C w mc ms (pc + 1) L (.int x :: st)) : Gw ok C w mc ms (pc) L st :=
  fun H locs cells slots ls h1 h2 h3 h4 h5 => lv_iload_n hC.1 hC.2.1 d rfl (lx_at h5 hl) (k H locs cells slots ls h1 h2 h3 h4 h5)
theorem g_iload (hC : COk C cc own ret rf rl nL) {i : Nat} {x : Int32} (d : decode cc pc = .ok (.iload i, 2)) (hl : L[i]? = some (some (.int x))) (k : Gw ok C w mc ms (pc + 2) L (.int x :: st)) : Gw ok C w mc ms (pc) L st :=
  fun H locs cells slots ls h1 h2 h3 h4 h5 => lv_iload hC.1 hC.2.1 d (lx_at h5 hl) (k H locs cells slots ls h1 h2 h3 h4 h5)
theorem g_lload_n (hC : COk C cc own ret rf rl nL) {k0 : Fin 4} {x : Int64} (d : decode cc pc = .ok (.lload_n k0, 1)) (hl : L[(k0 : Nat)]? = some (some (.long x))) (k : Gw ok C w mc ms (pc + 1) L (.long x :: st)) : Gw ok C w mc ms (pc) L st :=
  fun H locs cells slots ls h1 h2 h3 h4 h5 => lv_lload_n hC.1 hC.2.1 d rfl (lx_at h5 hl) (k H locs cells slots ls h1 h2 h3 h4 h5)
theorem g_lload (hC : COk C cc own ret rf rl nL) {i : Nat} {x : Int64} (d : decode cc pc = .ok (.lload i, 2)) (hl : L[i]? = some (some (.long x))) (k : Gw ok C w mc ms (pc + 2) L (.long x :: st)) : Gw ok C w mc ms (pc) L st :=
  fun H locs cells slots ls h1 h2 h3 h4 h5 => lv_lload hC.1 hC.2.1 d (lx_at h5 hl) (k H locs cells slots ls h1 h2 h3 h4 h5)
theorem g_aload_n (hC : COk C cc own ret rf rl nL) {k0 : Fin 4} {x : Nat} (d : decode cc pc = .ok (.aload_n k0, 1)) (hl : L[(k0 : Nat)]? = some (some (.ref x))) (k : Gw ok C w mc ms (pc + 1) L (.ref x :: st)) : Gw ok C w mc ms (pc) L st :=
  fun H locs cells slots ls h1 h2 h3 h4 h5 => lv_aload_n hC.1 hC.2.1 d rfl (lx_at h5 hl) (k H locs cells slots ls h1 h2 h3 h4 h5)
theorem g_aload (hC : COk C cc own ret rf rl nL) {i : Nat} {x : Nat} (d : decode cc pc = .ok (.aload i, 2)) (hl : L[i]? = some (some (.ref x))) (k : Gw ok C w mc ms (pc + 2) L (.ref x :: st)) : Gw ok C w mc ms (pc) L st :=
  fun H locs cells slots ls h1 h2 h3 h4 h5 => lv_aload hC.1 hC.2.1 d (lx_at h5 hl) (k H locs cells slots ls h1 h2 h3 h4 h5)
theorem g_aload_nN (hC : COk C cc own ret rf rl nL) {k0 : Fin 4} (d : decode cc pc = .ok (.aload_n k0, 1)) (hl : L[(k0 : Nat)]? = some (some .null)) (k : Gw ok C w mc ms (pc + 1) L (.null :: st)) : Gw ok C w mc ms (pc) L st :=
  fun H locs cells slots ls h1 h2 h3 h4 h5 => lv_aload_nN hC.1 hC.2.1 d rfl (lx_at h5 hl) (k H locs cells slots ls h1 h2 h3 h4 h5)
theorem g_aloadN (hC : COk C cc own ret rf rl nL) {i : Nat} (d : decode cc pc = .ok (.aload i, 2)) (hl : L[i]? = some (some .null)) (k : Gw ok C w mc ms (pc + 2) L (.null :: st)) : Gw ok C w mc ms (pc) L st :=
  fun H locs cells slots ls h1 h2 h3 h4 h5 => lv_aloadN hC.1 hC.2.1 d (lx_at h5 hl) (k H locs cells slots ls h1 h2 h3 h4 h5)
/-- less said of the locals -/
theorem g_sub {L' : List (Option Value)} (bs : List Bool) (hl : lx_mask bs L = L') (k : Gw ok C w mc ms pc L' st) : Gw ok C w mc ms pc L st :=
  fun H locs cells slots ls h1 h2 h3 h4 h5 => k H locs cells slots ls h1 h2 h3 h4 ⟨h5.1, h5.2.1, fun i v hi => h5.2.2 i v (lx_mask_spec bs L i v (by rw [hl]; exact hi))⟩
theorem g_istore_n (hC : COk C cc own ret rf rl nL) {k0 : Fin 4} {i : Nat} {x : Int32} {L' : List (Option Value)} (d : decode cc pc = .ok (.istore_n k0, 1)) (hi : (k0 : Nat) = i) (hn : i < nL) (hk : lx_ok1 L i = true) (hl : L.set i (some (Value.int x)) = L') (k : Gw ok C w mc ms (pc + 1) L' st) : Gw ok C w mc ms (pc) L (Value.int x :: st) :=
  fun H locs cells slots ls h1 h2 h3 h4 h5 => lv_istore_n hC.1 hC.2.1 d hi (lx_to h5) (by rw [hC.2.2.2.2.2.2.2.2.2.2.2]; exact hn) rfl (fun ls' h5' => k H locs cells slots ls' h1 h2 h3 h4 (hl ▸ lx_set1 (ls := ls) h5' hk))
theorem g_istore (hC : COk C cc own ret rf rl nL) {i : Nat} {x : Int32} {L' : List (Option Value)} (d : decode cc pc = .ok (.istore i, 2)) (hn : i < nL) (hk : lx_ok1 L i = true) (hl : L.set i (some (Value.int x)) = L') (k : Gw ok C w mc ms (pc + 2) L' st) : Gw ok C w mc ms (pc) L (Value.int x :: st) :=
  fun H locs cells slots ls h1 h2 h3 h4 h5 => lv_istore hC.1 hC.2.1 d (lx_to h5) (by rw [hC.2.2.2.2.2.2.2.2.2.2.2]; exact hn) rfl (fun ls' h5' => k H locs cells slots ls' h1 h2 h3 h4 (hl ▸ lx_set1 (ls := ls) h5' hk))
theorem g_lstore_n (hC : COk C cc own ret rf rl nL) {k0 : Fin 4} {i : Nat} {x : Int64} {L' : List (Option Value)} (d : decode cc pc = .ok (.lstore_n k0, 1)) (hi : (k0 : Nat) = i) (hn : i + 1 < nL) (hk : lx_ok1 L i = true) (hl : (L.set i (some (Value.long x))).set (i + 1) none = L') (k : Gw ok C w mc ms (pc + 1) L' st) : Gw ok C w mc ms (pc) L (Value.long x :: st) :=
  fun H locs cells slots ls h1 h2 h3 h4 h5 => lv_lstore_n hC.1 hC.2.1 d hi (lx_to h5) (by rw [hC.2.2.2.2.2.2.2.2.2.2.2]; exact hn) rfl (fun ls' h5' => k H locs cells slots ls' h1 h2 h3 h4 (hl ▸ lx_set2 (ls := ls) h5' hk))
theorem g_lstore (hC : COk C cc own ret rf rl nL) {i : Nat} {x : Int64} {L' : List (Option Value)} (d : decode cc pc = .ok (.lstore i, 2)) (hn : i + 1 < nL) (hk : lx_ok1 L i = true) (hl : (L.set i (some (Value.long x))).set (i + 1) none = L') (k : Gw ok C w mc ms (pc + 2) L' st) : Gw ok C w mc ms (pc) L (Value.long x :: st) :=
  fun H locs cells slots ls h1 h2 h3 h4 h5 => lv_lstore hC.1 hC.2.1 d (lx_to h5) (by rw [hC.2.2.2.2.2.2.2.2.2.2.2]; exact hn) rfl (fun ls' h5' => k H locs cells slots ls' h1 h2 h3 h4 (hl ▸ lx_set2 (ls := ls) h5' hk))
theorem g_astore_n (hC : COk C cc own ret rf rl nL) {k0 : Fin 4} {i : Nat} {x : Nat} {L' : List (Option Value)} (d : decode cc pc = .ok (.astore_n k0, 1)) (hi : (k0 : Nat) = i) (hn : i < nL) (hk : lx_ok1 L i = true) (hl : L.set i (some (Value.ref x)) = L') (k : Gw ok C w mc ms (pc + 1) L' st) : Gw ok C w mc ms (pc) L (Value.ref x :: st) :=
  fun H locs cells slots ls h1 h2 h3 h4 h5 => lv_astore_n hC.1 hC.2.1 d hi (lx_to h5) (by rw [hC.2.2.2.2.2.2.2.2.2.2.2]; exact hn) rfl (fun ls' h5' => k H locs cells slots ls' h1 h2 h3 h4 (hl ▸ lx_set1 (ls := ls) h5' hk))
theorem g_astore (hC : COk C cc own ret rf rl nL) {i : Nat} {x : Nat} {L' : List (Option Value)} (d : decode cc pc = .ok (.astore i, 2)) (hn : i < nL) (hk : lx_ok1 L i = true) (hl : L.set i (some (Value.ref x)) = L') (k : Gw ok C w mc ms (pc + 2) L' st) : Gw ok C w mc ms (pc) L (Value.ref x :: st) :=
  fun H locs cells slots ls h1 h2 h3 h4 h5 => lv_astore hC.1 hC.2.1 d (lx_to h5) (by rw [hC.2.2.2.2.2.2.2.2.2.2.2]; exact hn) rfl (fun ls' h5' => k H locs cells slots ls' h1 h2 h3 h4 (hl ▸ lx_set1 (ls := ls) h5' hk))
theorem g_astore_nN (hC : COk C cc own ret rf rl nL) {k0 : Fin 4} {i : Nat} {L' : List (Option Value)} (d : decode cc pc = .ok (.astore_n k0, 1)) (hi : (k0 : Nat) = i) (hn : i < nL) (hk : lx_ok1 L i = true) (hl : L.set i (some Value.null) = L') (k : Gw ok C w mc ms (pc + 1) L' st) : Gw ok C w mc ms (pc) L (Value.null :: st) :=
  fun H locs cells slots ls h1 h2 h3 h4 h5 => lv_astore_nN hC.1 hC.2.1 d hi (lx_to h5) (by rw [hC.2.2.2.2.2.2.2.2.2.2.2]; exact hn) rfl (fun ls' h5' => k H locs cells slots ls' h1 h2 h3 h4 (hl ▸ lx_set1 (ls := ls) h5' hk))
theorem g_astoreN (hC : COk C cc own ret rf rl nL) {i : Nat} {L' : List (Option Value)} (d : decode cc pc = .ok (.astore i, 2)) (hn : i < nL) (hk : lx_ok1 L i = true) (hl : L.set i (some Value.null) = L') (k : Gw ok C w mc ms (pc + 2) L' st) : Gw ok C w mc ms (pc) L (Value.null :: st) :=
  fun H locs cells slots ls h1 h2 h3 h4 h5 => lv_astoreN hC.1 hC.2.1 d (lx_to h5) (by rw [hC.2.2.2.2.2.2.2.2.2.2.2]; exact hn) rfl (fun ls' h5' => k H locs cells slots ls' h1 h2 h3 h4 (hl ▸ lx_set1 (ls := ls) h5' hk))
theorem g_iinc (hC : COk C cc own ret rf rl nL) {i : Nat} {n : Int} {x v : Int32} {L' : List (Option Value)} (d : decode cc pc = .ok (.iinc i n, 3)) (hq : L[i]? = some (some (.int x))) (hv : x + Int32.ofInt n = v) (hn : i < nL) (hk : lx_ok1 L i = true) (hl : L.set i (some (Value.int v)) = L') (k : Gw ok C w mc ms (pc + 3) L' st) : Gw ok C w mc ms (pc) L st := by
  intro H locs cells slots ls h1 h2 h3 h4 h5
  obtain ⟨q, hq2⟩ := List.getElem?_of_mem (lx_pairs_mem (q := (i, Value.int x)).mpr hq)
  exact lv_iinc hC.1 hC.2.1 d (lx_to h5) hq2 hv (by rw [hC.2.2.2.2.2.2.2.2.2.2.2]; exact hn) rfl (fun ls' h5' => k H locs cells slots ls' h1 h2 h3 h4 (hl ▸ lx_set1 (ls := ls) h5' hk))
theorem g_iadd (hC : COk C cc own ret rf rl nL) {x y : Int32} (d : decode cc pc = .ok (.iadd, 1))  (k : Gw ok C w mc ms (pc + 1) L (.int (x + y) :: st)) : Gw ok C w mc ms (pc) L (.int y :: .int x :: st) :=
  fun H locs cells slots ls h1 h2 h3 h4 h5 => lv_iadd hC.1 hC.2.1 d  (k H locs cells slots ls h1 h2 h3 h4 h5)
theorem g_isub (hC : COk C cc own ret rf rl nL) {x y : Int32} (d : decode cc pc = .ok (.isub, 1))  (k : Gw ok C w mc ms (pc + 1) L (.int (x - y) :: st)) : Gw ok C w mc ms (pc) L (.int y :: .int x :: st) :=
  fun H locs cells slots ls h1 h2 h3 h4 h5 => lv_isub hC.1 hC.2.1 d  (k H locs cells slots ls h1 h2 h3 h4 h5)
theorem g_imul (hC : COk C cc own ret rf rl nL) {x y : Int32} (d : decode cc pc = .ok (.imul, 1))  (k : Gw ok C w mc ms (pc + 1) L (.int (x * y) :: st)) : Gw ok C w mc ms (pc) L (.int y :: .int x :: st) :=
  fun H locs cells slots ls h1 h2 h3 h4 h5 => lv_imul hC.1 hC.2.1 d  (k H locs cells slots ls h1 h2 h3 h4 h5)
theorem g_iand (hC : COk C cc own ret rf rl nL) {x y : Int32} (d : decode cc pc = .ok (.iand, 1))  (k : Gw ok C w mc ms (pc + 1) L (.int (x &&& y) :: st)) : Gw ok C w mc ms (pc) L (.int y :: .int x :: st) :=
  fun H locs cells slots ls h1 h2 h3 h4 h5 => lv_iand hC.1 hC.2.1 d  (k H locs cells slots ls h1 h2 h3 h4 h5)
theorem g_ior (hC : COk C cc own ret rf rl nL) {x y : Int32} (d : decode cc pc = .ok (.ior, 1))  (k : Gw ok C w mc ms (pc + 1) L (.int (x ||| y) :: st)) : Gw ok C w mc ms (pc) L (.int y :: .int x :: st) :=
  fun H locs cells slots ls h1 h2 h3 h4 h5 => lv_ior hC.1 hC.2.1 d  (k H locs cells slots ls h1 h2 h3 h4 h5)
theorem g_ixor (hC : COk C cc own ret rf rl nL) {x y : Int32} (d : decode cc pc = .ok (.ixor, 1))  (k : Gw ok C w mc ms (pc + 1) L (.int (x ^^^ y) :: st)) : Gw ok C w mc ms (pc) L (.int y :: .int x :: st) :=
  fun H locs cells slots ls h1 h2 h3 h4 h5 => lv_ixor hC.1 hC.2.1 d  (k H locs cells slots ls h1 h2 h3 h4 h5)
theorem g_ishl (hC : COk C cc own ret rf rl nL) {x y : Int32} (d : decode cc pc = .ok (.ishl, 1))  (k : Gw ok C w mc ms (pc + 1) L (.int (x <<< (y &&& 31)) :: st)) : Gw ok C w mc ms (pc) L (.int y :: .int x :: st) :=
  fun H locs cells slots ls h1 h2 h3 h4 h5 => lv_ishl hC.1 hC.2.1 d  (k H locs cells slots ls h1 h2 h3 h4 h5)
theorem g_ishr (hC : COk C cc own ret rf rl nL) {x y : Int32} (d : decode cc pc = .ok (.ishr, 1))  (k : Gw ok C w mc ms (pc + 1) L (.int (x >>> (y &&& 31)) :: st)) : Gw ok C w mc ms (pc) L (.int y :: .int x :: st) :=
  fun H locs cells slots ls h1 h2 h3 h4 h5 => lv_ishr hC.1 hC.2.1 d  (k H locs cells slots ls h1 h2 h3 h4 h5)
theorem g_ladd (hC : COk C cc own ret rf rl nL) {x y : Int64} (d : decode cc pc = .ok (.ladd, 1))  (k : Gw ok C w mc ms (pc + 1) L (.long (x + y) :: st)) : Gw ok C w mc ms (pc) L (.long y :: .long x :: st) :=
  fun H locs cells slots ls h1 h2 h3 h4 h5 => lv_ladd hC.1 hC.2.1 d  (k H locs cells slots ls h1 h2 h3 h4 h5)
theorem g_lsub (hC : COk C cc own ret rf rl nL) {x y : Int64} (d : decode cc pc = .ok (.lsub, 1))  (k : Gw ok C w mc ms (pc + 1) L (.long (x - y) :: st)) : Gw ok C w mc ms (pc) L (.long y :: .long x :: st) :=
  fun H locs cells slots ls h1 h2 h3 h4 h5 => lv_lsub hC.1 hC.2.1 d  (k H locs cells slots ls h1 h2 h3 h4 h5)
theorem g_land (hC : COk C cc own ret rf rl nL) {x y : Int64} (d : decode cc pc = .ok (.land, 1))  (k : Gw ok C w mc ms (pc + 1) L (.long (x &&& y) :: st)) : Gw ok C w mc ms (pc) L (.long y :: .long x :: st) :=
  fun H locs cells slots ls h1 h2 h3 h4 h5 => lv_land hC.1 hC.2.1 d  (k H locs cells slots ls h1 h2 h3 h4 h5)
theorem g_lor (hC : COk C cc own ret rf rl nL) {x y : Int64} (d : decode cc pc = .ok (.lor, 1))  (k : Gw ok C w mc ms (pc + 1) L (.long (x ||| y) :: st)) : Gw ok C w mc ms (pc) L (.long y :: .long x :: st) :=
  fun H locs cells slots ls h1 h2 h3 h4 h5 => lv_lor hC.1 hC.2.1 d  (k H locs cells slots ls h1 h2 h3 h4 h5)
theorem g_idiv (hC : COk C cc own ret rf rl nL) {x y : Int32} (d : decode cc pc = .ok (.idiv, 1)) (hne : ¬ y = 0) (k : Gw ok C w mc ms (pc + 1) L (.int (x / y) :: st)) : Gw ok C w mc ms (pc) L (.int y :: .int x :: st) :=
  fun H locs cells slots ls h1 h2 h3 h4 h5 => lv_idiv hC.1 hC.2.1 d hne (k H locs cells slots ls h1 h2 h3 h4 h5)
theorem g_irem (hC : COk C cc own ret rf rl nL) {x y : Int32} (d : decode cc pc = .ok (.irem, 1)) (hne : ¬ y = 0) (k : Gw ok C w mc ms (pc + 1) L (.int (x - x / y * y) :: st)) : Gw ok C w mc ms (pc) L (.int y :: .int x :: st) :=
  fun H locs cells slots ls h1 h2 h3 h4 h5 => lv_irem hC.1 hC.2.1 d hne (k H locs cells slots ls h1 h2 h3 h4 h5)
theorem g_ineg (hC : COk C cc own ret rf rl nL) {x : Int32} (d : decode cc pc = .ok (.ineg, 1))  (k : Gw ok C w mc ms (pc + 1) L (.int (-x) :: st)) : Gw ok C w mc ms (pc) L (.int x :: st) :=
  fun H locs cells slots ls h1 h2 h3 h4 h5 => lv_ineg hC.1 hC.2.1 d  (k H locs cells slots ls h1 h2 h3 h4 h5)
theorem g_i2l (hC : COk C cc own ret rf rl nL) {x : Int32} (d : decode cc pc = .ok (.i2l, 1))  (k : Gw ok C w mc ms (pc + 1) L (.long x.toInt64 :: st)) : Gw ok C w mc ms (pc) L (.int x :: st) :=
  fun H locs cells slots ls h1 h2 h3 h4 h5 => lv_i2l hC.1 hC.2.1 d rfl (k H locs cells slots ls h1 h2 h3 h4 h5)
theorem g_l2i (hC : COk C cc own ret rf rl nL) {x : Int64} (d : decode cc pc = .ok (.l2i, 1))  (k : Gw ok C w mc ms (pc + 1) L (.int x.toInt32 :: st)) : Gw ok C w mc ms (pc) L (.long x :: st) :=
  fun H locs cells slots ls h1 h2 h3 h4 h5 => lv_l2i hC.1 hC.2.1 d rfl (k H locs cells slots ls h1 h2 h3 h4 h5)
theorem g_i2b (hC : COk C cc own ret rf rl nL) {x : Int32} (d : decode cc pc = .ok (.i2b, 1))  (k : Gw ok C w mc ms (pc + 1) L (.int x.toInt8.toInt32 :: st)) : Gw ok C w mc ms (pc) L (.int x :: st) :=
  fun H locs cells slots ls h1 h2 h3 h4 h5 => lv_i2b hC.1 hC.2.1 d rfl (k H locs cells slots ls h1 h2 h3 h4 h5)
theorem g_i2s (hC : COk C cc own ret rf rl nL) {x : Int32} (d : decode cc pc = .ok (.i2s, 1))  (k : Gw ok C w mc ms (pc + 1) L (.int x.toInt16.toInt32 :: st)) : Gw ok C w mc ms (pc) L (.int x :: st) :=
  fun H locs cells slots ls h1 h2 h3 h4 h5 => lv_i2s hC.1 hC.2.1 d rfl (k H locs cells slots ls h1 h2 h3 h4 h5)
theorem g_i2c (hC : COk C cc own ret rf rl nL) {x : Int32} (d : decode cc pc = .ok (.i2c, 1))  (k : Gw ok C w mc ms (pc + 1) L (.int (x.toUInt32 % 65536).toInt32 :: st)) : Gw ok C w mc ms (pc) L (.int x :: st) :=
  fun H locs cells slots ls h1 h2 h3 h4 h5 => lv_i2c hC.1 hC.2.1 d rfl (k H locs cells slots ls h1 h2 h3 h4 h5)
theorem g_lshl (hC : COk C cc own ret rf rl nL) {x : Int64} {y : Int32} (d : decode cc pc = .ok (.lshl, 1))  (k : Gw ok C w mc ms (pc + 1) L (.long (x <<< (y.toInt64 &&& 63)) :: st)) : Gw ok C w mc ms (pc) L (.int y :: .long x :: st) :=
  fun H locs cells slots ls h1 h2 h3 h4 h5 => lv_lshl hC.1 hC.2.1 d rfl (k H locs cells slots ls h1 h2 h3 h4 h5)
theorem g_lshr (hC : COk C cc own ret rf rl nL) {x : Int64} {y : Int32} (d : decode cc pc = .ok (.lshr, 1))  (k : Gw ok C w mc ms (pc + 1) L (.long (x >>> (y.toInt64 &&& 63)) :: st)) : Gw ok C w mc ms (pc) L (.int y :: .long x :: st) :=
  fun H locs cells slots ls h1 h2 h3 h4 h5 => lv_lshr hC.1 hC.2.1 d rfl (k H locs cells slots ls h1 h2 h3 h4 h5)
theorem g_iushr (hC : COk C cc own ret rf rl nL) {x y : Int32} (d : decode cc pc = .ok (.iushr, 1))  (k : Gw ok C w mc ms (pc + 1) L (.int (x.toUInt32 >>> (y.toUInt32 &&& Int32.toUInt32 31)).toInt32 :: st)) : Gw ok C w mc ms (pc) L (.int y :: .int x :: st) :=
  fun H locs cells slots ls h1 h2 h3 h4 h5 => lv_iushr hC.1 hC.2.1 d rfl (k H locs cells slots ls h1 h2 h3 h4 h5)
theorem g_lcmp (hC : COk C cc own ret rf rl nL) {x y : Int64} (d : decode cc pc = .ok (.lcmp, 1))  (k : Gw ok C w mc ms (pc + 1) L (.int (lg_cmp x y) :: st)) : Gw ok C w mc ms (pc) L (.long y :: .long x :: st) :=
  fun H locs cells slots ls h1 h2 h3 h4 h5 => W.lcmp hC.1 hC.2.1 d  (k H locs cells slots ls h1 h2 h3 h4 h5)
theorem g_dup (hC : COk C cc own ret rf rl nL) {v : Value} (d : decode cc pc = .ok (.dup, 1)) (hv : v.category = 1) (k : Gw ok C w mc ms (pc + 1) L (v :: v :: st)) : Gw ok C w mc ms (pc) L (v :: st) :=
  fun H locs cells slots ls h1 h2 h3 h4 h5 => lv_dup hC.1 hC.2.1 d hv (k H locs cells slots ls h1 h2 h3 h4 h5)
theorem g_pop (hC : COk C cc own ret rf rl nL) {v : Value} (d : decode cc pc = .ok (.pop, 1)) (hv : v.category = 1) (k : Gw ok C w mc ms (pc + 1) L st) : Gw ok C w mc ms (pc) L (v :: st) :=
  fun H locs cells slots ls h1 h2 h3 h4 h5 => lv_pop hC.1 hC.2.1 d hv (k H locs cells slots ls h1 h2 h3 h4 h5)
theorem g_dup_x1 (hC : COk C cc own ret rf rl nL) {v u : Value} (d : decode cc pc = .ok (.dup_x1, 1)) (hv : v.category = 1) (hu : u.category = 1) (k : Gw ok C w mc ms (pc + 1) L (v :: u :: v :: st)) : Gw ok C w mc ms (pc) L (v :: u :: st) :=
  fun H locs cells slots ls h1 h2 h3 h4 h5 => lv_dup_x1 hC.1 hC.2.1 d hv hu (k H locs cells slots ls h1 h2 h3 h4 h5)
theorem g_dup2 (hC : COk C cc own ret rf rl nL) {v u : Value} (d : decode cc pc = .ok (.dup2, 1)) (hv : v.category = 1) (hu : u.category = 1) (k : Gw ok C w mc ms (pc + 1) L (v :: u :: v :: u :: st)) : Gw ok C w mc ms (pc) L (v :: u :: st) :=
  fun H locs cells slots ls h1 h2 h3 h4 h5 => lv_dup2_11 hC.1 hC.2.1 d hv hu (k H locs cells slots ls h1 h2 h3 h4 h5)
theorem g_if_eq (hC : COk C cc own ret rf rl nL) {x : Int32} {off : Int} {tgt : Nat} (d : decode cc pc = .ok (.ifCond .eq off, 3)) (ht : (pc : Int) + off = (tgt : Int)) (kt : x = 0 → Gw ok C w mc ms (tgt) L st) (kf : ¬ x = 0 → Gw ok C w mc ms (pc + 3) L st) : Gw ok C w mc ms (pc) L (.int x :: st) :=
  fun H locs cells slots ls h1 h2 h3 h4 h5 => lv_if_eq hC.1 hC.2.1 d ht (fun q => kt q H locs cells slots ls h1 h2 h3 h4 h5) (fun q => kf q H locs cells slots ls h1 h2 h3 h4 h5)
theorem g_icmp_eq (hC : COk C cc own ret rf rl nL) {x y : Int32} {off : Int} {tgt : Nat} (d : decode cc pc = .ok (.if_icmp .eq off, 3)) (ht : (pc : Int) + off = (tgt : Int)) (kt : x = y → Gw ok C w mc ms (tgt) L st) (kf : ¬ x = y → Gw ok C w mc ms (pc + 3) L st) : Gw ok C w mc ms (pc) L (.int y :: .int x :: st) :=
  fun H locs cells slots ls h1 h2 h3 h4 h5 => lv_icmp_eq hC.1 hC.2.1 d ht (fun q => kt q H locs cells slots ls h1 h2 h3 h4 h5) (fun q => kf q H locs cells slots ls h1 h2 h3 h4 h5)
theorem g_if_ne (hC : COk C cc own ret rf rl nL) {x : Int32} {off : Int} {tgt : Nat} (d : decode cc pc = .ok (.ifCond .ne off, 3)) (ht : (pc : Int) + off = (tgt : Int)) (kt : ¬ x = 0 → Gw ok C w mc ms (tgt) L st) (kf : x = 0 → Gw ok C w mc ms (pc + 3) L st) : Gw ok C w mc ms (pc) L (.int x :: st) :=
  fun H locs cells slots ls h1 h2 h3 h4 h5 => lv_if_ne hC.1 hC.2.1 d ht (fun q => kt q H locs cells slots ls h1 h2 h3 h4 h5) (fun q => kf q H locs cells slots ls h1 h2 h3 h4 h5)
theorem g_icmp_ne (hC : COk C cc own ret rf rl nL) {x y : Int32} {off : Int} {tgt : Nat} (d : decode cc pc = .ok (.if_icmp .ne off, 3)) (ht : (pc : Int) + off = (tgt : Int)) (kt : ¬ x = y → Gw ok C w mc ms (tgt) L st) (kf : x = y → Gw ok C w mc ms (pc + 3) L st) : Gw ok C w mc ms (pc) L (.int y :: .int x :: st) :=
  fun H locs cells slots ls h1 h2 h3 h4 h5 => lv_icmp_ne hC.1 hC.2.1 d ht (fun q => kt q H locs cells slots ls h1 h2 h3 h4 h5) (fun q => kf q H locs cells slots ls h1 h2 h3 h4 h5)
theorem g_if_lt (hC : COk C cc own ret rf rl nL) {x : Int32} {off : Int} {tgt : Nat} (d : decode cc pc = .ok (.ifCond .lt off, 3)) (ht : (pc : Int) + off = (tgt : Int)) (kt : x < 0 → Gw ok C w mc ms (tgt) L st) (kf : ¬ x < 0 → Gw ok C w mc ms (pc + 3) L st) : Gw ok C w mc ms (pc) L (.int x :: st) :=
  fun H locs cells slots ls h1 h2 h3 h4 h5 => lv_if_lt hC.1 hC.2.1 d ht (fun q => kt q H locs cells slots ls h1 h2 h3 h4 h5) (fun q => kf q H locs cells slots ls h1 h2 h3 h4 h5)
theorem g_icmp_lt (hC : COk C cc own ret rf rl nL) {x y : Int32} {off : Int} {tgt : Nat} (d : decode cc pc = .ok (.if_icmp .lt off, 3)) (ht : (pc : Int) + off = (tgt : Int)) (kt : x < y → Gw ok C w mc ms (tgt) L st) (kf : ¬ x < y → Gw ok C w mc ms (pc + 3) L st) : Gw ok C w mc ms (pc) L (.int y :: .int x :: st) :=
  fun H locs cells slots ls h1 h2 h3 h4 h5 => lv_icmp_lt hC.1 hC.2.1 d ht (fun q => kt q H locs cells slots ls h1 h2 h3 h4 h5) (fun q => kf q H locs cells slots ls h1 h2 h3 h4 h5)
theorem g_if_ge (hC : COk C cc own ret rf rl nL) {x : Int32} {off : Int} {tgt : Nat} (d : decode cc pc = .ok (.ifCond .ge off, 3)) (ht : (pc : Int) + off = (tgt : Int)) (kt : 0 ≤ x → Gw ok C w mc ms (tgt) L st) (kf : ¬ 0 ≤ x → Gw ok C w mc ms (pc + 3) L st) : Gw ok C w mc ms (pc) L (.int x :: st) :=
  fun H locs cells slots ls h1 h2 h3 h4 h5 => lv_if_ge hC.1 hC.2.1 d ht (fun q => kt q H locs cells slots ls h1 h2 h3 h4 h5) (fun q => kf q H locs cells slots ls h1 h2 h3 h4 h5)
theorem g_icmp_ge (hC : COk C cc own ret rf rl nL) {x y : Int32} {off : Int} {tgt : Nat} (d : decode cc pc = .ok (.if_icmp .ge off, 3)) (ht : (pc : Int) + off = (tgt : Int)) (kt : y ≤ x → Gw ok C w mc ms (tgt) L st) (kf : ¬ y ≤ x → Gw ok C w mc ms (pc + 3) L st) : Gw ok C w mc ms (pc) L (.int y :: .int x :: st) :=
  fun H locs cells slots ls h1 h2 h3 h4 h5 => lv_icmp_ge hC.1 hC.2.1 d ht (fun q => kt q H locs cells slots ls h1 h2 h3 h4 h5) (fun q => kf q H locs cells slots ls h1 h2 h3 h4 h5)
theorem g_if_gt (hC : COk C cc own ret rf rl nL) {x : Int32} {off : Int} {tgt : Nat} (d : decode cc pc = .ok (.ifCond .gt off, 3)) (ht : (pc : Int) + off = (tgt : Int)) (kt : 0 < x → Gw ok C w mc ms (tgt) L st) (kf : ¬ 0 < x → Gw ok C w mc ms (pc + 3) L st) : Gw ok C w mc ms (pc) L (.int x :: st) :=
  fun H locs cells slots ls h1 h2 h3 h4 h5 => lv_if_gt hC.1 hC.2.1 d ht (fun q => kt q H locs cells slots ls h1 h2 h3 h4 h5) (fun q => kf q H locs cells slots ls h1 h2 h3 h4 h5)
theorem g_icmp_gt (hC : COk C cc own ret rf rl nL) {x y : Int32} {off : Int} {tgt : Nat} (d : decode cc pc = .ok (.if_icmp .gt off, 3)) (ht : (pc : Int) + off = (tgt : Int)) (kt : y < x → Gw ok C w mc ms (tgt) L st) (kf : ¬ y < x → Gw ok C w mc ms (pc + 3) L st) : Gw ok C w mc ms (pc) L (.int y :: .int x :: st) :=
  fun H locs cells slots ls h1 h2 h3 h4 h5 => lv_icmp_gt hC.1 hC.2.1 d ht (fun q => kt q H locs cells slots ls h1 h2 h3 h4 h5) (fun q => kf q H locs cells slots ls h1 h2 h3 h4 h5)
theorem g_if_le (hC : COk C cc own ret rf rl nL) {x : Int32} {off : Int} {tgt : Nat} (d : decode cc pc = .ok (.ifCond .le off, 3)) (ht : (pc : Int) + off = (tgt : Int)) (kt : x ≤ 0 → Gw ok C w mc ms (tgt) L st) (kf : ¬ x ≤ 0 → Gw ok C w mc ms (pc + 3) L st) : Gw ok C w mc ms (pc) L (.int x :: st) :=
  fun H locs cells slots ls h1 h2 h3 h4 h5 => lv_if_le hC.1 hC.2.1 d ht (fun q => kt q H locs cells slots ls h1 h2 h3 h4 h5) (fun q => kf q H locs cells slots ls h1 h2 h3 h4 h5)
theorem g_icmp_le (hC : COk C cc own ret rf rl nL) {x y : Int32} {off : Int} {tgt : Nat} (d : decode cc pc = .ok (.if_icmp .le off, 3)) (ht : (pc : Int) + off = (tgt : Int)) (kt : x ≤ y → Gw ok C w mc ms (tgt) L st) (kf : ¬ x ≤ y → Gw ok C w mc ms (pc + 3) L st) : Gw ok C w mc ms (pc) L (.int y :: .int x :: st) :=
  fun H locs cells slots ls h1 h2 h3 h4 h5 => lv_icmp_le hC.1 hC.2.1 d ht (fun q => kt q H locs cells slots ls h1 h2 h3 h4 h5) (fun q => kf q H locs cells slots ls h1 h2 h3 h4 h5)
theorem g_goto (hC : COk C cc own ret rf rl nL) {off : Int} {tgt : Nat} (d : decode cc pc = .ok (.goto off, 3)) (ht : (pc : Int) + off = (tgt : Int)) (k : Gw ok C w mc ms (tgt) L st) : Gw ok C w mc ms (pc) L st :=
  fun H locs cells slots ls h1 h2 h3 h4 h5 => lv_goto hC.1 hC.2.1 d ht (k H locs cells slots ls h1 h2 h3 h4 h5)
theorem g_ldc (hC : COk C cc own ret rf rl nL) {i : Nat} {v : Int32} (d : decode cc pc = .ok (.ldc i, 2)) (hq : Cond.constant own i v ∈ lw_all) (k : Gw ok C w mc ms (pc + 2) L (.int v :: st)) : Gw ok C w mc ms (pc) L st :=
  fun H locs cells slots ls h1 h2 h3 h4 h5 => lv_ldc hC.1 hC.2.1 hC.2.2.2.2.2.1 (hC.2.2.2.2.2.2.1 _ hq) d (k H locs cells slots ls h1 h2 h3 h4 h5)
theorem g_ldc2 (hC : COk C cc own ret rf rl nL) {i : Nat} {v : Int64} (d : decode cc pc = .ok (.ldc2_w i, 3)) (hq : Cond.constantLong own i v ∈ lw_all) (k : Gw ok C w mc ms (pc + 3) L (.long v :: st)) : Gw ok C w mc ms (pc) L st :=
  fun H locs cells slots ls h1 h2 h3 h4 h5 => lv_ldc2 hC.1 hC.2.1 hC.2.2.2.2.2.1 (hC.2.2.2.2.2.2.1 _ hq) d (k H locs cells slots ls h1 h2 h3 h4 h5)
theorem g_ldcw (hC : COk C cc own ret rf rl nL) {i : Nat} {v : Int32} (d : decode cc pc = .ok (.ldc_w i, 3)) (hq : Cond.constant own i v ∈ lw_all) (k : Gw ok C w mc ms (pc + 3) L (.int v :: st)) : Gw ok C w mc ms (pc) L st :=
  fun H locs cells slots ls h1 h2 h3 h4 h5 => lv_ldcw hC.1 hC.2.1 hC.2.2.2.2.2.1 (hC.2.2.2.2.2.2.1 _ hq) d (k H locs cells slots ls h1 h2 h3 h4 h5)
theorem g_tin (hC : COk C cc own ret rf rl nL) {dflt lo hi : Int} {offs : Array Int} {len : Nat} {x v : Int32} {off : Int} {tgt : Nat} (d : decode cc pc = .ok (.tableswitch dflt lo hi offs, len)) (hx : x = v) (b1 : ¬ v.toInt < lo) (b2 : ¬ hi < v.toInt) (ho : offs[(v.toInt - lo).toNat]? = some off) (ht : (pc : Int) + off = (tgt : Int)) (k : Gw ok C w mc ms (tgt) L st) : Gw ok C w mc ms (pc) L (.int x :: st) := by
  subst hx
  exact fun H locs cells slots ls h1 h2 h3 h4 h5 => lv_tableIn hC.1 hC.2.1 d b1 b2 ho ht (k H locs cells slots ls h1 h2 h3 h4 h5)
theorem g_tout (hC : COk C cc own ret rf rl nL) {dflt lo hi : Int} {offs : Array Int} {len : Nat} {x : Int32} {tgt : Nat} (d : decode cc pc = .ok (.tableswitch dflt lo hi offs, len)) (h : x.toInt < lo ∨ hi < x.toInt) (ht : (pc : Int) + dflt = (tgt : Int)) (k : Gw ok C w mc ms (tgt) L st) : Gw ok C w mc ms (pc) L (.int x :: st) :=
  fun H locs cells slots ls h1 h2 h3 h4 h5 => lv_tableOut hC.1 hC.2.1 d h ht (k H locs cells slots ls h1 h2 h3 h4 h5)
/-- fewer cells and slots asked -/
theorem g_less {mc2 ms2 : Nat} (h1 : mc2 ≤ mc) (h2 : ms2 ≤ ms) (k : Gw ok C w mc2 ms2 pc L st) : Gw ok C w mc ms pc L st :=
  fun H locs cells slots ls a1 a2 a3 a4 a5 => k H locs cells slots ls a1 a2 (Nat.le_trans (Nat.add_le_add_left h1 _) a3) (Nat.le_trans (Nat.add_le_add_left h2 _) a4) a5
theorem g_iret {Qc : Array Value → State → Outcome → State → Prop} {free : Addr → Prop} {v : Int32} (hC : COk C cc own ret rf rl nL) (hQ : cx_Q C = MQ (cx_b C) Qc (cx_a C) (cx_s C) (cx_MC C) (cx_MS C) free) (hA : ∀ q, cx_A C q → free q) (hr : ret = some .int) (d : decode cc pc = .ok (.ireturn, 1))
    (hq : ∀ (H : Heap) (t : State), ok w H → t.heap = H → (cx_s C).WarmedH t.vm → va_F (cx_A C) (cx_s C) t → Qc (cx_a C) (cx_s C) (.returned (some (.int v))) t) : Gw ok C w mc ms pc L [.int v] := by
  intro H locs cells slots ls h1 h2 h3 h4 h5
  refine W.widen (k := cx_MC C) (n := cx_MS C) (Nat.le_trans (Nat.le_add_right _ _) h3) (Nat.le_trans (Nat.le_add_right _ _) h4) ?_
  rw [hQ]
  exact W.iret hC.1 hC.2.1 (hC.2.2.1.trans hr) (fun t ht hW => hq H t h1 ht hW (h2.F ht)) (fun q hq => hA _ (h2.2.2 q hq)) d hC.2.2.2.1
theorem g_zret {Qc : Array Value → State → Outcome → State → Prop} {free : Addr → Prop} {v : Int32} {ty : FieldType} (hC : COk C cc own ret rf rl nL) (hQ : cx_Q C = MQ (cx_b C) Qc (cx_a C) (cx_s C) (cx_MC C) (cx_MS C) free) (hA : ∀ q, cx_A C q → free q) (hr : ret = some ty) (hn : narrow ty (.int v) = .int v) (d : decode cc pc = .ok (.ireturn, 1))
    (hq : ∀ (H : Heap) (t : State), ok w H → t.heap = H → (cx_s C).WarmedH t.vm → va_F (cx_A C) (cx_s C) t → Qc (cx_a C) (cx_s C) (.returned (some (.int v))) t) : Gw ok C w mc ms pc L [.int v] := by
  intro H locs cells slots ls h1 h2 h3 h4 h5
  refine W.widen (k := cx_MC C) (n := cx_MS C) (Nat.le_trans (Nat.le_add_right _ _) h3) (Nat.le_trans (Nat.le_add_right _ _) h4) ?_
  rw [hQ]
  exact W.zret hC.1 hC.2.1 (hC.2.2.1.trans hr) hn (fun t ht hW => hq H t h1 ht hW (h2.F ht)) (fun q hq => hA _ (h2.2.2 q hq)) d hC.2.2.2.1
theorem g_lret {Qc : Array Value → State → Outcome → State → Prop} {free : Addr → Prop} {v : Int64} (hC : COk C cc own ret rf rl nL) (hQ : cx_Q C = MQ (cx_b C) Qc (cx_a C) (cx_s C) (cx_MC C) (cx_MS C) free) (hA : ∀ q, cx_A C q → free q) (hr : ret = some .long) (d : decode cc pc = .ok (.lreturn, 1))
    (hq : ∀ (H : Heap) (t : State), ok w H → t.heap = H → (cx_s C).WarmedH t.vm → va_F (cx_A C) (cx_s C) t → Qc (cx_a C) (cx_s C) (.returned (some (.long v))) t) : Gw ok C w mc ms pc L [.long v] := by
  intro H locs cells slots ls h1 h2 h3 h4 h5
  refine W.widen (k := cx_MC C) (n := cx_MS C) (Nat.le_trans (Nat.le_add_right _ _) h3) (Nat.le_trans (Nat.le_add_right _ _) h4) ?_
  rw [hQ]
  exact W.lret hC.1 hC.2.1 (hC.2.2.1.trans hr) (fun t ht hW => hq H t h1 ht hW (h2.F ht)) (fun q hq => hA _ (h2.2.2 q hq)) d hC.2.2.2.1
theorem g_vret {Qc : Array Value → State → Outcome → State → Prop} {free : Addr → Prop} (hC : COk C cc own ret rf rl nL) (hQ : cx_Q C = MQ (cx_b C) Qc (cx_a C) (cx_s C) (cx_MC C) (cx_MS C) free) (hA : ∀ q, cx_A C q → free q) (hr : ret = none) (d : decode cc pc = .ok (.return_, 1))
    (hq : ∀ (H : Heap) (t : State), ok w H → t.heap = H → (cx_s C).WarmedH t.vm → va_F (cx_A C) (cx_s C) t → Qc (cx_a C) (cx_s C) (.returned none) t) : Gw ok C w mc ms pc L [] := by
  intro H locs cells slots ls h1 h2 h3 h4 h5
  refine W.widen (k := cx_MC C) (n := cx_MS C) (Nat.le_trans (Nat.le_add_right _ _) h3) (Nat.le_trans (Nat.le_add_right _ _) h4) ?_
  rw [hQ]
  exact W.vret hC.1 hC.2.1 (hC.2.2.1.trans hr) (fun t ht hW => hq H t h1 ht hW (h2.F ht)) (fun q hq => hA _ (h2.2.2 q hq)) d hC.2.2.2.1
end GW
/-- a contract out of a body's walk -/
theorem met_gw {ω : Type} (ok : ω → Heap → Prop) (w : ω) {l : Launch} {y : MethodName} {rm : Room} {As : List Value} {B : State → Prop} {Qc : Array Value → State → Outcome → State → Prop} {A : State → Nat → Prop} {free : Addr → Prop} {cc : ByteArray} {nL : Nat} {ret : Option FieldType} {L0 : List (Option Value)}
    (hy : plainName y.cls = true) (hlen : (lg_sl As).length ≤ nL) (hL0 : lx_pairs L0 = lv_args 0 As)
    (hB : ∀ U : State, B U → ok w U.heap)
    (body : ∀ C : Cx, COk C cc y.cls ret rm.frames rm.locals nL → cx_l C = l → cx_a C = As.toArray → B (cx_s C) → (cx_h C).name = y.name → cx_A C = A (cx_s C) → cx_Q C = MQ (cx_b C) Qc (cx_a C) (cx_s C) (cx_MC C) (cx_MS C) free → cx_MC C = rm.cells → cx_MS C = rm.slots → Gw ok C w rm.cells rm.slots 0 L0 []) :
    Met l y (ws_ y cc nL ret) rm (va_Pc As B) Qc rm.cells rm.slots free := by
  refine Met.ofW (cc := cc) (maxL := nL) (ret := ret) hy rfl ?_
  intro p e s m args below meth c s₁ B0 hml hv
  obtain ⟨rfl, hb0⟩ := hv
  have hts := atoms_spec (ws := ws_ y cc nL ret) B0.pre
  have hts : ∀ w ∈ lw_all, w.before _ s = true := fun w h => hts w (List.mem_cons_of_mem _ h)
  have hl := lv_entry As (n := nL) hlen
  rw [lg_entry_eq]
  refine body (p, l, e, (headSpec (ws_ y cc nL ret) rm).room, s, m, As.toArray, below, meth, c, A s, MQ below Qc As.toArray s rm.cells rm.slots free, nL, rm.cells, rm.slots) ⟨B0.exec, B0.bytes, B0.returns, B0.notSynchronized, hml, findClass_of_methodNamed B0.named, hts, rfl, rfl, rfl, rfl, rfl⟩ rfl rfl hb0 (name_of_methodNamed B0.named B0.method).1 rfl rfl rfl rfl s.heap [] 0 0 _ (hB s hb0) va_S.rf (by simp) (by simp) (lx_of hl (fun q hq => hL0 ▸ hq))
