/-! THE CLASS SIDE's ROWS -/
theorem va_rf_cat (r : Option Nat) : (va_rf r).category = 1 := by cases r <;> rfl
theorem cat_2 (v : Value) : v.category ≤ 2 := by cases v <;> simp [Value.category]
theorem cat_le : ∀ {l : List Value}, l.length ≤ 4 → (l.map fun v => v.category).sum ≤ 8 := by
  intro l h
  have h1 : ∀ l : List Value, (l.map fun v => v.category).sum ≤ 2 * l.length := by
    intro l
    induction l with
    | nil => exact Nat.le_refl _
    | cons v l ih =>
      have := cat_2 v
      simp only [List.map_cons, List.sum_cons, List.length_cons]
      omega
  have := h1 l
  omega
theorem lx_okR {L : List (Option Value)} {j : Nat} {r : Option Nat} (h : L[j]? = some (some (va_rf r))) : lx_ok1 L (j + 1) = true := by
  simp [lx_ok1, h, va_rf_cat]
theorem nst_at {w : Cond} (h : w ∈ lw_tbl) (hb : nstB w = true) : w ∈ lw_nst := List.mem_append_left _ (List.mem_filter.mpr ⟨h, hb⟩)
theorem va_RA_inj {U : State} {c1 c2 : ClassId} {ty : FieldType} (h1 : va_RA U c1 ty) (h2 : va_RA U c2 ty) : c1 = c2 := by
  cases ty with
  | object C =>
    obtain ⟨_, _, -, -, -, a⟩ := h1
    obtain ⟨_, _, -, -, -, b⟩ := h2
    exact Option.some.inj (a.symm.trans b)
  | _ => exact Option.some.inj (Eq.trans (Eq.symm h1) h2)
section GXR
variable {E : XE} {C : Cx} {S : XS} {mc ms pc : Nat} {L : List (Option Value)} {st : List Value} {cc : ByteArray} {own : String} {ret : Option FieldType} {rf rl nL : Nat}
theorem g_aload_nR {ω : Type} {ok : ω → Heap → Prop} {w : ω} (hC : COk C cc own ret rf rl nL) {k0 : Fin 4} {r : Option Nat} (d : decode cc pc = .ok (.aload_n k0, 1)) (hl : L[(k0 : Nat)]? = some (some (va_rf r))) (k : Gw ok C w mc ms (pc + 1) L (va_rf r :: st)) : Gw ok C w mc ms pc L st := by
  cases r with
  | none => exact g_aload_nN hC d hl k
  | some a => exact g_aload_n hC d hl k
theorem g_aloadR {ω : Type} {ok : ω → Heap → Prop} {w : ω} (hC : COk C cc own ret rf rl nL) {i : Nat} {r : Option Nat} (d : decode cc pc = .ok (.aload i, 2)) (hl : L[i]? = some (some (va_rf r))) (k : Gw ok C w mc ms (pc + 2) L (va_rf r :: st)) : Gw ok C w mc ms pc L st := by
  cases r with
  | none => exact g_aloadN hC d hl k
  | some a => exact g_aload hC d hl k
theorem g_astore_nR {ω : Type} {ok : ω → Heap → Prop} {w : ω} (hC : COk C cc own ret rf rl nL) {k0 : Fin 4} {i : Nat} {r : Option Nat} {L' : List (Option Value)} (d : decode cc pc = .ok (.astore_n k0, 1)) (hi : (k0 : Nat) = i) (hn : i < nL) (hk : lx_ok1 L i = true) (hl : L.set i (some (va_rf r)) = L') (k : Gw ok C w mc ms (pc + 1) L' st) : Gw ok C w mc ms pc L (va_rf r :: st) := by
  cases r with
  | none => exact g_astore_nN hC d hi hn hk hl k
  | some a => exact g_astore_n hC d hi hn hk hl k
theorem g_astoreR {ω : Type} {ok : ω → Heap → Prop} {w : ω} (hC : COk C cc own ret rf rl nL) {i : Nat} {r : Option Nat} {L' : List (Option Value)} (d : decode cc pc = .ok (.astore i, 2)) (hn : i < nL) (hk : lx_ok1 L i = true) (hl : L.set i (some (va_rf r)) = L') (k : Gw ok C w mc ms (pc + 2) L' st) : Gw ok C w mc ms pc L (va_rf r :: st) := by
  cases r with
  | none => exact g_astoreN hC d hn hk hl k
  | some a => exact g_astore hC d hn hk hl k
theorem g_ifnullR {ω : Type} {ok : ω → Heap → Prop} {w : ω} (hC : COk C cc own ret rf rl nL) {r : Option Nat} {off : Int} {tgt : Nat} (d : decode cc pc = .ok (.ifnull off, 3)) (ht : (pc : Int) + off = (tgt : Int)) (kt : r = none → Gw ok C w mc ms tgt L st) (kf : ¬ r = none → Gw ok C w mc ms (pc + 3) L st) : Gw ok C w mc ms pc L (va_rf r :: st) := by
  cases r with
  | none => exact fun H locs cells slots ls h1 h2 h3 h4 h5 => lv_ifnullN hC.1 hC.2.1 d ht (kt rfl H locs cells slots ls h1 h2 h3 h4 h5)
  | some a => exact fun H locs cells slots ls h1 h2 h3 h4 h5 => lv_ifnull hC.1 hC.2.1 d (kf (fun z => by cases z) H locs cells slots ls h1 h2 h3 h4 h5)
theorem g_ifnonnullR {ω : Type} {ok : ω → Heap → Prop} {w : ω} (hC : COk C cc own ret rf rl nL) {r : Option Nat} {off : Int} {tgt : Nat} (d : decode cc pc = .ok (.ifnonnull off, 3)) (ht : (pc : Int) + off = (tgt : Int)) (kt : ¬ r = none → Gw ok C w mc ms tgt L st) (kf : r = none → Gw ok C w mc ms (pc + 3) L st) : Gw ok C w mc ms pc L (va_rf r :: st) := by
  cases r with
  | none => exact fun H locs cells slots ls h1 h2 h3 h4 h5 => lv_ifnonnullN hC.1 hC.2.1 d (kf rfl H locs cells slots ls h1 h2 h3 h4 h5)
  | some a => exact fun H locs cells slots ls h1 h2 h3 h4 h5 => lv_ifnonnull hC.1 hC.2.1 d ht (kt (fun z => by cases z) H locs cells slots ls h1 h2 h3 h4 h5)
theorem g_nullR {ω : Type} {ok : ω → Heap → Prop} {w : ω} (hC : COk C cc own ret rf rl nL) (d : decode cc pc = .ok (.aconst_null, 1)) (k : Gw ok C w mc ms (pc + 1) L (va_rf none :: st)) : Gw ok C w mc ms pc L st := g_null hC d k
/-- a field is read -/
theorem gX_get (hC : COk C cc own ret rf rl nL) (hX : XOk E C) {i n k a N : Nat} {q : Nat × Bool} {C0 ref : String} {T : u_T} (d : decode cc pc = .ok (.getfield i, 3)) (hq : Cond.fieldLink own i ref (T k).2.1 (T k).2.2.1 ∈ lw_all) (hc : vwX[n]? = some (C0, T, N)) (hin : ∀ w ∈ u_ws C0 T N, w ∈ lw_all) (hk : k < N) (h1 : (T k).1 = ref ∨ Cond.sameField ref (T k).1 (T k).2.1 (T k).2.2.1 ∈ lw_all) (ht : (xTab.getD n [])[k]? = some q) (hn : n < 100 ∧ n ≠ 17) (hkd : xKD S a = some n) (kk : GX E C S mc ms (pc + 3) L (xFv S a q :: st)) : GX E C S mc ms pc L (va_rf (some a) :: st) := by
  intro H locs cells slots ls a1 a2 a3 a4 a5
  have hro := xRO_not a1 hkd (by unfold xROk; omega)
  obtain ⟨q0, hq0⟩ := xLs_at (E := E) (okX_lt a1 hkd) hkd hro
  rw [xCell_o hn.1] at hq0
  exact va_get hC.1 hC.2.1 hC.2.2.2.2.2.2.1 hin hC.2.2.2.2.2.1 hX.1.1 (xLs_P a1 H.size) q0 hq0 hc k hk (hC.2.2.2.2.2.2.1 _ hq) (fun x hx => by
    rcases h1 with z | z
    · rw [z] at hx; exact hx
    · exact u_same (hC.2.2.2.2.2.2.1 _ z) x hx) (xfl_get ht) d (kk H locs cells slots ls a1 a2 a3 a4 a5)
theorem gX_getN (hC : COk C cc own ret rf rl nL) (hX : XOk E C) {i n k a N : Nat} {q : Nat × Bool} {C0 ref host : String} {T : u_T} (d : decode cc pc = .ok (.getfield i, 3)) (hq : Cond.fieldLinkNest own i ref (T k).2.1 (T k).2.2.1 host ∈ lw_tbl) (hc : vwX[n]? = some (C0, T, N)) (hin : ∀ w ∈ u_ws C0 T N, w ∈ lw_all) (hk : k < N) (h1 : (T k).1 = ref) (ht : (xTab.getD n [])[k]? = some q) (hn : n < 100 ∧ n ≠ 17) (hkd : xKD S a = some n) (kk : GX E C S mc ms (pc + 3) L (xFv S a q :: st)) : GX E C S mc ms pc L (va_rf (some a) :: st) := by
  intro H locs cells slots ls a1 a2 a3 a4 a5
  have hro := xRO_not a1 hkd (by unfold xROk; omega)
  obtain ⟨q0, hq0⟩ := xLs_at (E := E) (okX_lt a1 hkd) hkd hro
  rw [xCell_o hn.1] at hq0
  exact va_getN hC.1 hC.2.1 hC.2.2.2.2.2.2.1 hin hC.2.2.2.2.2.1 hX.1.1 (xLs_P a1 H.size) q0 hq0 hc k hk (va_Nw.use rfl (hX.1.2.1 _ (nst_at hq rfl))) (fun x hx => by rw [h1] at hx; exact hx) (xfl_get ht) d (kk H locs cells slots ls a1 a2 a3 a4 a5)
theorem x_put {n k f a q0 : Nat} {v : Int32} {H H1 : Heap} {locs locs1 : List Loc} (hX : XOk E C) (a1 : okXA E (cx_A C) S H) (a2 : va_S (cx_A C) (cx_s C).heap H locs) (hn : n < 19) (hkd : xKD S a = some n) (hro : xRO S a = false) (ht : (xTab.getD n [])[k]? = some (f, false)) (hq0 : (xLs E S H.size)[q0]? = some (a, xCell E S a n)) (hP : va_P (xe_D E) vwX ((xLs E S H.size).set q0 (a, .inr (n, (xfl S n a).set k (.int v)))) H1) (hS : va_S (cx_A C) (cx_s C).heap H1 locs1) : okXA E (cx_A C) (sFI S f a v) H1 :=
  okX_set hX.2.1 a1 a2 hS hkd hro hq0 hP rfl rfl rfl (sFI_clean a1.2.2.1 hkd) (by rw [xCell_o (by omega), xfl_setI hn ht]) (fun b m hb _ => sFI_oth hb)
theorem x_putR {n k f a q0 : Nat} {v : Option Nat} {H H1 : Heap} {locs locs1 : List Loc} (hX : XOk E C) (a1 : okXA E (cx_A C) S H) (a2 : va_S (cx_A C) (cx_s C).heap H locs) (hn : n < 19) (hkd : xKD S a = some n) (hro : xRO S a = false) (ht : (xTab.getD n [])[k]? = some (f, true)) (hq0 : (xLs E S H.size)[q0]? = some (a, xCell E S a n)) (hP : va_P (xe_D E) vwX ((xLs E S H.size).set q0 (a, .inr (n, (xfl S n a).set k (va_rf v)))) H1) (hS : va_S (cx_A C) (cx_s C).heap H1 locs1) : okXA E (cx_A C) (sFR S f a v) H1 :=
  okX_set hX.2.1 a1 a2 hS hkd hro hq0 hP rfl rfl rfl (sFR_clean a1.2.2.1 hkd) (by rw [xCell_o (by omega), xfl_setR hn ht]) (fun b m hb _ => sFR_oth hb)
theorem gX_putI (hC : COk C cc own ret rf rl nL) (hX : XOk E C) {i n k f a N : Nat} {v : Int32} {C0 ref : String} {T : u_T} {ty0 : Nat → FieldType} {ty : FieldType} (d : decode cc pc = .ok (.putfield i, 3)) (hq : Cond.fieldLink own i ref (T k).2.1 (T k).2.2.1 ∈ lw_all) (hc : vwX[n]? = some (C0, T, N)) (hin : ∀ w ∈ u_ws C0 T N, w ∈ lw_all) (hty : ∀ k, k < N → parseFieldDescriptor (T k).2.2.1 = some (ty0 k)) (hnm : ∀ a, a < N → ∀ b, b < N → a ≠ b → (T a).2.1 ≠ (T b).2.1) (hk : k < N) (h1 : (T k).1 = ref ∨ Cond.sameField ref (T k).1 (T k).2.1 (T k).2.2.1 ∈ lw_all) (hfin : (T k).2.2.2 = false) (hd : parseFieldDescriptor (T k).2.2.1 = some ty) (hnw : narrow ty (.int v) = .int v) (hfit : fits ty (.int v) = true) (ht : (xTab.getD n [])[k]? = some (f, false)) (hn : n < 19) (hro : n ≠ 17 ∨ xRO S a = false) (hkd : xKD S a = some n) (kk : GX E C (sFI S f a v) mc ms (pc + 3) L st) : GX E C S mc ms pc L (.int v :: va_rf (some a) :: st) := by
  intro H locs cells slots ls a1 a2 a3 a4 a5
  have hro : xRO S a = false := hro.elim (fun z => xRO_not a1 hkd (by unfold xROk; omega)) id
  obtain ⟨q0, hq0⟩ := xLs_at (E := E) (okX_lt a1 hkd) hkd hro
  have hq1 := hq0
  rw [xCell_o (by omega)] at hq1
  refine va_put hC.1 hC.2.1 hC.2.2.2.2.2.2.1 hin ty0 hty hnm hC.2.2.2.2.2.1 hX.1.1 (xLs_P a1 H.size) (xLs_D a1 H.size) a2 q0 hq1 hc k hk (hC.2.2.2.2.2.2.1 _ hq) (fun x hx => by
    rcases h1 with z | z
    · rw [z] at hx; exact hx
    · exact u_same (hC.2.2.2.2.2.2.1 _ z) x hx) hfin hd hnw hfit (by have z := (List.getElem?_eq_some_iff.mp ht).1; unfold xfl; rw [List.length_map]; exact z) d (fun H1 locs1 hP hD hS => ?_)
  exact kk H1 locs1 cells slots ls (x_put hX a1 a2 hn hkd hro ht hq0 hP hS) hS a3 a4 a5
theorem gX_putIF (hC : COk C cc own ret rf rl nL) (hX : XOk E C) {i n k f a N : Nat} {v : Int32} {C0 ref : String} {T : u_T} {ty0 : Nat → FieldType} {ty : FieldType} (d : decode cc pc = .ok (.putfield i, 3)) (hq : Cond.fieldLink own i ref (T k).2.1 (T k).2.2.1 ∈ lw_all) (hc : vwX[n]? = some (C0, T, N)) (hin : ∀ w ∈ u_ws C0 T N, w ∈ lw_all) (hty : ∀ k, k < N → parseFieldDescriptor (T k).2.2.1 = some (ty0 k)) (hnm : ∀ a, a < N → ∀ b, b < N → a ≠ b → (T a).2.1 ≠ (T b).2.1) (hk : k < N) (h1 : (T k).1 = ref) (hfin : (T k).2.2.2 = true) (hini : (cx_h C).name = "<init>") (hdecl : (T k).1 = own) (hd : parseFieldDescriptor (T k).2.2.1 = some ty) (hnw : narrow ty (.int v) = .int v) (hfit : fits ty (.int v) = true) (ht : (xTab.getD n [])[k]? = some (f, false)) (hn : n < 19) (hro : n ≠ 17 ∨ xRO S a = false) (hkd : xKD S a = some n) (kk : GX E C (sFI S f a v) mc ms (pc + 3) L st) : GX E C S mc ms pc L (.int v :: va_rf (some a) :: st) := by
  intro H locs cells slots ls a1 a2 a3 a4 a5
  have hro : xRO S a = false := hro.elim (fun z => xRO_not a1 hkd (by unfold xROk; omega)) id
  obtain ⟨q0, hq0⟩ := xLs_at (E := E) (okX_lt a1 hkd) hkd hro
  have hq1 := hq0
  rw [xCell_o (by omega)] at hq1
  refine va_putF hC.1 hC.2.1 hC.2.2.2.2.2.2.1 hin ty0 hty hnm hC.2.2.2.2.2.1 hX.1.1 (xLs_P a1 H.size) (xLs_D a1 H.size) a2 q0 hq1 hc k hk (hC.2.2.2.2.2.2.1 _ hq) (fun x hx => by rw [h1] at hx; exact hx) hfin hini hdecl hd hnw hfit (by have z := (List.getElem?_eq_some_iff.mp ht).1; unfold xfl; rw [List.length_map]; exact z) d (fun H1 locs1 hP hD hS => ?_)
  exact kk H1 locs1 cells slots ls (x_put hX a1 a2 hn hkd hro ht hq0 hP hS) hS a3 a4 a5
theorem gX_putIN (hC : COk C cc own ret rf rl nL) (hX : XOk E C) {i n k f a N : Nat} {v : Int32} {C0 ref host : String} {T : u_T} {ty0 : Nat → FieldType} {ty : FieldType} (d : decode cc pc = .ok (.putfield i, 3)) (hq : Cond.fieldLinkNest own i ref (T k).2.1 (T k).2.2.1 host ∈ lw_tbl) (hc : vwX[n]? = some (C0, T, N)) (hin : ∀ w ∈ u_ws C0 T N, w ∈ lw_all) (hty : ∀ k, k < N → parseFieldDescriptor (T k).2.2.1 = some (ty0 k)) (hnm : ∀ a, a < N → ∀ b, b < N → a ≠ b → (T a).2.1 ≠ (T b).2.1) (hk : k < N) (h1 : (T k).1 = ref ∨ Cond.sameField ref (T k).1 (T k).2.1 (T k).2.2.1 ∈ lw_all) (hfin : (T k).2.2.2 = false) (hd : parseFieldDescriptor (T k).2.2.1 = some ty) (hnw : narrow ty (.int v) = .int v) (hfit : fits ty (.int v) = true) (ht : (xTab.getD n [])[k]? = some (f, false)) (hn : n < 19) (hro : n ≠ 17 ∨ xRO S a = false) (hkd : xKD S a = some n) (kk : GX E C (sFI S f a v) mc ms (pc + 3) L st) : GX E C S mc ms pc L (.int v :: va_rf (some a) :: st) := by
  intro H locs cells slots ls a1 a2 a3 a4 a5
  have hro : xRO S a = false := hro.elim (fun z => xRO_not a1 hkd (by unfold xROk; omega)) id
  obtain ⟨q0, hq0⟩ := xLs_at (E := E) (okX_lt a1 hkd) hkd hro
  have hq1 := hq0
  rw [xCell_o (by omega)] at hq1
  refine va_putN hC.1 hC.2.1 hC.2.2.2.2.2.2.1 hin ty0 hty hnm hC.2.2.2.2.2.1 hX.1.1 (xLs_P a1 H.size) (xLs_D a1 H.size) a2 q0 hq1 hc k hk (va_Nw.use rfl (hX.1.2.1 _ (nst_at hq rfl))) (fun x hx => by
    rcases h1 with z | z
    · rw [z] at hx; exact hx
    · exact u_same (hC.2.2.2.2.2.2.1 _ z) x hx) hfin hd hnw hfit (by have z := (List.getElem?_eq_some_iff.mp ht).1; unfold xfl; rw [List.length_map]; exact z) d (fun H1 locs1 hP hD hS => ?_)
  exact kk H1 locs1 cells slots ls (x_put hX a1 a2 hn hkd hro ht hq0 hP hS) hS a3 a4 a5
theorem gX_putR (hC : COk C cc own ret rf rl nL) (hX : XOk E C) {i n k f a N : Nat} {v : Option Nat} {C0 ref : String} {T : u_T} {ty0 : Nat → FieldType} {ty : FieldType} (d : decode cc pc = .ok (.putfield i, 3)) (hq : Cond.fieldLink own i ref (T k).2.1 (T k).2.2.1 ∈ lw_all) (hc : vwX[n]? = some (C0, T, N)) (hin : ∀ w ∈ u_ws C0 T N, w ∈ lw_all) (hty : ∀ k, k < N → parseFieldDescriptor (T k).2.2.1 = some (ty0 k)) (hnm : ∀ a, a < N → ∀ b, b < N → a ≠ b → (T a).2.1 ≠ (T b).2.1) (hk : k < N) (h1 : (T k).1 = ref ∨ Cond.sameField ref (T k).1 (T k).2.1 (T k).2.2.1 ∈ lw_all) (hfin : (T k).2.2.2 = false) (hd : parseFieldDescriptor (T k).2.2.1 = some ty) (hnw : narrow ty (va_rf v) = va_rf v) (hfit : fits ty (va_rf v) = true) (ht : (xTab.getD n [])[k]? = some (f, true)) (hn : n < 19) (hro : n ≠ 17 ∨ xRO S a = false) (hkd : xKD S a = some n) (kk : GX E C (sFR S f a v) mc ms (pc + 3) L st) : GX E C S mc ms pc L (va_rf v :: va_rf (some a) :: st) := by
  intro H locs cells slots ls a1 a2 a3 a4 a5
  have hro : xRO S a = false := hro.elim (fun z => xRO_not a1 hkd (by unfold xROk; omega)) id
  obtain ⟨q0, hq0⟩ := xLs_at (E := E) (okX_lt a1 hkd) hkd hro
  have hq1 := hq0
  rw [xCell_o (by omega)] at hq1
  refine va_put hC.1 hC.2.1 hC.2.2.2.2.2.2.1 hin ty0 hty hnm hC.2.2.2.2.2.1 hX.1.1 (xLs_P a1 H.size) (xLs_D a1 H.size) a2 q0 hq1 hc k hk (hC.2.2.2.2.2.2.1 _ hq) (fun x hx => by
    rcases h1 with z | z
    · rw [z] at hx; exact hx
    · exact u_same (hC.2.2.2.2.2.2.1 _ z) x hx) hfin hd hnw hfit (by have z := (List.getElem?_eq_some_iff.mp ht).1; unfold xfl; rw [List.length_map]; exact z) d (fun H1 locs1 hP hD hS => ?_)
  exact kk H1 locs1 cells slots ls (x_putR hX a1 a2 hn hkd hro ht hq0 hP hS) hS a3 a4 a5
theorem gX_putRF (hC : COk C cc own ret rf rl nL) (hX : XOk E C) {i n k f a N : Nat} {v : Option Nat} {C0 ref : String} {T : u_T} {ty0 : Nat → FieldType} {ty : FieldType} (d : decode cc pc = .ok (.putfield i, 3)) (hq : Cond.fieldLink own i ref (T k).2.1 (T k).2.2.1 ∈ lw_all) (hc : vwX[n]? = some (C0, T, N)) (hin : ∀ w ∈ u_ws C0 T N, w ∈ lw_all) (hty : ∀ k, k < N → parseFieldDescriptor (T k).2.2.1 = some (ty0 k)) (hnm : ∀ a, a < N → ∀ b, b < N → a ≠ b → (T a).2.1 ≠ (T b).2.1) (hk : k < N) (h1 : (T k).1 = ref) (hfin : (T k).2.2.2 = true) (hini : (cx_h C).name = "<init>") (hdecl : (T k).1 = own) (hd : parseFieldDescriptor (T k).2.2.1 = some ty) (hnw : narrow ty (va_rf v) = va_rf v) (hfit : fits ty (va_rf v) = true) (ht : (xTab.getD n [])[k]? = some (f, true)) (hn : n < 19) (hro : n ≠ 17 ∨ xRO S a = false) (hkd : xKD S a = some n) (kk : GX E C (sFR S f a v) mc ms (pc + 3) L st) : GX E C S mc ms pc L (va_rf v :: va_rf (some a) :: st) := by
  intro H locs cells slots ls a1 a2 a3 a4 a5
  have hro : xRO S a = false := hro.elim (fun z => xRO_not a1 hkd (by unfold xROk; omega)) id
  obtain ⟨q0, hq0⟩ := xLs_at (E := E) (okX_lt a1 hkd) hkd hro
  have hq1 := hq0
  rw [xCell_o (by omega)] at hq1
  refine va_putF hC.1 hC.2.1 hC.2.2.2.2.2.2.1 hin ty0 hty hnm hC.2.2.2.2.2.1 hX.1.1 (xLs_P a1 H.size) (xLs_D a1 H.size) a2 q0 hq1 hc k hk (hC.2.2.2.2.2.2.1 _ hq) (fun x hx => by rw [h1] at hx; exact hx) hfin hini hdecl hd hnw hfit (by have z := (List.getElem?_eq_some_iff.mp ht).1; unfold xfl; rw [List.length_map]; exact z) d (fun H1 locs1 hP hD hS => ?_)
  exact kk H1 locs1 cells slots ls (x_putR hX a1 a2 hn hkd hro ht hq0 hP hS) hS a3 a4 a5
theorem gX_putRN (hC : COk C cc own ret rf rl nL) (hX : XOk E C) {i n k f a N : Nat} {v : Option Nat} {C0 ref host : String} {T : u_T} {ty0 : Nat → FieldType} {ty : FieldType} (d : decode cc pc = .ok (.putfield i, 3)) (hq : Cond.fieldLinkNest own i ref (T k).2.1 (T k).2.2.1 host ∈ lw_tbl) (hc : vwX[n]? = some (C0, T, N)) (hin : ∀ w ∈ u_ws C0 T N, w ∈ lw_all) (hty : ∀ k, k < N → parseFieldDescriptor (T k).2.2.1 = some (ty0 k)) (hnm : ∀ a, a < N → ∀ b, b < N → a ≠ b → (T a).2.1 ≠ (T b).2.1) (hk : k < N) (h1 : (T k).1 = ref ∨ Cond.sameField ref (T k).1 (T k).2.1 (T k).2.2.1 ∈ lw_all) (hfin : (T k).2.2.2 = false) (hd : parseFieldDescriptor (T k).2.2.1 = some ty) (hnw : narrow ty (va_rf v) = va_rf v) (hfit : fits ty (va_rf v) = true) (ht : (xTab.getD n [])[k]? = some (f, true)) (hn : n < 19) (hro : n ≠ 17 ∨ xRO S a = false) (hkd : xKD S a = some n) (kk : GX E C (sFR S f a v) mc ms (pc + 3) L st) : GX E C S mc ms pc L (va_rf v :: va_rf (some a) :: st) := by
  intro H locs cells slots ls a1 a2 a3 a4 a5
  have hro : xRO S a = false := hro.elim (fun z => xRO_not a1 hkd (by unfold xROk; omega)) id
  obtain ⟨q0, hq0⟩ := xLs_at (E := E) (okX_lt a1 hkd) hkd hro
  have hq1 := hq0
  rw [xCell_o (by omega)] at hq1
  refine va_putN hC.1 hC.2.1 hC.2.2.2.2.2.2.1 hin ty0 hty hnm hC.2.2.2.2.2.1 hX.1.1 (xLs_P a1 H.size) (xLs_D a1 H.size) a2 q0 hq1 hc k hk (va_Nw.use rfl (hX.1.2.1 _ (nst_at hq rfl))) (fun x hx => by
    rcases h1 with z | z
    · rw [z] at hx; exact hx
    · exact u_same (hC.2.2.2.2.2.2.1 _ z) x hx) hfin hd hnw hfit (by have z := (List.getElem?_eq_some_iff.mp ht).1; unfold xfl; rw [List.length_map]; exact z) d (fun H1 locs1 hP hD hS => ?_)
  exact kk H1 locs1 cells slots ls (x_putR hX a1 a2 hn hkd hro ht hq0 hP hS) hS a3 a4 a5
theorem narrow_rf {ty : FieldType} (h : (∃ n, ty = .object n) ∨ ∃ t, ty = .array t) (r : Option Nat) : narrow ty (va_rf r) = va_rf r := by
  rcases h with ⟨n, rfl⟩ | ⟨t, rfl⟩ <;> cases r <;> rfl
theorem fits_rf {ty : FieldType} (h : (∃ n, ty = .object n) ∨ ∃ t, ty = .array t) (r : Option Nat) : fits ty (va_rf r) = true := by
  rcases h with ⟨n, rfl⟩ | ⟨t, rfl⟩ <;> cases r <;> rfl
/-- arrays -/
theorem gX_alen (hC : COk C cc own ret rf rl nL) (hX : XOk E C) {a n : Nat} (d : decode cc pc = .ok (.arraylength, 1)) (hn : 100 ≤ n ∧ n < 107) (hkd : xKD S a = some n) (kk : GX E C S mc ms (pc + 1) L (.int (Int32.ofNat (xLN S a)) :: st)) : GX E C S mc ms pc L (va_rf (some a) :: st) := by
  intro H locs cells slots ls a1 a2 a3 a4 a5
  obtain ⟨cell, q1, q2, q3, q4, q5, q6⟩ := x_arr hX.1 a1 hkd hn.1 hn.2
  exact W.alen hC.1 hC.2.1 q1 q2 q5 rfl rfl d (kk H locs cells slots ls a1 a2 a3 a4 a5)
theorem gX_iald (hC : COk C cc own ret rf rl nL) (hX : XOk E C) {a : Nat} {i : Int32} (d : decode cc pc = .ok (.iaload, 1)) (hkd : xKD S a = some 100) (hin : vp_in i (xLN S a)) (kk : GX E C S mc ms (pc + 1) L (.int (xAI S a i.toNatClampNeg) :: st)) : GX E C S mc ms pc L (.int i :: va_rf (some a) :: st) := by
  intro H locs cells slots ls a1 a2 a3 a4 a5
  obtain ⟨cell, q1, q2, q3, q4, q5, q6⟩ := x_arr hX.1 a1 hkd (by decide) (by decide)
  have hlt : i.toNatClampNeg < xLN S a := Nat.not_le.mp fun q => hin (Or.inr q)
  exact W.iald (v := .int (xAI S a i.toNatClampNeg)) hC.1 hC.2.1 q1 q2 q3 (fun z => hin (z.imp id (fun y => Nat.le_trans q4 y))) ((q6 _ hlt).trans rfl) rfl rfl d (kk H locs cells slots ls a1 a2 a3 a4 a5)
theorem gX_bald (hC : COk C cc own ret rf rl nL) (hX : XOk E C) {a : Nat} {i : Int32} (d : decode cc pc = .ok (.baload, 1)) (hkd : xKD S a = some 101) (hin : vp_in i (xLN S a)) (kk : GX E C S mc ms (pc + 1) L (.int (xAI S a i.toNatClampNeg) :: st)) : GX E C S mc ms pc L (.int i :: va_rf (some a) :: st) := by
  intro H locs cells slots ls a1 a2 a3 a4 a5
  obtain ⟨cell, q1, q2, q3, q4, q5, q6⟩ := x_arr hX.1 a1 hkd (by decide) (by decide)
  have hlt : i.toNatClampNeg < xLN S a := Nat.not_le.mp fun q => hin (Or.inr q)
  exact W.bald (v := .int (xAI S a i.toNatClampNeg)) hC.1 hC.2.1 q1 q2 q3 (fun z => hin (z.imp id (fun y => Nat.le_trans q4 y))) ((q6 _ hlt).trans rfl) rfl rfl d (kk H locs cells slots ls a1 a2 a3 a4 a5)
theorem xTy_obj {n : Nat} (hn : 102 ≤ n ∧ n < 107) : ∃ E0, xTy (n - 100) = .object E0 := by
  obtain rfl | rfl | rfl | rfl | rfl : n = 102 ∨ n = 103 ∨ n = 104 ∨ n = 105 ∨ n = 106 := by omega
  all_goals exact ⟨_, rfl⟩
theorem gX_aald (hC : COk C cc own ret rf rl nL) (hX : XOk E C) {a n : Nat} {i : Int32} (d : decode cc pc = .ok (.aaload, 1)) (hn : 102 ≤ n ∧ n < 107) (hkd : xKD S a = some n) (hin : vp_in i (xLN S a)) (kk : GX E C S mc ms (pc + 1) L (va_rf (xAR S a i.toNatClampNeg) :: st)) : GX E C S mc ms pc L (.int i :: va_rf (some a) :: st) := by
  intro H locs cells slots ls a1 a2 a3 a4 a5
  obtain ⟨cell, q1, q2, q3, q4, q5, q6⟩ := x_arr hX.1 a1 hkd (by omega) hn.2
  have hlt : i.toNatClampNeg < xLN S a := Nat.not_le.mp fun q => hin (Or.inr q)
  exact W.aald (v := va_rf (xAR S a i.toNatClampNeg)) hC.1 hC.2.1 q1 q2 (by obtain ⟨E0, hT⟩ := xTy_obj hn; rw [hT]; rfl) q3 (fun z => hin (z.imp id (fun y => Nat.le_trans q4 y))) ((q6 _ hlt).trans (by rw [if_pos (by unfold xIsR; simpa using hn.1)])) rfl rfl d (kk H locs cells slots ls a1 a2 a3 a4 a5)
theorem xAc_I {S : XS} {a n : Nat} (h : n < 102) : xAc S a n = (xLN S a, .inl (xAI S a)) := by
  unfold xAc xIsR
  rw [if_neg (by simp; omega)]
theorem xAc_R {S : XS} {a n : Nat} (h : 102 ≤ n) : xAc S a n = (xLN S a, .inr (.inr (.inr (.inr (xAR S a))))) := by
  unfold xAc xIsR
  rw [if_pos (by simpa using h)]
theorem x_setI {n a q0 : Nat} {g : Nat → Int32} {H H1 : Heap} {locs locs1 : List Loc} (hX : XOk E C) (a1 : okXA E (cx_A C) S H) (a2 : va_S (cx_A C) (cx_s C).heap H locs) (hn : 100 ≤ n ∧ n < 102) (hkd : xKD S a = some n) (hro : xRO S a = false) (hq0 : (xLs E S H.size)[q0]? = some (a, xCell E S a n)) (hP : va_P (xe_D E) vwX ((xLs E S H.size).set q0 (a, .inl (xe_c E (n - 100), xLN S a, .inl g))) H1) (hS : va_S (cx_A C) (cx_s C).heap H1 locs1) : okXA E (cx_A C) (sAIf S a g) H1 :=
  okX_set hX.2.1 a1 a2 hS hkd hro hq0 hP rfl rfl rfl (sAIf_clean a1.2.2.1 hkd) (by rw [xCell_a hn.1, xAc_I hn.2, show xAI (sAIf S a g) a = g from if_pos rfl]; rfl) (fun b m hb _ => sAIf_oth hb)
theorem x_setR {n a q0 : Nat} {g : Nat → Option Nat} {H H1 : Heap} {locs locs1 : List Loc} (hX : XOk E C) (a1 : okXA E (cx_A C) S H) (a2 : va_S (cx_A C) (cx_s C).heap H locs) (hn : 102 ≤ n) (hkd : xKD S a = some n) (hro : xRO S a = false) (hq0 : (xLs E S H.size)[q0]? = some (a, xCell E S a n)) (hP : va_P (xe_D E) vwX ((xLs E S H.size).set q0 (a, .inl (xe_c E (n - 100), xLN S a, .inr (.inr (.inr (.inr g)))))) H1) (hS : va_S (cx_A C) (cx_s C).heap H1 locs1) : okXA E (cx_A C) (sARf S a g) H1 :=
  okX_set hX.2.1 a1 a2 hS hkd hro hq0 hP rfl rfl rfl (sARf_clean a1.2.2.1 hkd) (by rw [xCell_a (by omega), xAc_R hn, show xAR (sARf S a g) a = g from if_pos rfl]; rfl) (fun b m hb _ => sARf_oth hb)
theorem gX_iast (hC : COk C cc own ret rf rl nL) (hX : XOk E C) {a : Nat} {i v : Int32} (d : decode cc pc = .ok (.iastore, 1)) (hkd : xKD S a = some 100) (hin : vp_in i (xLN S a)) (kk : GX E C (sAI S a i.toNatClampNeg v) mc ms (pc + 1) L st) : GX E C S mc ms pc L (.int v :: .int i :: va_rf (some a) :: st) := by
  intro H locs cells slots ls a1 a2 a3 a4 a5
  have hro := xRO_not a1 hkd (by unfold xROk; omega)
  obtain ⟨q0, hq0⟩ := xLs_at (E := E) (okX_lt a1 hkd) hkd hro
  have hq1 := hq0
  rw [xCell_a (by omega), xAc_I (by omega)] at hq1
  refine va_iast hC.1 hC.2.1 hX.1.1 (xLs_P a1 H.size) (xLs_D a1 H.size) a2 q0 0 hq1 (xTys_get (by omega)) hin d (fun H1 locs1 hP hD hS => ?_)
  exact kk H1 locs1 cells slots ls (x_setI hX a1 a2 (by omega) hkd hro hq0 hP hS) hS a3 a4 a5
theorem gX_bast (hC : COk C cc own ret rf rl nL) (hX : XOk E C) {a : Nat} {i v : Int32} (d : decode cc pc = .ok (.bastore, 1)) (hkd : xKD S a = some 101) (hro : xRO S a = false) (hin : vp_in i (xLN S a)) (kk : GX E C (sAI S a i.toNatClampNeg (vp_nar .byte v)) mc ms (pc + 1) L st) : GX E C S mc ms pc L (.int v :: .int i :: va_rf (some a) :: st) := by
  intro H locs cells slots ls a1 a2 a3 a4 a5
  obtain ⟨q0, hq0⟩ := xLs_at (E := E) (okX_lt a1 hkd) hkd hro
  have hq1 := hq0
  rw [xCell_a (by omega), xAc_I (by omega)] at hq1
  refine va_bast hC.1 hC.2.1 hX.1.1 (xLs_P a1 H.size) (xLs_D a1 H.size) a2 q0 1 hq1 (xTys_get (by omega)) hin d (fun H1 locs1 hP hD hS => ?_)
  exact kk H1 locs1 cells slots ls (x_setI hX a1 a2 (by omega) hkd hro hq0 hP hS) hS a3 a4 a5
theorem gX_aastN (hC : COk C cc own ret rf rl nL) (hX : XOk E C) {a n : Nat} {i : Int32} (d : decode cc pc = .ok (.aastore, 1)) (hn : 102 ≤ n ∧ n < 107) (hkd : xKD S a = some n) (hro : xRO S a = false) (hin : vp_in i (xLN S a)) (kk : GX E C (sAR S a i.toNatClampNeg none) mc ms (pc + 1) L st) : GX E C S mc ms pc L (va_rf none :: .int i :: va_rf (some a) :: st) := by
  intro H locs cells slots ls a1 a2 a3 a4 a5
  obtain ⟨q0, hq0⟩ := xLs_at (E := E) (okX_lt a1 hkd) hkd hro
  have hq1 := hq0
  rw [xCell_a (by omega), xAc_R hn.1] at hq1
  have hT : ∃ E0, xTy (n - 100) = .object E0 := by
    obtain rfl | rfl | rfl | rfl | rfl : n = 102 ∨ n = 103 ∨ n = 104 ∨ n = 105 ∨ n = 106 := by omega
    all_goals exact ⟨_, rfl⟩
  obtain ⟨E0, hT⟩ := hT
  refine va_astqN hC.1 hC.2.1 hX.1.1 (xLs_P a1 H.size) (xLs_D a1 H.size) a2 q0 (n - 100) hq1 ((xTys_get (by omega)).trans (by rw [hT])) hin d (fun H1 locs1 hP hD hS => ?_)
  exact kk H1 locs1 cells slots ls (x_setR hX a1 a2 hn.1 hkd hro hq0 hP hS) hS a3 a4 a5
/-- an object of the array's own class is stored -/
theorem gX_aast (hC : COk C cc own ret rf rl nL) (hX : XOk E C) {a n v nv : Nat} {i : Int32} {r : vw_C} (d : decode cc pc = .ok (.aastore, 1)) (hn : 102 ≤ n ∧ n < 107) (hkd : xKD S a = some n) (hro : xRO S a = false) (hin : vp_in i (xLN S a)) (hv : xKD S v = some nv) (hc : vwX[nv]? = some r) (hnv : nv < 19 ∧ nv ≠ 17) (hcl : xTy (n - 100) = .object r.1) (kk : GX E C (sAR S a i.toNatClampNeg (some v)) mc ms (pc + 1) L st) : GX E C S mc ms pc L (va_rf (some v) :: .int i :: va_rf (some a) :: st) := by
  intro H locs cells slots ls a1 a2 a3 a4 a5
  obtain ⟨q0, hq0⟩ := xLs_at (E := E) (okX_lt a1 hkd) hkd hro
  have hq1 := hq0
  rw [xCell_a (by omega), xAc_R hn.1] at hq1
  obtain ⟨qk, hqk⟩ := xLs_at (E := E) (okX_lt a1 hv) hv (xRO_not a1 hv (by unfold xROk; omega))
  rw [xCell_o (by omega)] at hqk
  refine va_astq hC.1 hC.2.1 hX.1.1 (xLs_P a1 H.size) (xLs_D a1 H.size) a2 q0 (n - 100) qk nv hq1 ((xTys_get (by omega)).trans (by rw [hcl])) hqk hc hin d (fun H1 locs1 hP hD hS => ?_)
  exact kk H1 locs1 cells slots ls (x_setR hX a1 a2 hn.1 hkd hro hq0 hP hS) hS a3 a4 a5
/-- any object is stored in an array of Objects -/
theorem gX_aastO (hC : COk C cc own ret rf rl nL) (hX : XOk E C) {a v nv : Nat} {i : Int32} {r : vw_C} (d : decode cc pc = .ok (.aastore, 1)) (hkd : xKD S a = some 102) (hro : xRO S a = false) (hin : vp_in i (xLN S a)) (hv : xKD S v = some nv) (hc : vwX[nv]? = some r) (hnv : nv < 19 ∧ nv ≠ 17) (hcl : Cond.castable r.1 "java/lang/Object" ∈ lw_tbl) (kk : GX E C (sAR S a i.toNatClampNeg (some v)) mc ms (pc + 1) L st) : GX E C S mc ms pc L (va_rf (some v) :: .int i :: va_rf (some a) :: st) := by
  intro H locs cells slots ls a1 a2 a3 a4 a5
  obtain ⟨q0, hq0⟩ := xLs_at (E := E) (okX_lt a1 hkd) hkd hro
  have hq1 := hq0
  rw [xCell_a (by omega), xAc_R (by omega)] at hq1
  obtain ⟨qk, hqk⟩ := xLs_at (E := E) (okX_lt a1 hv) hv (xRO_not a1 hv (by unfold xROk; omega))
  rw [xCell_o (by omega)] at hqk
  refine va_astqO hC.1 hC.2.1 hX.1.1 (xLs_P a1 H.size) (xLs_D a1 H.size) a2 q0 2 qk nv hq1 (xTys_get (by omega)) (hX.1.2.1 _ (nst_at hcl rfl)) hqk hc hin d (fun H1 locs1 hP hD hS => ?_)
  exact kk H1 locs1 cells slots ls (x_setR hX a1 a2 (by omega) hkd hro hq0 hP hS) hS a3 a4 a5
/-- an object is made -/
theorem gX_new (hC : COk C cc own ret rf rl nL) (hX : XOk E C) {i n N : Nat} {C0 : String} {T : u_T} {ty0 : Nat → FieldType} (d : decode cc pc = .ok (.new i, 3)) (hcl : Cond.classLink own i C0 ∈ lw_all) (hinst : Cond.instantiable C0 N ∈ lw_all) (hini : Cond.initialized C0 ∈ lw_all) (hc : vwX[n]? = some (C0, T, N)) (hin : ∀ w ∈ u_ws C0 T N, w ∈ lw_all) (hty : ∀ k, k < N → parseFieldDescriptor (T k).2.2.1 = some (ty0 k)) (hn : n < 19) (hdf : ∀ j, j < N → defaultValue (ty0 j) = vp_V ((xTab.getD n []).map (fun q => if q.2 = true then .null else .int 0)) j) (hmc : 1 ≤ mc) (hms : N ≤ ms) (kk : ∀ q : Nat, xKD S q = none → GX E C (sNew S q n) (mc - 1) (ms - N) (pc + 3) L (va_rf (some q) :: st)) : GX E C S mc ms pc L st := by
  intro H locs cells slots ls a1 a2 a3 a4 a5
  obtain ⟨-, -, -, -, -, -, -, -, -, hrc, hrs, -⟩ := id hC
  refine va_new hC.1 hC.2.1 hC.2.2.2.2.2.2.1 hin ty0 hty hC.2.2.2.2.2.1 (hC.2.2.2.2.2.2.1 _ hcl) (hC.2.2.2.2.2.2.1 _ hinst) (hC.2.2.2.2.2.2.1 _ hini) hX.1.1 (xLs_P a1 H.size) (xLs_D a1 H.size) a2 hX.2.1 hc hdf (by rw [hrc]; omega) (by rw [hrs]; omega) d (fun q H1 hP hD hS => ?_)
  obtain ⟨h1, h2⟩ := okX_push (S' := sNew S q n) (n := n) hX.2.1 a1 a2 hS hP hD (fun b => rfl) rfl rfl (fun _ _ => rfl) (fun _ _ => rfl) (fun _ => rfl) (fun _ => rfl) (fun hq => by
    rw [xCell_o (by omega)]
    congr 2
    refine List.map_congr_left (fun p _ => ?_)
    have hcq := a1.2.2.1 q hq
    unfold xFv
    rw [show xFR (sNew S q n) p.1 q = none from hcq.2.1 p.1, show xFI (sNew S q n) p.1 q = 0 from hcq.1 p.1]
    rfl) (fun b m _ _ => rfl)
  exact kk q h2 H1 locs (cells + 1) (slots + N) ls h1 hS (by omega) (by omega) a5
theorem x_newa {n k q : Nat} {cA : ClassId} {H H1 : Heap} {locs : List Loc} {e0 : vp_A} (hX : XOk E C) (a1 : okXA E (cx_A C) S H) (a2 : va_S (cx_A C) (cx_s C).heap H locs) (hn : 100 ≤ n ∧ n < 107) (hcA : cA = xe_c E (n - 100)) (he : xKD S q = none → xAc (sNewA S q n k) q n = e0) (hP : va_P (xe_D E) vwX (xLs E S H.size ++ [(q, .inl (cA, e0))]) H1) (hD : va_D (cx_A C) (xLs E S H.size ++ [(q, .inl (cA, e0))])) (hS : va_S (cx_A C) (cx_s C).heap H1 locs) : okXA E (cx_A C) (sNewA S q n k) H1 ∧ xKD S q = none :=
  okX_push (S' := sNewA S q n k) (n := n) hX.2.1 a1 a2 hS hP hD (fun b => rfl) rfl rfl (fun _ _ => rfl) (fun _ _ => rfl) (fun _ => rfl) (fun _ => rfl) (fun hq => by rw [xCell_a hn.1, he hq, hcA]) (fun b m hb _ => xCell_cong (fun _ => rfl) (fun _ => rfl) rfl rfl (if_neg hb))
theorem x_len0 {S : XS} {q n k : Nat} : xLN (sNewA S q n k) q = k := if_pos rfl
theorem gX_newi (hC : COk C cc own ret rf rl nL) (hX : XOk E C) {len : Int32} (d : decode cc pc = .ok (.newarray .int, 2)) (hcl : Cond.arrayClass .int ∈ lw_all) (h0 : ¬ len < 0) (hb : len.toNatClampNeg ≤ 100000) (hmc : 1 ≤ mc) (hms : len.toNatClampNeg ≤ ms) (kk : ∀ q : Nat, xKD S q = none → GX E C (sNewA S q 100 len.toNatClampNeg) (mc - 1) (ms - len.toNatClampNeg) (pc + 2) L (va_rf (some q) :: st)) : GX E C S mc ms pc L (.int len :: st) := by
  intro H locs cells slots ls a1 a2 a3 a4 a5
  obtain ⟨-, -, -, -, -, -, -, -, -, hrc, hrs, -⟩ := id hC
  refine va_newa (atype := .int) (ty := .int) (a0 := (len.toNatClampNeg, .inl (fun _ => 0))) hC.1 hC.2.1 (hC.2.2.2.2.2.2.1 _ hcl) rfl hX.1.1 (xLs_P a1 H.size) (xLs_D a1 H.size) a2 hX.2.1 (fun cA => rfl) h0 rfl (Nat.le_trans (Nat.mul_le_mul_right _ hb) (by decide)) (by rw [hrc]; omega) (by rw [hrs]; omega) d (fun q cA H1 hK hP hD hS => ?_)
  have hcA : cA = xe_c E 0 := va_RA_inj (hK.2 (xTys E).length (cA, .int) (by simp)).2 (hX.1.1.2 0 _ (xTys_get (by omega))).2
  obtain ⟨h1, h2⟩ := x_newa (n := 100) (k := len.toNatClampNeg) hX a1 a2 (by omega) hcA (fun hq => by
    rw [xAc_I (by omega), x_len0, show xAI (sNewA S q 100 len.toNatClampNeg) q = fun _ => 0 from funext (a1.2.2.1 q hq).2.2.1]) hP hD hS
  exact kk q h2 H1 locs (cells + 1) (slots + len.toNatClampNeg) ls h1 hS (by omega) (by omega) a5
theorem gX_newb (hC : COk C cc own ret rf rl nL) (hX : XOk E C) {len : Int32} (d : decode cc pc = .ok (.newarray .byte, 2)) (hcl : Cond.arrayClass .byte ∈ lw_all) (h0 : ¬ len < 0) (hb : len.toNatClampNeg ≤ 100000) (hmc : 1 ≤ mc) (hms : len.toNatClampNeg ≤ ms) (kk : ∀ q : Nat, xKD S q = none → GX E C (sNewA S q 101 len.toNatClampNeg) (mc - 1) (ms - len.toNatClampNeg) (pc + 2) L (va_rf (some q) :: st)) : GX E C S mc ms pc L (.int len :: st) := by
  intro H locs cells slots ls a1 a2 a3 a4 a5
  obtain ⟨-, -, -, -, -, -, -, -, -, hrc, hrs, -⟩ := id hC
  refine va_newa (atype := .byte) (ty := .byte) (a0 := (len.toNatClampNeg, .inl (fun _ => 0))) hC.1 hC.2.1 (hC.2.2.2.2.2.2.1 _ hcl) rfl hX.1.1 (xLs_P a1 H.size) (xLs_D a1 H.size) a2 hX.2.1 (fun cA => rfl) h0 rfl (Nat.le_trans (Nat.mul_le_mul_right _ hb) (by decide)) (by rw [hrc]; omega) (by rw [hrs]; omega) d (fun q cA H1 hK hP hD hS => ?_)
  have hcA : cA = xe_c E 1 := va_RA_inj (hK.2 (xTys E).length (cA, .byte) (by simp)).2 (hX.1.1.2 1 _ (xTys_get (by omega))).2
  obtain ⟨h1, h2⟩ := x_newa (n := 101) (k := len.toNatClampNeg) hX a1 a2 (by omega) hcA (fun hq => by
    rw [xAc_I (by omega), x_len0, show xAI (sNewA S q 101 len.toNatClampNeg) q = fun _ => 0 from funext (a1.2.2.1 q hq).2.2.1]) hP hD hS
  exact kk q h2 H1 locs (cells + 1) (slots + len.toNatClampNeg) ls h1 hS (by omega) (by omega) a5
theorem gX_newq (hC : COk C cc own ret rf rl nL) (hX : XOk E C) {i n : Nat} {C0 : String} {len : Int32} (d : decode cc pc = .ok (.anewarray i, 3)) (hcl : Cond.classLink own i C0 ∈ lw_all) (hao : C0 ∈ xAOl) (hn : 102 ≤ n ∧ n < 107) (hty : xTy (n - 100) = .object C0) (h0 : ¬ len < 0) (hb : len.toNatClampNeg ≤ 100000) (hmc : 1 ≤ mc) (hms : len.toNatClampNeg ≤ ms) (kk : ∀ q : Nat, xKD S q = none → GX E C (sNewA S q n len.toNatClampNeg) (mc - 1) (ms - len.toNatClampNeg) (pc + 3) L (va_rf (some q) :: st)) : GX E C S mc ms pc L (.int len :: st) := by
  intro H locs cells slots ls a1 a2 a3 a4 a5
  obtain ⟨-, -, -, -, -, -, -, -, -, hrc, hrs, -⟩ := id hC
  refine va_newq hC.1 hC.2.1 hC.2.2.2.2.2.1 (hC.2.2.2.2.2.2.1 _ hcl) (hX.1.2.2.1 _ hao) hX.1.1 (xLs_P a1 H.size) (xLs_D a1 H.size) a2 hX.2.1 h0 rfl (Nat.le_trans (Nat.mul_le_mul_right _ hb) (by decide)) (by rw [hrc]; omega) (by rw [hrs]; omega) d (fun q cA H1 hK hP hD hS => ?_)
  have hcA : cA = xe_c E (n - 100) := by
    have z := (hX.1.1.2 (n - 100) _ (xTys_get (by omega))).2
    rw [hty] at z
    exact va_RA_inj (hK.2 (xTys E).length (cA, .object C0) (by simp)).2 z
  obtain ⟨h1, h2⟩ := x_newa (n := n) (k := len.toNatClampNeg) hX a1 a2 (by omega) hcA (fun hq => by
    rw [xAc_R hn.1, x_len0, show xAR (sNewA S q n len.toNatClampNeg) q = fun _ => none from funext (a1.2.2.1 q hq).2.2.2.1]) hP hD hS
  exact kk q h2 H1 locs (cells + 1) (slots + len.toNatClampNeg) ls h1 hS (by omega) (by omega) a5
theorem x_recv {H : Heap} {a n : Nat} {r : vw_C} (hX : XOk E C) (a1 : okXA E (cx_A C) S H) (hkd : xKD S a = some n) (hc : vwX[n]? = some r) (hn : n < 19 ∧ n ≠ 17) : ∃ cell : Cell, H[a]? = some cell ∧ cell.vm.isStatics = false ∧ (cx_s C).vm.findClass r.1 = some cell.cls := by
  have hro := xRO_not a1 hkd (by unfold xROk; omega)
  obtain ⟨q0, hq0⟩ := xLs_at (E := E) (okX_lt a1 hkd) hkd hro
  rw [xCell_o (by omega)] at hq0
  exact va_recv hX.1.1 (xLs_P a1 H.size) hc hq0
theorem gX_cast (hC : COk C cc own ret rf rl nL) (hX : XOk E C) {i n a : Nat} {r : vw_C} (d : decode cc pc = .ok (.checkcast i, 3)) (hl : Cond.classLink own i r.1 ∈ lw_all) (hc : vwX[n]? = some r) (hn : n < 19 ∧ n ≠ 17) (hkd : xKD S a = some n) (kk : GX E C S mc ms (pc + 3) L (va_rf (some a) :: st)) : GX E C S mc ms pc L (va_rf (some a) :: st) :=
  fun H locs cells slots ls a1 a2 a3 a4 a5 => va_castS hC.1 hC.2.1 hC.2.2.2.2.2.1 (hC.2.2.2.2.2.2.1 _ hl) (hX.1.1.1 n _ hc).2 (x_recv hX a1 hkd hc hn) d (kk H locs cells slots ls a1 a2 a3 a4 a5)
/-- Object's constructor -/
theorem gX_oinit (hC : COk C cc own ret rf rl nL) {i a : Nat} (d : decode cc pc = .ok (.invokespecial i, 3)) (h1 : Cond.methodLink own i objectInit ∈ lw_all) (h2 : Cond.instanceMethod objectInit ∈ lw_all) (h3 : Cond.code objectInit ⟨#[0xb1]⟩ 1 none ∈ lw_all) (hst : st.length ≤ 2) (hrf : 1 ≤ rf) (hrl : 16 ≤ rl) (kk : GX E C S mc ms (pc + 3) L st) : GX E C S mc ms pc L (va_rf (some a) :: st) := by
  intro H locs cells slots ls a1 a2 a3 a4 a5
  obtain ⟨-, -, -, -, hml, -, -, hf, hl, -, -, -⟩ := id hC
  have hcat : (st.map fun v => v.category).sum ≤ 4 := by
    match st, hst with
    | [], _ => decide
    | [v], _ => have := cat_2 v; simp; omega
    | [v, u], _ => have := cat_2 v; have := cat_2 u; simp; omega
  exact W.objInit hC.1 hC.2.1 hC.2.2.2.2.2.1 (hC.2.2.2.2.2.2.1 _ h1) (hC.2.2.2.2.2.2.1 _ h2) (hC.2.2.2.2.2.2.1 _ h3) rfl (by rw [hml]; exact a5.1) rfl d (by rw [hf]; exact hrf) (by rw [hl]; show 2 * 0 + (st.map fun v => v.category).sum + 12 ≤ rl; omega) (kk H locs cells slots ls a1 a2 a3 a4 a5)
end GXR
section GXT
variable {E : XE} {C : Cx} {S : XS} {mc ms pc : Nat} {L : List (Option Value)} {st : List Value} {cc : ByteArray} {own : String} {ret : Option FieldType} {rf rl nL : Nat}
theorem kd_new {S : XS} {a q n m : Nat} (h : xKD S a = some m) (hq : xKD S q = none) : xKD (sNew S q n) a = some m := by
  show (if a = q then some n else xKD S a) = some m
  rw [if_neg (fun e => by subst e; rw [h] at hq; cases hq)]
  exact h
theorem kd_newA {S : XS} {a q n m k : Nat} (h : xKD S a = some m) (hq : xKD S q = none) : xKD (sNewA S q n k) a = some m := by
  show (if a = q then some n else xKD S a) = some m
  rw [if_neg (fun e => by subst e; rw [h] at hq; cases hq)]
  exact h
theorem kd_self {S : XS} {q n : Nat} : xKD (sNew S q n) q = some n := if_pos rfl
theorem kd_selfA {S : XS} {q n k : Nat} : xKD (sNewA S q n k) q = some n := if_pos rfl
theorem g_top0 {ω : Type} {ok : ω → Heap → Prop} {w : ω} {r : Option Nat} {a : Nat} (e : r = some a) (k : Gw ok C w mc ms pc L (va_rf (some a) :: st)) : Gw ok C w mc ms pc L (va_rf r :: st) := by rw [e]; exact k
theorem g_top1 {ω : Type} {ok : ω → Heap → Prop} {w : ω} {v1 : Value} {r : Option Nat} {a : Nat} (e : r = some a) (k : Gw ok C w mc ms pc L (v1 :: va_rf (some a) :: st)) : Gw ok C w mc ms pc L (v1 :: va_rf r :: st) := by rw [e]; exact k
theorem g_top2 {ω : Type} {ok : ω → Heap → Prop} {w : ω} {v1 v2 : Value} {r : Option Nat} {a : Nat} (e : r = some a) (k : Gw ok C w mc ms pc L (v1 :: v2 :: va_rf (some a) :: st)) : Gw ok C w mc ms pc L (v1 :: v2 :: va_rf r :: st) := by rw [e]; exact k
theorem g_top3 {ω : Type} {ok : ω → Heap → Prop} {w : ω} {v1 v2 v3 : Value} {r : Option Nat} {a : Nat} (e : r = some a) (k : Gw ok C w mc ms pc L (v1 :: v2 :: v3 :: va_rf (some a) :: st)) : Gw ok C w mc ms pc L (v1 :: v2 :: v3 :: va_rf r :: st) := by rw [e]; exact k
theorem g_top4 {ω : Type} {ok : ω → Heap → Prop} {w : ω} {v1 v2 v3 v4 : Value} {r : Option Nat} {a : Nat} (e : r = some a) (k : Gw ok C w mc ms pc L (v1 :: v2 :: v3 :: v4 :: va_rf (some a) :: st)) : Gw ok C w mc ms pc L (v1 :: v2 :: v3 :: v4 :: va_rf r :: st) := by rw [e]; exact k
theorem g_top5 {ω : Type} {ok : ω → Heap → Prop} {w : ω} {v1 v2 v3 v4 v5 : Value} {r : Option Nat} {a : Nat} (e : r = some a) (k : Gw ok C w mc ms pc L (v1 :: v2 :: v3 :: v4 :: v5 :: va_rf (some a) :: st)) : Gw ok C w mc ms pc L (v1 :: v2 :: v3 :: v4 :: v5 :: va_rf r :: st) := by rw [e]; exact k
theorem g_top6 {ω : Type} {ok : ω → Heap → Prop} {w : ω} {v1 v2 v3 v4 v5 v6 : Value} {r : Option Nat} {a : Nat} (e : r = some a) (k : Gw ok C w mc ms pc L (v1 :: v2 :: v3 :: v4 :: v5 :: v6 :: va_rf (some a) :: st)) : Gw ok C w mc ms pc L (v1 :: v2 :: v3 :: v4 :: v5 :: v6 :: va_rf r :: st) := by rw [e]; exact k
/-- a static that is only read -/
theorem gX_gets (hC : COk C cc own ret rf rl nL) (hX : XOk E C) {i j : Nat} {Cs n ds ref : String} (d : decode cc pc = .ok (.getstatic i, 3)) (ht : (Cs, n, ds, j) ∈ xZl) (hq : Cond.fieldLink own i ref n ds ∈ lw_all) (h1 : Cs = ref) (kk : GX E C S mc ms (pc + 3) L (va_rf (some (xST S j)) :: st)) : GX E C S mc ms pc L st := by
  intro H locs cells slots ls a1 a2 a3 a4 a5
  have hZ := hX.2.2.1 _ ht
  refine va_gets hC.1 hC.2.1 hZ a2 hC.2.2.2.2.2.1 (hC.2.2.2.2.2.2.1 _ hq) (fun x hx => h1 ▸ hx) d ?_
  have e : xST S j = xe_k E j := by rw [a1.2.2.2.2.2.2]
  show W _ _ _ _ _ _ _ _ _ _ _ _ _ _ _ (F0 _ _ _ (va_rf (some (xe_k E j)) :: _))
  rw [← e]
  exact kk H locs cells slots ls a1 a2 a3 a4 a5
theorem gX_getsI (hC : COk C cc own ret rf rl nL) (hX : XOk E C) {i : Nat} {v : Int32} {Cs n ds ref : String} (d : decode cc pc = .ok (.getstatic i, 3)) (ht : (Cs, n, ds, v) ∈ xZi) (hq : Cond.fieldLink own i ref n ds ∈ lw_all) (h1 : Cs = ref) (kk : GX E C S mc ms (pc + 3) L (.int v :: st)) : GX E C S mc ms pc L st := by
  intro H locs cells slots ls a1 a2 a3 a4 a5
  have hZ := hX.2.2.2.1 _ ht
  exact va_gets hC.1 hC.2.1 hZ a2 hC.2.2.2.2.2.1 (hC.2.2.2.2.2.2.1 _ hq) (fun x hx => h1 ▸ hx) d (kk H locs cells slots ls a1 a2 a3 a4 a5)
theorem gX_getsN (hC : COk C cc own ret rf rl nL) (hX : XOk E C) {i j : Nat} {Cs n ds ref host : String} (d : decode cc pc = .ok (.getstatic i, 3)) (ht : (Cs, n, ds, j) ∈ xZl) (hq : Cond.fieldLinkNest own i ref n ds host ∈ lw_tbl) (h1 : Cs = ref) (kk : GX E C S mc ms (pc + 3) L (va_rf (some (xST S j)) :: st)) : GX E C S mc ms pc L st := by
  intro H locs cells slots ls a1 a2 a3 a4 a5
  have hZ := hX.2.2.1 _ ht
  refine va_getsN hC.1 hC.2.1 hZ a2 hC.2.2.2.2.2.1 (va_Nw.use rfl (hX.1.2.1 _ (nst_at hq rfl))) (fun x hx => h1 ▸ hx) d ?_
  have e : xST S j = xe_k E j := by rw [a1.2.2.2.2.2.2]
  show W _ _ _ _ _ _ _ _ _ _ _ _ _ _ _ (F0 _ _ _ (va_rf (some (xe_k E j)) :: _))
  rw [← e]
  exact kk H locs cells slots ls a1 a2 a3 a4 a5
theorem gX_ldcs (hC : COk C cc own ret rf rl nL) (hX : XOk E C) {i j : Nat} {tx : String} (d : decode cc pc = .ok (.ldc i, 2)) (ht : (own, i, tx, j) ∈ xStrl) (kk : GX E C S mc ms (pc + 2) L (va_rf (some (xST S j)) :: st)) : GX E C S mc ms pc L st := by
  intro H locs cells slots ls a1 a2 a3 a4 a5
  refine va_ldcS hC.1 hC.2.1 hC.2.2.2.2.2.1 (hX.1.2.2.2.2.1 _ ht) d ?_
  have e : xST S j = xe_k E j := by rw [a1.2.2.2.2.2.2]
  show W _ _ _ _ _ _ _ _ _ _ _ _ _ _ _ (F0 _ _ _ (va_rf (some (xe_k E j)) :: _))
  rw [← e]
  exact kk H locs cells slots ls a1 a2 a3 a4 a5
/-- System.arraycopy, of ints or bytes -/
theorem gX_acopy (hC : COk C cc own ret rf rl nL) (hX : XOk E C) {i n a b : Nat} {sp dp len : Int32} (d : decode cc pc = .ok (.invokestatic i, 3)) (hl : Cond.methodLink own i arraycopyName ∈ lw_all) (hnat : Cond.native arraycopyName ∈ lw_all) (hst0 : Cond.static arraycopyName ∈ lw_all) (hini : Cond.initialized "java/lang/System" ∈ lw_all) (hn : n = 100 ∨ n = 101) (hka : xKD S a = some n) (hkb : xKD S b = some n) (hra : xRO S a = false) (hrb : xRO S b = false) (h1 : ¬ sp < 0) (h2 : ¬ dp < 0) (h3 : ¬ len < 0) (h4 : sp.toNatClampNeg + len.toNatClampNeg ≤ xLN S a) (h5 : dp.toNatClampNeg + len.toNatClampNeg ≤ xLN S b) (hfit : ∀ j, j < len.toNatClampNeg → fits (xTy (n - 100)) (.int (xAI S a (sp.toNatClampNeg + j))) = true) (hst : st.length ≤ 2) (hrf : 1 ≤ rf) (hrl : 32 ≤ rl) (kk : GX E C (sAIf S b (va_cpy (xAI S a) (xAI S b) sp.toNatClampNeg dp.toNatClampNeg len.toNatClampNeg)) mc ms (pc + 3) L st) : GX E C S mc ms pc L (.int len :: .int dp :: va_rf (some b) :: .int sp :: va_rf (some a) :: st) := by
  intro H locs cells slots ls a1 a2 a3 a4 a5
  obtain ⟨hx, hb, hr, hlk0, hml, hown, hts, hrf', hrl', hrc, hrs, hnl⟩ := id hC
  obtain ⟨q0, hq0⟩ := xLs_at (E := E) (okX_lt a1 hka) hka hra
  obtain ⟨q1, hq1⟩ := xLs_at (E := E) (okX_lt a1 hkb) hkb hrb
  have hq2 := hq1
  rw [xCell_a (by omega), xAc_I (by omega)] at hq0 hq2
  have hcat : (st.map fun v => v.category).sum ≤ 4 := by
    match st, hst with
    | [], _ => decide
    | [v], _ => have := cat_2 v; simp; omega
    | [v, u], _ => have := cat_2 v; have := cat_2 u; simp; omega
  have hw : nativeFrameWords "java/lang/System" "arraycopy" 5 + 11 ≤ 28 := by decide
  refine va_copyi hx hb (by rw [hml]; exact a5.1.symm) hown (hts _ hl) (hts _ hnat) (hts _ hst0) (hts _ hini) hX.1.1 (xLs_P a1 H.size) (xLs_D a1 H.size) a2 q0 q1 (n - 100) (n - 100) hq0 hq2 (xTys_get (by omega)) (xTys_get (by omega)) (by rcases hn with rfl | rfl <;> rfl) h1 h2 h3 h4 h5 hfit (by rw [hrf']; exact hrf) (by rw [hrl']; omega) d (fun H1 locs1 hP hD hS => ?_)
  exact kk H1 locs1 cells slots ls (x_setI hX a1 a2 (by omega) hkb hrb hq1 hP hS) hS a3 a4 a5
/-- System.arraycopy of objects from an array of Objects to one -/
theorem gX_acopyO (hC : COk C cc own ret rf rl nL) (hX : XOk E C) {i a b : Nat} {sp dp len : Int32} (d : decode cc pc = .ok (.invokestatic i, 3)) (hl : Cond.methodLink own i arraycopyName ∈ lw_all) (hnat : Cond.native arraycopyName ∈ lw_all) (hst0 : Cond.static arraycopyName ∈ lw_all) (hini : Cond.initialized "java/lang/System" ∈ lw_all) (hka : xKD S a = some 102) (hkb : xKD S b = some 102) (hra : xRO S a = false) (hrb : xRO S b = false) (h1 : ¬ sp < 0) (h2 : ¬ dp < 0) (h3 : ¬ len < 0) (h4 : sp.toNatClampNeg + len.toNatClampNeg ≤ xLN S a) (h5 : dp.toNatClampNeg + len.toNatClampNeg ≤ xLN S b) (hel : ∀ j, j < len.toNatClampNeg → ∀ y, xAR S a (sp.toNatClampNeg + j) = some y → ∃ n r, xKD S y = some n ∧ (n < 19 ∧ n ≠ 17) ∧ vwX[n]? = some r ∧ Cond.castable r.1 "java/lang/Object" ∈ lw_tbl) (hst : st.length ≤ 2) (hrf : 1 ≤ rf) (hrl : 32 ≤ rl) (kk : GX E C (sARf S b (va_cpy (xAR S a) (xAR S b) sp.toNatClampNeg dp.toNatClampNeg len.toNatClampNeg)) mc ms (pc + 3) L st) : GX E C S mc ms pc L (.int len :: .int dp :: va_rf (some b) :: .int sp :: va_rf (some a) :: st) := by
  intro H locs cells slots ls a1 a2 a3 a4 a5
  obtain ⟨hx, hb, hr, hlk0, hml, hown, hts, hrf', hrl', hrc, hrs, hnl⟩ := id hC
  obtain ⟨q0, hq0⟩ := xLs_at (E := E) (okX_lt a1 hka) hka hra
  obtain ⟨q1, hq1⟩ := xLs_at (E := E) (okX_lt a1 hkb) hkb hrb
  have hq2 := hq1
  rw [xCell_a (by omega), xAc_R (by omega)] at hq0 hq2
  have hcat : (st.map fun v => v.category).sum ≤ 4 := by
    match st, hst with
    | [], _ => decide
    | [v], _ => have := cat_2 v; simp; omega
    | [v, u], _ => have := cat_2 v; have := cat_2 u; simp; omega
  have hw : nativeFrameWords "java/lang/System" "arraycopy" 5 + 11 ≤ 28 := by decide
  refine va_copyM hx hb (by rw [hml]; exact a5.1.symm) hown (hts _ hl) (hts _ hnat) (hts _ hst0) (hts _ hini) hX.1.1 (xLs_P a1 H.size) (xLs_D a1 H.size) a2 q0 q1 2 2 hq0 hq2 (xTys_get (by omega)) (xTys_get (by omega)) h1 h2 h3 h4 h5 (fun j hj y hy => ?_) (by rw [hrf']; exact hrf) (by rw [hrl']; omega) d (fun H1 locs1 hP hD hS => ?_)
  · obtain ⟨n, r, hk, hn, hc, hcs⟩ := hel j hj y hy
    obtain ⟨qk, hqk⟩ := xLs_at (E := E) (okX_lt a1 hk) hk (xRO_not a1 hk (by unfold xROk; omega))
    rw [xCell_o (by omega)] at hqk
    refine va_rAny hX.1.1 (xLs_P a1 H.size) hqk hc (fun comp c0 e1 e2 => ?_)
    obtain ⟨c1, t1, f1, f2, f3⟩ := Cond.castable_spec (va_Nw.use (A := cx_a C) rfl (hX.1.2.1 _ (nst_at hcs rfl)))
    cases e1.symm.trans f2
    cases e2.symm.trans f1
    exact f3
  · exact kk H1 locs1 cells slots ls (x_setR hX a1 a2 (by omega) hkb hrb hq1 hP hS) hS a3 a4 a5
end GXT
section GXU
variable {E : XE} {C : Cx} {S : XS} {mc ms pc : Nat} {L : List (Option Value)} {st : List Value} {cc : ByteArray} {own : String} {ret : Option FieldType} {rf rl nL : Nat}
theorem g_acmp_eq {ω : Type} {ok : ω → Heap → Prop} {w : ω} (hC : COk C cc own ret rf rl nL) {rx ry : Option Nat} {off : Int} {tgt : Nat} (d : decode cc pc = .ok (.if_acmp .eq off, 3)) (ht : (pc : Int) + off = (tgt : Int)) (kt : rx = ry → Gw ok C w mc ms tgt L st) (kf : ¬ rx = ry → Gw ok C w mc ms (pc + 3) L st) : Gw ok C w mc ms pc L (va_rf ry :: va_rf rx :: st) :=
  fun H locs cells slots ls h1 h2 h3 h4 h5 => lv_acmp_eq hC.1 hC.2.1 d ht (fun q => kt q H locs cells slots ls h1 h2 h3 h4 h5) (fun q => kf q H locs cells slots ls h1 h2 h3 h4 h5)
theorem g_acmp_ne {ω : Type} {ok : ω → Heap → Prop} {w : ω} (hC : COk C cc own ret rf rl nL) {rx ry : Option Nat} {off : Int} {tgt : Nat} (d : decode cc pc = .ok (.if_acmp .ne off, 3)) (ht : (pc : Int) + off = (tgt : Int)) (kt : ¬ rx = ry → Gw ok C w mc ms tgt L st) (kf : rx = ry → Gw ok C w mc ms (pc + 3) L st) : Gw ok C w mc ms pc L (va_rf ry :: va_rf rx :: st) :=
  fun H locs cells slots ls h1 h2 h3 h4 h5 => lv_acmp_ne hC.1 hC.2.1 d ht (fun q => kt q H locs cells slots ls h1 h2 h3 h4 h5) (fun q => kf q H locs cells slots ls h1 h2 h3 h4 h5)
/-- the Class object of arrays of Objects -/
theorem gX_ldcM (hC : COk C cc own ret rf rl nL) (hX : XOk E C) {i : Nat} (d : decode cc pc = .ok (.ldc i, 2)) (hl : Cond.classLink own i "[Ljava/lang/Object;" ∈ lw_all) (kk : GX E C S mc ms (pc + 2) L (va_rf (some (xST S 2)) :: st)) : GX E C S mc ms pc L st := by
  intro H locs cells slots ls a1 a2 a3 a4 a5
  refine va_ldcM hC.1 hC.2.1 hC.2.2.2.2.2.1 (hC.2.2.2.2.2.2.1 _ hl) hX.1.2.2.2.2.2 d ?_
  have e : xST S 2 = xe_k E 2 := by rw [a1.2.2.2.2.2.2]
  show W _ _ _ _ _ _ _ _ _ _ _ _ _ _ _ (F0 _ _ _ (va_rf (some (xe_k E 2)) :: _))
  rw [← e]
  exact kk H locs cells slots ls a1 a2 a3 a4 a5
theorem x_nmO (hX : XOk E C) : (cx_s C).vm.findClass "[Ljava/lang/Object;" = some (xe_c E 2) := by
  have z := (hX.1.1.2 2 _ (xTys_get (by omega))).2
  exact va_nmO z rfl
theorem gX_getC (hC : COk C cc own ret rf rl nL) (hX : XOk E C) {i a : Nat} (d : decode cc pc = .ok (.invokevirtual i, 3)) (hl : Cond.methodLink own i ⟨"java/lang/Object", "getClass", "()Ljava/lang/Class;"⟩ ∈ lw_all) (hdecl : Cond.declares ⟨"java/lang/Object", "getClass", "()Ljava/lang/Class;"⟩ ∈ lw_tbl) (hsel : Cond.selects "[Ljava/lang/Object;" ⟨"java/lang/Object", "getClass", "()Ljava/lang/Class;"⟩ ⟨"java/lang/Object", "getClass", "()Ljava/lang/Class;"⟩ ∈ lw_all) (hinst : Cond.instanceMethod ⟨"java/lang/Object", "getClass", "()Ljava/lang/Class;"⟩ ∈ lw_all) (hnat : Cond.native ⟨"java/lang/Object", "getClass", "()Ljava/lang/Class;"⟩ ∈ lw_all) (hka : xKD S a = some 102) (hra : xRO S a = false) (hst : st.length ≤ 2) (hrf : 1 ≤ rf) (hrl : 18 ≤ rl) (kk : GX E C S mc ms (pc + 3) L (va_rf (some (xST S 2)) :: st)) : GX E C S mc ms pc L (va_rf (some a) :: st) := by
  intro H locs cells slots ls a1 a2 a3 a4 a5
  obtain ⟨hx, hb, hr, hlk0, hml, hown, hts, hrf', hrl', hrc, hrs, hnl⟩ := id hC
  have hcat : (st.map fun v => v.category).sum ≤ 4 := by
    match st, hst with
    | [], _ => decide
    | [v], _ => have := cat_2 v; simp; omega
    | [v, u], _ => have := cat_2 v; have := cat_2 u; simp; omega
  have hat := a1.1 a 102 hka hra
  rw [xCell_a (by omega), xAc_R (by omega)] at hat
  refine va_getC hx hb (by rw [hml]; exact a5.1.symm) hown (hts _ hl) (va_Nw.use rfl (hX.1.2.1 _ (nst_at hdecl rfl))) (hts _ hsel) (hts _ hinst) (hts _ hnat) hX.1.2.2.2.2.2 ⟨_, hat, rfl, x_nmO hX⟩ (by rw [hrf']; exact hrf) (by rw [hrl']; omega) d ?_
  have e : xST S 2 = xe_k E 2 := by rw [a1.2.2.2.2.2.2]
  show W _ _ _ _ _ _ _ _ _ _ _ _ _ _ _ (F0 _ _ _ (va_rf (some (xe_k E 2)) :: _))
  rw [← e]
  exact kk H locs cells slots ls a1 a2 a3 a4 a5
theorem gX_castA (hC : COk C cc own ret rf rl nL) (hX : XOk E C) {i a : Nat} (d : decode cc pc = .ok (.checkcast i, 3)) (hl : Cond.classLink own i "[Ljava/lang/Object;" ∈ lw_all) (hka : xKD S a = some 102) (hra : xRO S a = false) (kk : GX E C S mc ms (pc + 3) L (va_rf (some a) :: st)) : GX E C S mc ms pc L (va_rf (some a) :: st) := by
  intro H locs cells slots ls a1 a2 a3 a4 a5
  obtain ⟨q0, hq0⟩ := xLs_at (E := E) (okX_lt a1 hka) hka hra
  rw [xCell_a (by omega)] at hq0
  exact va_castA hC.1 hC.2.1 hC.2.2.2.2.2.1 (hC.2.2.2.2.2.2.1 _ hl) (xLs_P a1 H.size) q0 hq0 (x_nmO hX) d (kk H locs cells slots ls a1 a2 a3 a4 a5)
end GXU
