/-! THE MODEL's WORLD: one object of VillageHallsModel and its arrays; J k i: what field k holds (k an array: its place i; else at 0). -/
abbrev MS : Type := Nat → Nat → Int32
def mset (J : MS) (k i : Nat) (v : Int32) : MS := fun a b => if a = k ∧ b = i then v else J a b
def mlen (k : Nat) : Nat := match k with
  | 2 => 4 | 3 => 4 | 4 => 4 | 5 => 4 | 6 => 8 | 7 => 20 | 8 => 20 | 9 => 8 | 10 => 8 | 11 => 480 | 12 => 400 | 25 => 144 | 26 => 16 | 28 => 65536 | 29 => 65536 | 30 => 16 | 31 => 16 | 34 => 40 | 35 => 40 | 36 => 40 | 38 => 40 | 39 => 40 | 40 => 40 | 41 => 40 | 43 => 40 | 44 => 40 | 45 => 40 | 47 => 10 | 48 => 10 | 49 => 10 | 50 => 10 | 51 => 10 | 52 => 16 | _ => 0
def mKeys : List Nat := [2, 3, 4, 5, 6, 7, 8, 9, 10, 11, 12, 25, 26, 28, 29, 30, 31, 34, 35, 36, 38, 39, 40, 41, 43, 44, 45, 47, 48, 49, 50, 51, 52]
abbrev vwM : List vw_C := [(RX3, TX3, 54)]
abbrev ME : Type := va_G × ClassId × ClassId × (Nat → Nat)
abbrev me_D (E : ME) : va_G := E.1
abbrev me_I (E : ME) : ClassId := E.2.1
abbrev me_Z (E : ME) : ClassId := E.2.2.1
abbrev me_a (E : ME) : Nat → Nat := E.2.2.2
def mFld (a : Nat → Nat) (J : MS) (k : Nat) : Value := if k ∈ mKeys then .ref (a k) else .int (J k 0)
def mCell (E : ME) (J : MS) (k : Nat) : Nat × va_E := (me_a E k, .inl (if k = 28 then me_Z E else me_I E, mlen k, .inl (J k)))
def mWs (E : ME) (J : MS) : va_W := (me_a E 54, .inr (0, (List.range 54).map (mFld (me_a E) J))) :: mKeys.map (mCell E J)
def mA (E : ME) : Nat → Prop := fun q => ∃ k, k ∈ 54 :: mKeys ∧ q = me_a E k
/-- the addresses are apart -/
def mInj (E : ME) : Prop := ∀ i j : Nat, i ∈ 54 :: mKeys → j ∈ 54 :: mKeys → me_a E i = me_a E j → i = j
def KM (E : ME) (U : State) : Prop := va_K (me_D E) vwM [(me_I E, .int), (me_Z E, .boolean)] U
def okM (E : ME) (J : MS) (H : Heap) : Prop := va_P (me_D E) vwM (mWs E J) H
abbrev GM (E : ME) (C : Cx) (J : MS) (pc : Nat) (L : List (Option Value)) (st : List Value) : Prop := Gw (okM E) C J 0 0 pc L st
def MOk (E : ME) (C : Cx) : Prop := KM E (cx_s C) ∧ mInj E ∧ cx_A C = mA E
def BM (E : ME) (J : MS) (t : State) : Prop := okM E J t.heap ∧ KM E t
def MMet (E : ME) (l : Launch) (y : MethodName) (cc : ByteArray) (nL : Nat) (ret : Option FieldType) (rm : Room) (As : List Value) (J : MS) (Qc : Array Value → State → Outcome → State → Prop) : Prop :=
  rm.cells = 0 ∧ rm.slots = 0 ∧ Met l y (ws_ y cc nL ret) rm (va_Pc As (BM E J)) Qc 0 0 (mA E)
theorem mset_same (J : MS) (k i : Nat) (v : Int32) : mset J k i v k i = v := if_pos ⟨rfl, rfl⟩
theorem mset_key (J : MS) {k k' : Nat} (i : Nat) (v : Int32) (h : k' ≠ k) : mset J k i v k' = J k' := by
  funext j
  exact if_neg (fun q => h q.1)
theorem mset_upd (J : MS) (k i : Nat) (v : Int32) : mset J k i v k = upd (J k) i v := by
  funext j
  simp [mset, upd]
theorem mKeys_lt : ∀ k ∈ mKeys, k < 54 := by decide
theorem mKeys_ij0 : ∀ i : Fin 33, ∀ j : Fin 33, mKeys[i.val]? = mKeys[j.val]? → i = j := by decide +kernel
theorem mKeys_ij {i j k : Nat} (h1 : mKeys[i]? = some k) (h2 : mKeys[j]? = some k) : i = j := by
  have a : i < 33 := (List.getElem?_eq_some_iff.mp h1).1
  have b : j < 33 := (List.getElem?_eq_some_iff.mp h2).1
  have := mKeys_ij0 ⟨i, a⟩ ⟨j, b⟩ (h1.trans h2.symm)
  exact congrArg Fin.val this
theorem mFld_s {a : Nat → Nat} {J : MS} {k : Nat} (h : k ∉ mKeys) : mFld a J k = .int (J k 0) := if_neg h
theorem mFld_a {a : Nat → Nat} {J : MS} {k : Nat} (h : k ∈ mKeys) : mFld a J k = .ref (a k) := if_pos h
theorem mGet {a : Nat → Nat} {J : MS} {k : Nat} (h : k < 54) : ((List.range 54).map (mFld a J))[k]? = some (mFld a J k) := by
  rw [List.getElem?_map, List.getElem?_range h]
  rfl
theorem mWs_0 {E : ME} {J : MS} : (mWs E J)[0]? = some (me_a E 54, .inr (0, (List.range 54).map (mFld (me_a E) J))) := rfl
theorem mWs_k {E : ME} {J : MS} {q0 k : Nat} (h : mKeys[q0]? = some k) : (mWs E J)[q0 + 1]? = some (mCell E J k) := by
  show (mKeys.map (mCell E J))[q0]? = _
  rw [List.getElem?_map, h]
  rfl
theorem mWs_set {E : ME} {J : MS} {q0 k i : Nat} {v : Int32} (h : mKeys[q0]? = some k) : (mWs E J).set (q0 + 1) (me_a E k, .inl (if k = 28 then me_Z E else me_I E, mlen k, .inl (upd (J k) i v))) = mWs E (mset J k i v) := by
  have hk := List.mem_of_getElem? h
  unfold mWs
  rw [List.set_cons_succ]
  have e1 : (List.range 54).map (mFld (me_a E) (mset J k i v)) = (List.range 54).map (mFld (me_a E) J) := by
    refine List.map_congr_left (fun x _ => ?_)
    unfold mFld
    by_cases hx : x ∈ mKeys
    · rw [if_pos hx, if_pos hx]
    · rw [if_neg hx, if_neg hx, mset_key J i v (fun e : x = k => hx (e ▸ hk))]
  rw [e1]
  refine congrArg _ ?_
  refine List.ext_getElem? (fun j => ?_)
  rw [List.getElem?_set, List.getElem?_map]
  by_cases hj : q0 = j
  · subst hj
    have hl : q0 < (mKeys.map (mCell E J)).length := by rw [List.length_map]; exact (List.getElem?_eq_some_iff.mp h).1
    rw [if_pos rfl, if_pos hl]
    rw [List.getElem?_map, h]
    show some _ = some (mCell E (mset J k i v) k)
    unfold mCell
    rw [mset_upd]
  · rw [if_neg hj, List.getElem?_map]
    cases hx : mKeys[j]? with
    | none => rfl
    | some k' =>
      have hne : k' ≠ k := by
        intro e
        subst e
        exact hj (mKeys_ij h hx)
      show some (mCell E J k') = some (mCell E (mset J k i v) k')
      unfold mCell
      rw [mset_key J i v hne]
theorem mWs_put {E : ME} {J : MS} {k : Nat} {v : Int32} (hk : k < 54) (h : k ∉ mKeys) : (mWs E J).set 0 (me_a E 54, .inr (0, ((List.range 54).map (mFld (me_a E) J)).set k (.int v))) = mWs E (mset J k 0 v) := by
  unfold mWs
  rw [List.set_cons_zero]
  have e1 : mKeys.map (mCell E (mset J k 0 v)) = mKeys.map (mCell E J) := by
    refine List.map_congr_left (fun x hx => ?_)
    unfold mCell
    rw [mset_key J 0 v (fun e : x = k => h (e ▸ hx))]
  rw [e1]
  refine congrArg (fun z => (me_a E 54, Sum.inr (0, z)) :: mKeys.map (mCell E J)) ?_
  refine List.ext_getElem? (fun j => ?_)
  rw [List.getElem?_set, List.getElem?_map, List.getElem?_map]
  by_cases hj : k = j
  · subst hj
    rw [if_pos rfl, if_pos (by rw [List.length_map, List.length_range]; exact hk), List.getElem?_range hk]
    show some _ = some (mFld _ _ k)
    rw [mFld_s h, mset_same]
  · rw [if_neg hj]
    cases hx : (List.range 54)[j]? with
    | none => rfl
    | some x =>
      have hxj : x = j := by
        have h1 := List.getElem?_eq_some_iff.mp hx
        obtain ⟨h2, h3⟩ := h1
        rw [List.getElem_range] at h3
        exact h3.symm
      subst hxj
      show some (mFld _ _ x) = some (mFld _ _ x)
      unfold mFld
      rw [mset_key J 0 v (fun e => hj e.symm)]
theorem mWs_adr {E : ME} {J : MS} {k : Nat} {q : Nat × va_E} (h : (mWs E J)[k]? = some q) : ∃ x, (54 :: mKeys)[k]? = some x ∧ q.1 = me_a E x := by
  cases k with
  | zero => exact ⟨54, rfl, by have := Option.some.inj h; rw [← this]⟩
  | succ k =>
    have h2 : (mKeys.map (mCell E J))[k]? = some q := h
    rw [List.getElem?_map] at h2
    cases hx : mKeys[k]? with
    | none => rw [hx] at h2; cases h2
    | some x =>
      rw [hx] at h2
      exact ⟨x, hx, by rw [← Option.some.inj h2]; rfl⟩
theorem mAll_ij0 : ∀ i : Fin 34, ∀ j : Fin 34, (54 :: mKeys)[i.val]? = (54 :: mKeys)[j.val]? → i = j := by decide +kernel
theorem mAll_ij {i j k : Nat} (h1 : (54 :: mKeys)[i]? = some k) (h2 : (54 :: mKeys)[j]? = some k) : i = j := by
  have a : i < 34 := (List.getElem?_eq_some_iff.mp h1).1
  have b : j < 34 := (List.getElem?_eq_some_iff.mp h2).1
  have := mAll_ij0 ⟨i, a⟩ ⟨j, b⟩ (h1.trans h2.symm)
  exact congrArg Fin.val this
theorem mD {E : ME} {J : MS} (hI : mInj E) : va_D (mA E) (mWs E J) := by
  refine ⟨fun i j p q hp hq e => ?_, fun k q hq => ?_⟩
  · obtain ⟨x, h1, h2⟩ := mWs_adr hp
    obtain ⟨y, h3, h4⟩ := mWs_adr hq
    have hxy : x = y := hI x y (List.mem_of_getElem? h1) (List.mem_of_getElem? h3) (by rw [← h2, ← h4]; exact e)
    subst hxy
    exact mAll_ij h1 h3
  · obtain ⟨x, h1, h2⟩ := mWs_adr hq
    exact ⟨x, List.mem_of_getElem? h1, h2⟩
section GMR
variable {E : ME} {C : Cx} {J : MS} {pc : Nat} {L : List (Option Value)} {st : List Value} {cc : ByteArray} {ret : Option FieldType} {rf rl nL : Nat}
theorem gM_getS (hC : COk C cc RX3 ret rf rl nL) (hM : MOk E C) {i : Nat} (k : Nat) (d : decode cc pc = .ok (.getfield i, 3)) (hq : Cond.fieldLink RX3 i RX3 (TX3 k).2.1 (TX3 k).2.2.1 ∈ lw_all) (hk : k < 54) (hk2 : k ∉ mKeys) (h1 : (TX3 k).1 = RX3) (kk : GM E C J (pc + 3) L (.int (J k 0) :: st)) : GM E C J pc L (.ref (me_a E 54) :: st) :=
  fun H locs cells slots ls a1 a2 a3 a4 a5 => va_get (C := RX3) (T := TX3) (N := 54) (ci := 0) (ref := RX3) (own := RX3) hC.1 hC.2.1 hC.2.2.2.2.2.2.1 in_X3 hC.2.2.2.2.2.1 hM.1 a1 0 mWs_0 rfl k hk (hC.2.2.2.2.2.2.1 _ hq) (fun x hx => by rw [h1] at hx; exact hx) ((mGet hk).trans (congrArg some (mFld_s hk2))) d (kk H locs cells slots ls a1 a2 a3 a4 a5)
theorem gM_getA (hC : COk C cc RX3 ret rf rl nL) (hM : MOk E C) {i : Nat} (k : Nat) (d : decode cc pc = .ok (.getfield i, 3)) (hq : Cond.fieldLink RX3 i RX3 (TX3 k).2.1 (TX3 k).2.2.1 ∈ lw_all) (hk : k < 54) (hk2 : k ∈ mKeys) (h1 : (TX3 k).1 = RX3) (kk : GM E C J (pc + 3) L (.ref (me_a E k) :: st)) : GM E C J pc L (.ref (me_a E 54) :: st) :=
  fun H locs cells slots ls a1 a2 a3 a4 a5 => va_get (C := RX3) (T := TX3) (N := 54) (ci := 0) (ref := RX3) (own := RX3) hC.1 hC.2.1 hC.2.2.2.2.2.2.1 in_X3 hC.2.2.2.2.2.1 hM.1 a1 0 mWs_0 rfl k hk (hC.2.2.2.2.2.2.1 _ hq) (fun x hx => by rw [h1] at hx; exact hx) ((mGet hk).trans (congrArg some (mFld_a hk2))) d (kk H locs cells slots ls a1 a2 a3 a4 a5)
theorem gM_put (hC : COk C cc RX3 ret rf rl nL) (hM : MOk E C) {i : Nat} (k : Nat) {v : Int32} {ty : FieldType} (d : decode cc pc = .ok (.putfield i, 3)) (hq : Cond.fieldLink RX3 i RX3 (TX3 k).2.1 (TX3 k).2.2.1 ∈ lw_all) (hk : k < 54) (hk2 : k ∉ mKeys) (h1 : (TX3 k).1 = RX3) (hfin : (TX3 k).2.2.2 = false) (hd : parseFieldDescriptor (TX3 k).2.2.1 = some ty) (hn : narrow ty (.int v) = .int v) (hfit : fits ty (.int v) = true) (kk : GM E C (mset J k 0 v) (pc + 3) L st) : GM E C J pc L (.int v :: .ref (me_a E 54) :: st) := by
  intro H locs cells slots ls a1 a2 a3 a4 a5
  refine va_put (C := RX3) (T := TX3) (N := 54) (ci := 0) (ref := RX3) (own := RX3) hC.1 hC.2.1 hC.2.2.2.2.2.2.1 in_X3 tyX3 tyX3_ok nmX3 hC.2.2.2.2.2.1 hM.1 a1 (mD (J := J) hM.2.1) (hM.2.2 ▸ a2) 0 mWs_0 rfl k hk (hC.2.2.2.2.2.2.1 _ hq) (fun x hx => by rw [h1] at hx; exact hx) hfin hd hn hfit (by rw [List.length_map, List.length_range]; exact hk) d (fun H1 locs1 hP hD hS => ?_)
  rw [mWs_put hk hk2] at hP
  exact kk H1 locs1 cells slots ls hP (hM.2.2 ▸ hS) a3 a4 a5
theorem gM_iald (hC : COk C cc RX3 ret rf rl nL) (hM : MOk E C) (k q0 : Nat) {i : Int32} (d : decode cc pc = .ok (.iaload, 1)) (hk : mKeys[q0]? = some k) (h28 : k ≠ 28) (hin : vp_in i (mlen k)) (kk : GM E C J (pc + 1) L (.int (J k i.toNatClampNeg) :: st)) : GM E C J pc L (.int i :: .ref (me_a E k) :: st) := by
  intro H locs cells slots ls a1 a2 a3 a4 a5
  have e := mWs_k (E := E) (J := J) hk
  unfold mCell at e
  rw [if_neg h28] at e
  exact va_iald hC.1 hC.2.1 hM.1 a1 (q0 + 1) 0 e rfl hin d (kk H locs cells slots ls a1 a2 a3 a4 a5)
theorem gM_zald (hC : COk C cc RX3 ret rf rl nL) (hM : MOk E C) {i : Int32} (d : decode cc pc = .ok (.baload, 1)) (hin : vp_in i 65536) (kk : GM E C J (pc + 1) L (.int (J 28 i.toNatClampNeg) :: st)) : GM E C J pc L (.int i :: .ref (me_a E 28) :: st) :=
  fun H locs cells slots ls a1 a2 a3 a4 a5 => va_zald hC.1 hC.2.1 hM.1 a1 14 1 (mWs_k (E := E) (J := J) (q0 := 13) (k := 28) rfl) rfl hin d (kk H locs cells slots ls a1 a2 a3 a4 a5)
theorem gM_iast (hC : COk C cc RX3 ret rf rl nL) (hM : MOk E C) (k q0 : Nat) {i v : Int32} (d : decode cc pc = .ok (.iastore, 1)) (hk : mKeys[q0]? = some k) (h28 : k ≠ 28) (hin : vp_in i (mlen k)) (kk : GM E C (mset J k i.toNatClampNeg v) (pc + 1) L st) : GM E C J pc L (.int v :: .int i :: .ref (me_a E k) :: st) := by
  intro H locs cells slots ls a1 a2 a3 a4 a5
  have e := mWs_k (E := E) (J := J) hk
  have e2 := mWs_set (E := E) (J := J) (i := i.toNatClampNeg) (v := v) hk
  unfold mCell at e
  rw [if_neg h28] at e e2
  refine va_iast hC.1 hC.2.1 hM.1 a1 (mD (J := J) hM.2.1) (hM.2.2 ▸ a2) (q0 + 1) 0 e rfl hin d (fun H1 locs1 hP hD hS => ?_)
  rw [e2] at hP
  exact kk H1 locs1 cells slots ls hP (hM.2.2 ▸ hS) a3 a4 a5
theorem gM_zast (hC : COk C cc RX3 ret rf rl nL) (hM : MOk E C) {i v : Int32} (d : decode cc pc = .ok (.bastore, 1)) (hin : vp_in i 65536) (kk : GM E C (mset J 28 i.toNatClampNeg (vp_nar .boolean v)) (pc + 1) L st) : GM E C J pc L (.int v :: .int i :: .ref (me_a E 28) :: st) := by
  intro H locs cells slots ls a1 a2 a3 a4 a5
  refine va_zast hC.1 hC.2.1 hM.1 a1 (mD (J := J) hM.2.1) (hM.2.2 ▸ a2) 14 1 (mWs_k (E := E) (J := J) (q0 := 13) (k := 28) rfl) rfl hin d (fun H1 locs1 hP hD hS => ?_)
  rw [show (mWs E J).set 14 _ = mWs E (mset J 28 i.toNatClampNeg (vp_nar .boolean v)) from mWs_set (q0 := 13) (k := 28) rfl] at hP
  exact kk H1 locs1 cells slots ls hP (hM.2.2 ▸ hS) a3 a4 a5
theorem BM_blind {E : ME} {J : MS} {As : List Value} : FrameBlind (va_Pc As (BM E J)) :=
  fun a U g mk q => ⟨q.1, q.2.1, va_K.moved (u := U) (U := U.calling g mk a) (Vm.Alike.refl U.vm) q.2.2⟩
theorem gM_runV {As rest : List Value} {Qc : Array Value → State → Outcome → State → Prop} {y : MethodName} {cy : ByteArray} {nLy n idx cells slots : Nat} {rety : Option FieldType} {rm : Room} {H : Heap} {locs : List Loc} {ls : Array Slot} (hC : COk C cc RX3 ret rf rl nL) (hM : MOk E C) (hy : MMet E (cx_l C) y cy nLy rety rm (.ref (me_a E 54) :: As) J Qc) (hw : GoodIn lw_all (wsV RX3 idx RX3 y (ws_ y cy nLy rety))) (hd : y.cls = RX3 ∧ y.cls ≠ "java/lang/invoke/MethodHandle" ∧ y.cls ≠ "java/lang/invoke/VarHandle" ∧ (parseMethodDescriptor y.desc).map (fun d => d.parameters.length) = some n) (hn : As.length = n) (hcat : (rest.map fun v => v.category).sum ≤ 8) (hR : rm.frames + 1 ≤ rf ∧ 8 + (nLy + 11) + rm.locals ≤ rl) (d : decode cc pc = .ok (.invokevirtual idx, 3)) (a1 : okM E J H) (a3 : cells + 0 ≤ cx_MC C) (a4 : slots + 0 ≤ cx_MS C) (a5 : lx_has ls (cx_nL C) L) :
    va_Run (cx_p C) (cx_l C) (cx_e C) (cx_R C) (cx_s C) (cx_m C) (cx_a C) (cx_b C) (cx_h C) (cx_c C) H locs cells slots 0 0 (F0 (cx_m C) pc ls (As.reverse ++ .ref (me_a E 54) :: rest)) rest (Qc (Value.ref (me_a E 54) :: As).toArray) (mA E) := by
  obtain ⟨hx, hb, hr, hlk, hml, hown, hts, hrf, hrl, hrc, hrs, -⟩ := hC
  exact va_runV (As := As) (rest := rest) ⟨hx, hb, hml, hown, hts⟩ hy.2.2 (cwV n hts hw rfl hy.1 hy.2.1 hd ⟨by rw [hrf]; exact hR.1, by rw [hrl]; exact hR.2⟩) ⟨BM_blind, va_recv hM.1 a1 (ci := 0) (q0 := 0) rfl rfl, fun U hU hW => ⟨rfl, by rw [hU]; exact a1, va_K.moved hW.alike hM.1⟩⟩ rfl hn a5.1 rfl (lv_room hcat) d ⟨by rw [hrc]; exact a3, by rw [hrs]; exact a4⟩
theorem gM_runS {As rest : List Value} {Qc : Array Value → State → Outcome → State → Prop} {y : MethodName} {cy : ByteArray} {nLy n idx cells slots : Nat} {rety : Option FieldType} {rm : Room} {H : Heap} {locs : List Loc} {ls : Array Slot} (hC : COk C cc RX3 ret rf rl nL) (hM : MOk E C) (hy : MMet E (cx_l C) y cy nLy rety rm As J Qc) (hw : GoodIn lw_all (va_wsS RX3 idx y (ws_ y cy nLy rety))) (hd : y.cls = RX3 ∧ y.cls ≠ "java/lang/invoke/MethodHandle" ∧ y.cls ≠ "java/lang/invoke/VarHandle" ∧ (parseMethodDescriptor y.desc).map (fun d => d.parameters.length) = some n) (hn : As.length = n) (hcat : (rest.map fun v => v.category).sum ≤ 8) (hR : rm.frames + 1 ≤ rf ∧ 8 + (nLy + 11) + rm.locals ≤ rl) (d : decode cc pc = .ok (.invokestatic idx, 3)) (a1 : okM E J H) (a3 : cells + 0 ≤ cx_MC C) (a4 : slots + 0 ≤ cx_MS C) (a5 : lx_has ls (cx_nL C) L) :
    va_Run (cx_p C) (cx_l C) (cx_e C) (cx_R C) (cx_s C) (cx_m C) (cx_a C) (cx_b C) (cx_h C) (cx_c C) H locs cells slots 0 0 (F0 (cx_m C) pc ls (As.reverse ++ rest)) rest (Qc As.toArray) (mA E) := by
  obtain ⟨hx, hb, hr, hlk, hml, hown, hts, hrf, hrl, hrc, hrs, -⟩ := hC
  exact va_runS (As := As) (rest := rest) ⟨hx, hb, hml, hown, hts⟩ hy.2.2 (va_cwS n hts hw rfl hy.1 hy.2.1 hd.2 ⟨by rw [hrf]; exact hR.1, by rw [hrl]; exact hR.2⟩) ⟨BM_blind, fun U hU hW => ⟨rfl, by rw [hU]; exact a1, va_K.moved hW.alike hM.1⟩⟩ rfl hn a5.1 rfl (lv_room hcat) d ⟨by rw [hrc]; exact a3, by rw [hrs]; exact a4⟩
theorem gM_Vi {As rest : List Value} {Q : Int32 → MS → Prop} {y : MethodName} {cy : ByteArray} {nLy n idx : Nat} {rety : Option FieldType} {rm : Room} (hC : COk C cc RX3 ret rf rl nL) (hM : MOk E C) (hy : MMet E (cx_l C) y cy nLy rety rm (.ref (me_a E 54) :: As) J (va_Qi Q (BM E) (mA E))) (hw : GoodIn lw_all (wsV RX3 idx RX3 y (ws_ y cy nLy rety))) (hd : y.cls = RX3 ∧ y.cls ≠ "java/lang/invoke/MethodHandle" ∧ y.cls ≠ "java/lang/invoke/VarHandle" ∧ (parseMethodDescriptor y.desc).map (fun d => d.parameters.length) = some n) (hn : As.length = n) (hst : st = As.reverse ++ .ref (me_a E 54) :: rest) (hcat : (rest.map fun v => v.category).sum ≤ 8) (hR : rm.frames + 1 ≤ rf ∧ 8 + (nLy + 11) + rm.locals ≤ rl) (d : decode cc pc = .ok (.invokevirtual idx, 3)) (kk : ∀ (r : Int32) (J1 : MS), Q r J1 → GM E C J1 (pc + 3) L (.int r :: rest)) : GM E C J pc L st := by
  subst hst
  intro H locs cells slots ls a1 a2 a3 a4 a5
  exact va_calli (gM_runV hC hM hy hw hd hn hcat hR d a1 a3 a4 a5) a2 (fun q _ h => hM.2.2 ▸ h) (fun q h => hM.2.2 ▸ h) (fun r u t H1 locs1 ht hvm hq hB hz hk hS => kk r u hq H1 locs1 _ _ ls (ht ▸ hB.1) hS a3 a4 a5)
theorem gM_Vl {As rest : List Value} {Q : Int64 → MS → Prop} {y : MethodName} {cy : ByteArray} {nLy n idx : Nat} {rety : Option FieldType} {rm : Room} (hC : COk C cc RX3 ret rf rl nL) (hM : MOk E C) (hy : MMet E (cx_l C) y cy nLy rety rm (.ref (me_a E 54) :: As) J (va_Ql Q (BM E) (mA E))) (hw : GoodIn lw_all (wsV RX3 idx RX3 y (ws_ y cy nLy rety))) (hd : y.cls = RX3 ∧ y.cls ≠ "java/lang/invoke/MethodHandle" ∧ y.cls ≠ "java/lang/invoke/VarHandle" ∧ (parseMethodDescriptor y.desc).map (fun d => d.parameters.length) = some n) (hn : As.length = n) (hst : st = As.reverse ++ .ref (me_a E 54) :: rest) (hcat : (rest.map fun v => v.category).sum ≤ 8) (hR : rm.frames + 1 ≤ rf ∧ 8 + (nLy + 11) + rm.locals ≤ rl) (d : decode cc pc = .ok (.invokevirtual idx, 3)) (kk : ∀ (r : Int64) (J1 : MS), Q r J1 → GM E C J1 (pc + 3) L (.long r :: rest)) : GM E C J pc L st := by
  subst hst
  intro H locs cells slots ls a1 a2 a3 a4 a5
  exact va_calll (gM_runV hC hM hy hw hd hn hcat hR d a1 a3 a4 a5) a2 (fun q _ h => hM.2.2 ▸ h) (fun q h => hM.2.2 ▸ h) (fun r u t H1 locs1 ht hvm hq hB hz hk hS => kk r u hq H1 locs1 _ _ ls (ht ▸ hB.1) hS a3 a4 a5)
theorem gM_Vv {As rest : List Value} {Q : MS → Prop} {y : MethodName} {cy : ByteArray} {nLy n idx : Nat} {rety : Option FieldType} {rm : Room} (hC : COk C cc RX3 ret rf rl nL) (hM : MOk E C) (hy : MMet E (cx_l C) y cy nLy rety rm (.ref (me_a E 54) :: As) J (va_Qv Q (BM E) (mA E))) (hw : GoodIn lw_all (wsV RX3 idx RX3 y (ws_ y cy nLy rety))) (hd : y.cls = RX3 ∧ y.cls ≠ "java/lang/invoke/MethodHandle" ∧ y.cls ≠ "java/lang/invoke/VarHandle" ∧ (parseMethodDescriptor y.desc).map (fun d => d.parameters.length) = some n) (hn : As.length = n) (hst : st = As.reverse ++ .ref (me_a E 54) :: rest) (hcat : (rest.map fun v => v.category).sum ≤ 8) (hR : rm.frames + 1 ≤ rf ∧ 8 + (nLy + 11) + rm.locals ≤ rl) (d : decode cc pc = .ok (.invokevirtual idx, 3)) (kk : ∀ (J1 : MS), Q J1 → GM E C J1 (pc + 3) L rest) : GM E C J pc L st := by
  subst hst
  intro H locs cells slots ls a1 a2 a3 a4 a5
  exact va_callv (gM_runV hC hM hy hw hd hn hcat hR d a1 a3 a4 a5) a2 (fun q _ h => hM.2.2 ▸ h) (fun q h => hM.2.2 ▸ h) (fun u t H1 locs1 ht hvm hq hB hz hk hS => kk u hq H1 locs1 _ _ ls (ht ▸ hB.1) hS a3 a4 a5)
theorem gM_Si {As rest : List Value} {Q : Int32 → MS → Prop} {y : MethodName} {cy : ByteArray} {nLy n idx : Nat} {rety : Option FieldType} {rm : Room} (hC : COk C cc RX3 ret rf rl nL) (hM : MOk E C) (hy : MMet E (cx_l C) y cy nLy rety rm (As) J (va_Qi Q (BM E) (mA E))) (hw : GoodIn lw_all (va_wsS RX3 idx y (ws_ y cy nLy rety))) (hd : y.cls = RX3 ∧ y.cls ≠ "java/lang/invoke/MethodHandle" ∧ y.cls ≠ "java/lang/invoke/VarHandle" ∧ (parseMethodDescriptor y.desc).map (fun d => d.parameters.length) = some n) (hn : As.length = n) (hst : st = As.reverse ++ rest) (hcat : (rest.map fun v => v.category).sum ≤ 8) (hR : rm.frames + 1 ≤ rf ∧ 8 + (nLy + 11) + rm.locals ≤ rl) (d : decode cc pc = .ok (.invokestatic idx, 3)) (kk : ∀ (r : Int32) (J1 : MS), Q r J1 → GM E C J1 (pc + 3) L (.int r :: rest)) : GM E C J pc L st := by
  subst hst
  intro H locs cells slots ls a1 a2 a3 a4 a5
  exact va_calli (gM_runS hC hM hy hw hd hn hcat hR d a1 a3 a4 a5) a2 (fun q _ h => hM.2.2 ▸ h) (fun q h => hM.2.2 ▸ h) (fun r u t H1 locs1 ht hvm hq hB hz hk hS => kk r u hq H1 locs1 _ _ ls (ht ▸ hB.1) hS a3 a4 a5)
theorem gM_Sl {As rest : List Value} {Q : Int64 → MS → Prop} {y : MethodName} {cy : ByteArray} {nLy n idx : Nat} {rety : Option FieldType} {rm : Room} (hC : COk C cc RX3 ret rf rl nL) (hM : MOk E C) (hy : MMet E (cx_l C) y cy nLy rety rm (As) J (va_Ql Q (BM E) (mA E))) (hw : GoodIn lw_all (va_wsS RX3 idx y (ws_ y cy nLy rety))) (hd : y.cls = RX3 ∧ y.cls ≠ "java/lang/invoke/MethodHandle" ∧ y.cls ≠ "java/lang/invoke/VarHandle" ∧ (parseMethodDescriptor y.desc).map (fun d => d.parameters.length) = some n) (hn : As.length = n) (hst : st = As.reverse ++ rest) (hcat : (rest.map fun v => v.category).sum ≤ 8) (hR : rm.frames + 1 ≤ rf ∧ 8 + (nLy + 11) + rm.locals ≤ rl) (d : decode cc pc = .ok (.invokestatic idx, 3)) (kk : ∀ (r : Int64) (J1 : MS), Q r J1 → GM E C J1 (pc + 3) L (.long r :: rest)) : GM E C J pc L st := by
  subst hst
  intro H locs cells slots ls a1 a2 a3 a4 a5
  exact va_calll (gM_runS hC hM hy hw hd hn hcat hR d a1 a3 a4 a5) a2 (fun q _ h => hM.2.2 ▸ h) (fun q h => hM.2.2 ▸ h) (fun r u t H1 locs1 ht hvm hq hB hz hk hS => kk r u hq H1 locs1 _ _ ls (ht ▸ hB.1) hS a3 a4 a5)
theorem gM_Sv {As rest : List Value} {Q : MS → Prop} {y : MethodName} {cy : ByteArray} {nLy n idx : Nat} {rety : Option FieldType} {rm : Room} (hC : COk C cc RX3 ret rf rl nL) (hM : MOk E C) (hy : MMet E (cx_l C) y cy nLy rety rm (As) J (va_Qv Q (BM E) (mA E))) (hw : GoodIn lw_all (va_wsS RX3 idx y (ws_ y cy nLy rety))) (hd : y.cls = RX3 ∧ y.cls ≠ "java/lang/invoke/MethodHandle" ∧ y.cls ≠ "java/lang/invoke/VarHandle" ∧ (parseMethodDescriptor y.desc).map (fun d => d.parameters.length) = some n) (hn : As.length = n) (hst : st = As.reverse ++ rest) (hcat : (rest.map fun v => v.category).sum ≤ 8) (hR : rm.frames + 1 ≤ rf ∧ 8 + (nLy + 11) + rm.locals ≤ rl) (d : decode cc pc = .ok (.invokestatic idx, 3)) (kk : ∀ (J1 : MS), Q J1 → GM E C J1 (pc + 3) L rest) : GM E C J pc L st := by
  subst hst
  intro H locs cells slots ls a1 a2 a3 a4 a5
  exact va_callv (gM_runS hC hM hy hw hd hn hcat hR d a1 a3 a4 a5) a2 (fun q _ h => hM.2.2 ▸ h) (fun q h => hM.2.2 ▸ h) (fun u t H1 locs1 ht hvm hq hB hz hk hS => kk u hq H1 locs1 _ _ ls (ht ▸ hB.1) hS a3 a4 a5)
theorem gM_iret {Q : Int32 → MS → Prop} {v : Int32} (hC : COk C cc RX3 ret rf rl nL) (hM : MOk E C) (hQ : cx_Q C = MQ (cx_b C) (va_Qi Q (BM E) (mA E)) (cx_a C) (cx_s C) (cx_MC C) (cx_MS C) (mA E)) (hr : ret = some .int) (d : decode cc pc = .ok (.ireturn, 1)) (h : Q v J) : GM E C J pc L [.int v] :=
  g_iret hC hQ (fun q h => hM.2.2 ▸ h) hr d (fun H t ho ht hW hF => ⟨⟨v, J, rfl, h, by rw [ht]; exact ho, va_K.moved hW.alike hM.1⟩, hM.2.2 ▸ hF⟩)
theorem gM_zret {Q : Int32 → MS → Prop} {v : Int32} (hC : COk C cc RX3 ret rf rl nL) (hM : MOk E C) (hQ : cx_Q C = MQ (cx_b C) (va_Qi Q (BM E) (mA E)) (cx_a C) (cx_s C) (cx_MC C) (cx_MS C) (mA E)) (hr : ret = some .boolean) (hn : narrow .boolean (.int v) = .int v) (d : decode cc pc = .ok (.ireturn, 1)) (h : Q v J) : GM E C J pc L [.int v] :=
  g_zret hC hQ (fun q h => hM.2.2 ▸ h) hr hn d (fun H t ho ht hW hF => ⟨⟨v, J, rfl, h, by rw [ht]; exact ho, va_K.moved hW.alike hM.1⟩, hM.2.2 ▸ hF⟩)
theorem gM_lret {Q : Int64 → MS → Prop} {v : Int64} (hC : COk C cc RX3 ret rf rl nL) (hM : MOk E C) (hQ : cx_Q C = MQ (cx_b C) (va_Ql Q (BM E) (mA E)) (cx_a C) (cx_s C) (cx_MC C) (cx_MS C) (mA E)) (hr : ret = some .long) (d : decode cc pc = .ok (.lreturn, 1)) (h : Q v J) : GM E C J pc L [.long v] :=
  g_lret hC hQ (fun q h => hM.2.2 ▸ h) hr d (fun H t ho ht hW hF => ⟨⟨v, J, rfl, h, by rw [ht]; exact ho, va_K.moved hW.alike hM.1⟩, hM.2.2 ▸ hF⟩)
theorem gM_vret {Q : MS → Prop} (hC : COk C cc RX3 ret rf rl nL) (hM : MOk E C) (hQ : cx_Q C = MQ (cx_b C) (va_Qv Q (BM E) (mA E)) (cx_a C) (cx_s C) (cx_MC C) (cx_MS C) (mA E)) (hr : ret = none) (d : decode cc pc = .ok (.return_, 1)) (h : Q J) : GM E C J pc L [] :=
  g_vret hC hQ (fun q h => hM.2.2 ▸ h) hr d (fun H t ho ht hW hF => ⟨⟨J, rfl, h, by rw [ht]; exact ho, va_K.moved hW.alike hM.1⟩, hM.2.2 ▸ hF⟩)
end GMR
theorem MMet_of {E : ME} {l : Launch} {y : MethodName} {cc : ByteArray} {nL : Nat} {ret : Option FieldType} {F Lc : Nat} {As : List Value} {J : MS} {Qc : Array Value → State → Outcome → State → Prop} (hI : mInj E) (hy : plainName y.cls = true) (hc : y.cls = RX3) {L0 : List (Option Value)} (hlen : (lg_sl As).length ≤ nL) (hL0 : lx_pairs L0 = lv_args 0 As)
    (body : ∀ C : Cx, COk C cc RX3 ret F Lc nL → MOk E C → cx_l C = l → cx_Q C = MQ (cx_b C) Qc (cx_a C) (cx_s C) (cx_MC C) (cx_MS C) (mA E) → GM E C J 0 L0 []) : MMet E l y cc nL ret ({ frames := F, cells := 0, slots := 0, locals := Lc }) As J Qc :=
  ⟨rfl, rfl, met_gw (okM E) J (A := fun _ => mA E) hy hlen hL0 (fun U h => h.1) (fun C hC hl _ hB _ hA hQ _ _ => body C (hc ▸ hC) ⟨hB.2, hI, hA⟩ hl hQ)⟩
