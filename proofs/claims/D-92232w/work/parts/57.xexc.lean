/-! THE CLASS SIDE: EXCEPTIONS. X q S: thrown is the object q of the kind kE, in the world S. -/
def XB (E : XE) (S : XS) (sz : Nat) (En : String) (kE : Nat) (X : Nat → XS → Prop) : Addr → String → XS → State → Prop := fun q E' S' t => E' = En ∧ X q S' ∧ xKD S' q = some kE ∧ okXA E (xA S sz) S' t.heap
def XC0 (E : XE) (S : XS) (sz : Nat) (En : String) (kE : Nat) (X : Nat → XS → Prop) : Addr → String → State → State → Prop := vx_X (fun _ : XS => True) (XB E S sz En kE X) (xA S sz)
def XMetX (E : XE) (l : Launch) (y : MethodName) (cc : ByteArray) (nL : Nat) (ret : Option FieldType) (rm : Room) (As : List Value) (S : XS) (Qc : Nat → Array Value → State → Outcome → State → Prop) (En : String) (kE : Nat) (X : Nat → XS → Prop) : Prop :=
  ∀ sz : Nat, vx_Met l y (ws_ y cc nL ret) rm (va_Pc As (BX0 E S sz)) (Qc sz) (XC0 E S sz En kE X) rm.cells rm.slots (xA S sz)
def XMetW (E : XE) (l : Launch) (y : MethodName) (cc : ByteArray) (nL : Nat) (ret : Option FieldType) (hh : List (Nat × Nat × Nat × Nat)) (rm : Room) (As : List Value) (S : XS) (Qc : Nat → Array Value → State → Outcome → State → Prop) : Prop :=
  ∀ sz : Nat, Met l y (wsW_ y cc nL ret hh) rm (va_Pc As (BX0 E S sz)) (Qc sz) rm.cells rm.slots (xA S sz)
/-- q is thrown at pc -/
def GT (E : XE) (C : Cx) (S : XS) (mc ms pc : Nat) (L : List (Option Value)) (q : Nat) : Prop :=
  ∀ (H : Heap) (locs : List Loc) (cells slots : Nat) (ls : Array Slot) (rest : List Value), okXA E (cx_A C) S H → va_S (cx_A C) (cx_s C).heap H locs → cells + mc ≤ cx_MC C → slots + ms ≤ cx_MS C → lx_has ls (cx_nL C) L → vx_W (cx_p C) (cx_l C) (cx_e C) (cx_R C) (cx_s C) (cx_m C) (cx_a C) (cx_b C) (cx_h C) (cx_c C) H locs cells slots (cx_Q C) (F0 (cx_m C) pc ls rest) q
/-- the same walk with another end -/
def cx_to (C : Cx) (Q : State → Prop) : Cx := (C.1, C.2.1, C.2.2.1, C.2.2.2.1, C.2.2.2.2.1, C.2.2.2.2.2.1, C.2.2.2.2.2.2.1, C.2.2.2.2.2.2.2.1, C.2.2.2.2.2.2.2.2.1, C.2.2.2.2.2.2.2.2.2.1, C.2.2.2.2.2.2.2.2.2.2.1, Q, C.2.2.2.2.2.2.2.2.2.2.2.2)
section GXE
variable {E : XE} {C : Cx} {S : XS} {mc ms pc : Nat} {L : List (Option Value)} {st : List Value} {cc : ByteArray} {own : String} {ret : Option FieldType} {rf rl nL : Nat}
theorem x_cellN {H : Heap} {a n : Nat} {r : vw_C} (hX : XOk E C) (a1 : okXA E (cx_A C) S H) (hkd : xKD S a = some n) (hc : vwX[n]? = some r) (hn : n < 19 ∧ n ≠ 17) : ∃ cell : Cell, H[a]? = some cell ∧ cell.vm = .none ∧ (cx_s C).vm.findClass r.1 = some cell.cls := by
  have hro := xRO_not a1 hkd (by unfold xROk; omega)
  have hat := a1.1 a n hkd hro
  rw [xCell_o (by omega)] at hat
  obtain ⟨r', h1, cell, h2, h3, h4, -⟩ := hat
  exact ⟨cell, h2, h4, by rw [h3]; exact (hX.1.1.1 n r hc).2.1⟩
theorem gX_athrow (hC : COk C cc own ret rf rl nL) {q : Nat} (d : decode cc pc = .ok (.athrow, 1)) (k : GT E C S mc ms pc L q) : GX E C S mc ms pc L (va_rf (some q) :: st) :=
  fun H locs cells slots ls a1 a2 a3 a4 a5 => vx_athrow hC.1 hC.2.1 d (k H locs cells slots ls st a1 a2 a3 a4 a5)
/-- caught here -/
theorem gT_catch (hC : COk C cc own ret rf rl nL) (hX : XOk E C) {q n : Nat} {r : vw_C} {name : String} {hh : List (Nat × Nat × Nat × Nat)} (hT : (cx_c C).exceptionTable.toList = tableOf hh) (pre : List (Nat × Nat × Nat × Nat)) (x : Nat × Nat × Nat × Nat) (suf : List (Nat × Nat × Nat × Nat)) (hs : hh = pre ++ x :: suf) (hp : ∀ z ∈ tableOf pre, covers z pc = false) (hx : covers ⟨x.1, x.2.1, x.2.2.1, x.2.2.2⟩ pc = true) (h0 : x.2.2.2 ≠ 0) (hl : Cond.classLink own x.2.2.2 name ∈ lw_all) (hcast : Cond.castable r.1 name ∈ lw_tbl) (hkd : xKD S q = some n) (hc : vwX[n]? = some r) (hn : n < 19 ∧ n ≠ 17)
    (kk : GX E C S mc ms x.2.2.1 L [va_rf (some q)]) : GT E C S mc ms pc L q := by
  intro H locs cells slots ls rest a1 a2 a3 a4 a5
  obtain ⟨ce, h1, h2, h3⟩ := x_cellN hX a1 hkd hc hn
  refine vx_catch (own := own) (name := name) (E := r.1) (ce := ce) hC.2.2.2.2.2.1 (tableOf pre) ⟨x.1, x.2.1, x.2.2.1, x.2.2.2⟩ (tableOf suf) (by rw [hT, hs]; simp [tableOf]) (fun z hz => Or.inl (hp z hz)) hx h0 (hC.2.2.2.2.2.2.1 _ hl) (va_Nw.use rfl (hX.1.2.1 _ (nst_at hcast rfl))) h1 h2 h3 ?_
  exact kk H locs cells slots ls a1 a2 a3 a4 a5
/-- it goes out of the method -/
theorem gT_out {S0 : XS} {sz : Nat} {Qc : Array Value → State → Outcome → State → Prop} {kE : Nat} {X : Nat → XS → Prop} {q : Nat} {r : vw_C} (hC : COk C cc own ret rf rl nL) (hX : XOk E C) (hT : ∀ x ∈ (cx_c C).exceptionTable.toList, False) (hA : cx_A C = xA S0 sz) (hQ : cx_Q C = vx_MQ (cx_b C) Qc (XC0 E S0 sz r.1 kE X) (cx_a C) (cx_s C) (cx_MC C) (cx_MS C) (xA S0 sz)) (hkd : xKD S q = some kE) (hc : vwX[kE]? = some r) (hn : kE < 19 ∧ kE ≠ 17) (h : X q S) : GT E C S mc ms pc L q := by
  intro H locs cells slots ls rest a1 a2 a3 a4 a5
  obtain ⟨ce, h1, h2, h3⟩ := x_cellN hX a1 hkd hc hn
  rw [hQ]
  refine vx_out (fun x hx => (hT x hx).elim) hC.2.2.2.1 h1 h2 h3 (fun t ht _ => ⟨S, trivial, ⟨rfl, h, hkd, by rw [ht, ← hA]; exact a1⟩, by rw [← hA]; exact a2.F ht⟩) (fun z hz => by rw [← hA]; exact a2.2.2 z hz) (Nat.le_trans (Nat.le_add_right _ _) a3) (Nat.le_trans (Nat.le_add_right _ _) a4)
/-- a body that may throw ends as one that may not -/
theorem gX_end {S0 : XS} {sz : Nat} {Qc : Array Value → State → Outcome → State → Prop} {XC : Addr → String → State → State → Prop} (hQ : cx_Q C = vx_MQ (cx_b C) Qc XC (cx_a C) (cx_s C) (cx_MC C) (cx_MS C) (xA S0 sz)) (k : GX E (cx_to C (MQ (cx_b C) Qc (cx_a C) (cx_s C) (cx_MC C) (cx_MS C) (xA S0 sz))) S mc ms pc L st) : GX E C S mc ms pc L st := by
  intro H locs cells slots ls a1 a2 a3 a4 a5
  rw [hQ]
  exact vx_ret (k H locs cells slots ls a1 a2 a3 a4 a5)
def XRunX (E : XE) (C : Cx) (S : XS) (mc ms : Nat) (pc : Nat) (L : List (Option Value)) (st rest : List Value) (k n : Nat) (Qa : Nat → State → Outcome → State → Prop) (XC : Nat → Addr → String → State → State → Prop) : Prop :=
  ∀ (H : Heap) (locs : List Loc) (cells slots : Nat) (ls : Array Slot), okXA E (cx_A C) S H → va_S (cx_A C) (cx_s C).heap H locs → cells + mc ≤ cx_MC C → slots + ms ≤ cx_MS C → lx_has ls (cx_nL C) L → vx_Run (cx_p C) (cx_l C) (cx_e C) (cx_R C) (cx_s C) (cx_m C) (cx_a C) (cx_b C) (cx_h C) (cx_c C) H locs cells slots k n (F0 (cx_m C) pc ls st) rest (Qa H.size) (XC H.size) (xA S H.size)
theorem gX_xrunV {As rest : List Value} {Qa : Nat → Array Value → State → Outcome → State → Prop} {y : MethodName} {cy : ByteArray} {nLy n idx : Nat} {rety : Option FieldType} {rm : Room} {En : String} {kE : Nat} {X : Nat → XS → Prop} {b kb : Nat} {r : vw_C} {Cr : String} (hC : COk C cc own ret rf rl nL) (hX : XOk E C) (hy : XMetX E (cx_l C) y cy nLy rety rm (va_rf (some b) :: As) S Qa En kE X) (hw : GoodIn lw_all (wsV own idx Cr y (ws_ y cy nLy rety))) (hd : y.cls = Cr ∧ y.cls ≠ "java/lang/invoke/MethodHandle" ∧ y.cls ≠ "java/lang/invoke/VarHandle" ∧ (parseMethodDescriptor y.desc).map (fun d => d.parameters.length) = some n) (hn : As.length = n) (hst : st = As.reverse ++ va_rf (some b) :: rest) (hcat : rest.length ≤ 4 ∨ rest.length ≤ 8 ∧ ∀ v ∈ rest, v.category = 1) (hR : rm.frames + 1 ≤ rf ∧ 8 + (nLy + 11) + rm.locals ≤ rl) (d : decode cc pc = .ok (.invokevirtual idx, 3)) (hmc : rm.cells ≤ mc) (hms : rm.slots ≤ ms) (hkb : xKD S b = some kb) (hcb : vwX[kb]? = some r) (hnb : kb < 19 ∧ kb ≠ 17) (hrb : r.1 = Cr) : XRunX E C S mc ms pc L st rest rm.cells rm.slots (fun sz => Qa sz (va_rf (some b) :: As).toArray) (fun sz => XC0 E S sz En kE X) := by
  subst hst
  intro H locs cells slots ls a1 a2 a3 a4 a5
  have hZ := x_pre (As := (va_rf (some b) :: As)) hX a1 a2
  obtain ⟨hx, hb, hr, hlk0, hml, hown, hts, hrf, hrl, hrc, hrs, hnl⟩ := id hC
  exact vx_runV (As := As) (rest := rest) ⟨hx, hb, hml, hown, hts⟩ (hy H.size) (cwV n hts hw rfl rfl rfl hd ⟨by rw [hrf]; exact hR.1, by rw [hrl]; exact hR.2⟩) ⟨BX0_blind, hrb ▸ x_recv hX a1 hkb hcb hnb, hZ⟩ rfl hn a5.1 rfl (lv_room (cat_or hcat)) d ⟨by rw [hrc]; omega, by rw [hrs]; omega⟩
theorem gX_xrunS {As rest : List Value} {Qa : Nat → Array Value → State → Outcome → State → Prop} {y : MethodName} {cy : ByteArray} {nLy n idx : Nat} {rety : Option FieldType} {rm : Room} {En : String} {kE : Nat} {X : Nat → XS → Prop}  (hC : COk C cc own ret rf rl nL) (hX : XOk E C) (hy : XMetX E (cx_l C) y cy nLy rety rm As S Qa En kE X) (hw : GoodIn lw_all (va_wsS own idx y (ws_ y cy nLy rety))) (hd : y.cls ≠ "java/lang/invoke/MethodHandle" ∧ y.cls ≠ "java/lang/invoke/VarHandle" ∧ (parseMethodDescriptor y.desc).map (fun d => d.parameters.length) = some n) (hn : As.length = n) (hst : st = As.reverse ++ rest) (hcat : rest.length ≤ 4 ∨ rest.length ≤ 8 ∧ ∀ v ∈ rest, v.category = 1) (hR : rm.frames + 1 ≤ rf ∧ 8 + (nLy + 11) + rm.locals ≤ rl) (d : decode cc pc = .ok (.invokestatic idx, 3)) (hmc : rm.cells ≤ mc) (hms : rm.slots ≤ ms)  : XRunX E C S mc ms pc L st rest rm.cells rm.slots (fun sz => Qa sz As.toArray) (fun sz => XC0 E S sz En kE X) := by
  subst hst
  intro H locs cells slots ls a1 a2 a3 a4 a5
  have hZ := x_pre (As := As) hX a1 a2
  obtain ⟨hx, hb, hr, hlk0, hml, hown, hts, hrf, hrl, hrc, hrs, hnl⟩ := id hC
  exact vx_runS (As := As) (rest := rest) ⟨hx, hb, hml, hown, hts⟩ (hy H.size) (va_cwS n hts hw rfl rfl rfl hd ⟨by rw [hrf]; exact hR.1, by rw [hrl]; exact hR.2⟩) ⟨BX0_blind, hZ⟩ rfl hn a5.1 rfl (lv_room (cat_or hcat)) d ⟨by rw [hrc]; omega, by rw [hrs]; omega⟩
theorem gX_xrunVN {As rest : List Value} {Qa : Nat → Array Value → State → Outcome → State → Prop} {y : MethodName} {cy : ByteArray} {nLy n idx : Nat} {rety : Option FieldType} {rm : Room} {En : String} {kE : Nat} {X : Nat → XS → Prop} {b kb : Nat} {r : vw_C} {Cr : String} {host : String} (hC : COk C cc own ret rf rl nL) (hX : XOk E C) (hy : XMetX E (cx_l C) y cy nLy rety rm (va_rf (some b) :: As) S Qa En kE X) (hw : Cond.code y cy nLy rety ∈ lw_all) (hlk : Cond.methodLinkNest own idx y host ∈ lw_tbl) (hini : Cond.initialized y.cls ∈ lw_all) (hd : y.cls ≠ "java/lang/invoke/MethodHandle" ∧ y.cls ≠ "java/lang/invoke/VarHandle" ∧ (parseMethodDescriptor y.desc).map (fun d => d.parameters.length) = some n) (hin : Cond.instanceMethod y ∈ lw_all) (hsel : Cond.selects Cr y y ∈ lw_all) (hn : As.length = n) (hst : st = As.reverse ++ va_rf (some b) :: rest) (hcat : rest.length ≤ 4 ∨ rest.length ≤ 8 ∧ ∀ v ∈ rest, v.category = 1) (hR : rm.frames + 1 ≤ rf ∧ 8 + (nLy + 11) + rm.locals ≤ rl) (d : decode cc pc = .ok (.invokevirtual idx, 3)) (hmc : rm.cells ≤ mc) (hms : rm.slots ≤ ms) (hkb : xKD S b = some kb) (hcb : vwX[kb]? = some r) (hnb : kb < 19 ∧ kb ≠ 17) (hrb : r.1 = Cr) : XRunX E C S mc ms pc L st rest rm.cells rm.slots (fun sz => Qa sz (va_rf (some b) :: As).toArray) (fun sz => XC0 E S sz En kE X) := by
  subst hst
  intro H locs cells slots ls a1 a2 a3 a4 a5
  have hZ := x_pre (As := (va_rf (some b) :: As)) hX a1 a2
  obtain ⟨hx, hb, hr, hlk0, hml, hown, hts, hrf, hrl, hrc, hrs, hnl⟩ := id hC
  exact vx_runVN (As := As) (rest := rest) ⟨hx, hb, hml, hown, hts⟩ (hy H.size) ⟨va_cnB n hts (lw_meth hw) rfl rfl rfl (hX.1.2.1 _ (nst_at hlk rfl)) (hts _ hini) hd ⟨by rw [hrf]; exact hR.1, by rw [hrl]; exact hR.2⟩, hts _ hin, hts _ hsel⟩ ⟨BX0_blind, hrb ▸ x_recv hX a1 hkb hcb hnb, hZ⟩ rfl hn a5.1 rfl (lv_room (cat_or hcat)) d ⟨by rw [hrc]; omega, by rw [hrs]; omega⟩
theorem gX_xrunSN {As rest : List Value} {Qa : Nat → Array Value → State → Outcome → State → Prop} {y : MethodName} {cy : ByteArray} {nLy n idx : Nat} {rety : Option FieldType} {rm : Room} {En : String} {kE : Nat} {X : Nat → XS → Prop} {host : String} (hC : COk C cc own ret rf rl nL) (hX : XOk E C) (hy : XMetX E (cx_l C) y cy nLy rety rm As S Qa En kE X) (hw : Cond.code y cy nLy rety ∈ lw_all) (hlk : Cond.methodLinkNest own idx y host ∈ lw_tbl) (hini : Cond.initialized y.cls ∈ lw_all) (hd : y.cls ≠ "java/lang/invoke/MethodHandle" ∧ y.cls ≠ "java/lang/invoke/VarHandle" ∧ (parseMethodDescriptor y.desc).map (fun d => d.parameters.length) = some n) (hst0 : Cond.static y ∈ lw_all) (hn : As.length = n) (hst : st = As.reverse ++ rest) (hcat : rest.length ≤ 4 ∨ rest.length ≤ 8 ∧ ∀ v ∈ rest, v.category = 1) (hR : rm.frames + 1 ≤ rf ∧ 8 + (nLy + 11) + rm.locals ≤ rl) (d : decode cc pc = .ok (.invokestatic idx, 3)) (hmc : rm.cells ≤ mc) (hms : rm.slots ≤ ms)  : XRunX E C S mc ms pc L st rest rm.cells rm.slots (fun sz => Qa sz As.toArray) (fun sz => XC0 E S sz En kE X) := by
  subst hst
  intro H locs cells slots ls a1 a2 a3 a4 a5
  have hZ := x_pre (As := As) hX a1 a2
  obtain ⟨hx, hb, hr, hlk0, hml, hown, hts, hrf, hrl, hrc, hrs, hnl⟩ := id hC
  exact vx_runSN (As := As) (rest := rest) ⟨hx, hb, hml, hown, hts⟩ (hy H.size) ⟨va_cnB n hts (lw_meth hw) rfl rfl rfl (hX.1.2.1 _ (nst_at hlk rfl)) (hts _ hini) hd ⟨by rw [hrf]; exact hR.1, by rw [hrl]; exact hR.2⟩, hts _ hst0, trivial⟩ ⟨BX0_blind, hZ⟩ rfl hn a5.1 rfl (lv_room (cat_or hcat)) d ⟨by rw [hrc]; omega, by rw [hrs]; omega⟩
theorem gX_xi {Q : Int32 → XS → Prop} {k n kE : Nat} {En : String} {X : Nat → XS → Prop} {a : Array Value} {rest : List Value} (hX : XOk E C) (hrun : XRunX E C S mc ms pc L st rest k n (fun sz => va_Qi Q (BX1 E S sz) (xA S sz) a) (fun sz => XC0 E S sz En kE X)) (hmc : k ≤ mc) (hms : n ≤ ms) (kx : ∀ (q : Nat) (S1 : XS), X q S1 → xKD S1 q = some kE → GT E C S1 (mc - k) (ms - n) pc L q) (kk : ∀ (r : Int32) (S1 : XS), Q r S1 → GX E C S1 (mc - k) (ms - n) (pc + 3) L (.int r :: rest)) : GX E C S mc ms pc L st := by
  intro H locs cells slots ls a1 a2 a3 a4 a5
  refine vx_calli (hrun H locs cells slots ls a1 a2 a3 a4 a5) a2 (fun q _ h => okX_Asub a1 hX.2.1 a2.1 q h) (fun q h => okX_Asub a1 hX.2.1 a2.1 q h) (fun q _ h => okX_Asub a1 hX.2.1 a2.1 q h) (fun E' ce q9 u t H1 locs1 ht hvm _ hB hz hk hS hc1 hc2 hc3 => ?_) (fun r u t H1 locs1 ht hvm hq hB hz hk hS => ?_)
  · obtain ⟨rfl, hx1, hx2, hx3⟩ := hB
    refine kx q9 u hx1 hx2 H1 locs1 _ _ ls rest ?_ hS (by omega) (by omega) a5
    rw [← ht]
    exact okX_back a1 hX.2.1 a2.1 hx3
  · refine kk r u hq H1 locs1 _ _ ls ?_ hS (by omega) (by omega) a5
    rw [← ht]
    exact okX_back a1 hX.2.1 a2.1 hB
theorem gX_yi {Q : Int32 → XS → Prop} {k n kE : Nat} {En : String} {X : Nat → XS → Prop} {a : Array Value} {rest : List Value} (hX : XOk E C) (hrun : XRunX E C S mc ms pc L st rest k n (fun sz => va_Qi Q (BX1 E S sz) (xA S sz) a) (fun sz => XC0 E S sz En kE X)) (hmc : k = 0) (hms : n = 0) (kx : ∀ (q : Nat) (S1 : XS), X q S1 → xKD S1 q = some kE → GT E C S1 mc ms pc L q) (kk : ∀ (r : Int32) (S1 : XS), Q r S1 → GX E C S1 mc ms (pc + 3) L (.int r :: rest)) : GX E C S mc ms pc L st := by
  subst hmc
  subst hms
  exact gX_xi hX hrun (Nat.zero_le _) (Nat.zero_le _) kx kk
theorem gX_xv {Q : XS → Prop} {k n kE : Nat} {En : String} {X : Nat → XS → Prop} {a : Array Value} {rest : List Value} (hX : XOk E C) (hrun : XRunX E C S mc ms pc L st rest k n (fun sz => va_Qv Q (BX1 E S sz) (xA S sz) a) (fun sz => XC0 E S sz En kE X)) (hmc : k ≤ mc) (hms : n ≤ ms) (kx : ∀ (q : Nat) (S1 : XS), X q S1 → xKD S1 q = some kE → GT E C S1 (mc - k) (ms - n) pc L q) (kk : ∀ (S1 : XS), Q S1 → GX E C S1 (mc - k) (ms - n) (pc + 3) L rest) : GX E C S mc ms pc L st := by
  intro H locs cells slots ls a1 a2 a3 a4 a5
  refine vx_callv (hrun H locs cells slots ls a1 a2 a3 a4 a5) a2 (fun q _ h => okX_Asub a1 hX.2.1 a2.1 q h) (fun q h => okX_Asub a1 hX.2.1 a2.1 q h) (fun q _ h => okX_Asub a1 hX.2.1 a2.1 q h) (fun E' ce q9 u t H1 locs1 ht hvm _ hB hz hk hS hc1 hc2 hc3 => ?_) (fun u t H1 locs1 ht hvm hq hB hz hk hS => ?_)
  · obtain ⟨rfl, hx1, hx2, hx3⟩ := hB
    refine kx q9 u hx1 hx2 H1 locs1 _ _ ls rest ?_ hS (by omega) (by omega) a5
    rw [← ht]
    exact okX_back a1 hX.2.1 a2.1 hx3
  · refine kk u hq H1 locs1 _ _ ls ?_ hS (by omega) (by omega) a5
    rw [← ht]
    exact okX_back a1 hX.2.1 a2.1 hB
theorem gX_yv {Q : XS → Prop} {k n kE : Nat} {En : String} {X : Nat → XS → Prop} {a : Array Value} {rest : List Value} (hX : XOk E C) (hrun : XRunX E C S mc ms pc L st rest k n (fun sz => va_Qv Q (BX1 E S sz) (xA S sz) a) (fun sz => XC0 E S sz En kE X)) (hmc : k = 0) (hms : n = 0) (kx : ∀ (q : Nat) (S1 : XS), X q S1 → xKD S1 q = some kE → GT E C S1 mc ms pc L q) (kk : ∀ (S1 : XS), Q S1 → GX E C S1 mc ms (pc + 3) L rest) : GX E C S mc ms pc L st := by
  subst hmc
  subst hms
  exact gX_xv hX hrun (Nat.zero_le _) (Nat.zero_le _) kx kk
theorem gX_xq {Q : Option Nat → XS → Prop} {k n kE : Nat} {En : String} {X : Nat → XS → Prop} {a : Array Value} {rest : List Value} (hX : XOk E C) (hrun : XRunX E C S mc ms pc L st rest k n (fun sz => va_Qq Q (BX1 E S sz) (xA S sz) a) (fun sz => XC0 E S sz En kE X)) (hmc : k ≤ mc) (hms : n ≤ ms) (kx : ∀ (q : Nat) (S1 : XS), X q S1 → xKD S1 q = some kE → GT E C S1 (mc - k) (ms - n) pc L q) (kk : ∀ (r : Option Nat) (S1 : XS), Q r S1 → GX E C S1 (mc - k) (ms - n) (pc + 3) L (va_rf r :: rest)) : GX E C S mc ms pc L st := by
  intro H locs cells slots ls a1 a2 a3 a4 a5
  refine vx_callq (hrun H locs cells slots ls a1 a2 a3 a4 a5) a2 (fun q _ h => okX_Asub a1 hX.2.1 a2.1 q h) (fun q h => okX_Asub a1 hX.2.1 a2.1 q h) (fun q _ h => okX_Asub a1 hX.2.1 a2.1 q h) (fun E' ce q9 u t H1 locs1 ht hvm _ hB hz hk hS hc1 hc2 hc3 => ?_) (fun r u t H1 locs1 ht hvm hq hB hz hk hS => ?_)
  · obtain ⟨rfl, hx1, hx2, hx3⟩ := hB
    refine kx q9 u hx1 hx2 H1 locs1 _ _ ls rest ?_ hS (by omega) (by omega) a5
    rw [← ht]
    exact okX_back a1 hX.2.1 a2.1 hx3
  · refine kk r u hq H1 locs1 _ _ ls ?_ hS (by omega) (by omega) a5
    rw [← ht]
    exact okX_back a1 hX.2.1 a2.1 hB
theorem gX_yq {Q : Option Nat → XS → Prop} {k n kE : Nat} {En : String} {X : Nat → XS → Prop} {a : Array Value} {rest : List Value} (hX : XOk E C) (hrun : XRunX E C S mc ms pc L st rest k n (fun sz => va_Qq Q (BX1 E S sz) (xA S sz) a) (fun sz => XC0 E S sz En kE X)) (hmc : k = 0) (hms : n = 0) (kx : ∀ (q : Nat) (S1 : XS), X q S1 → xKD S1 q = some kE → GT E C S1 mc ms pc L q) (kk : ∀ (r : Option Nat) (S1 : XS), Q r S1 → GX E C S1 mc ms (pc + 3) L (va_rf r :: rest)) : GX E C S mc ms pc L st := by
  subst hmc
  subst hms
  exact gX_xq hX hrun (Nat.zero_le _) (Nat.zero_le _) kx kk
end GXE
theorem metx_gw {ω : Type} (ok : ω → Heap → Prop) (w : ω) {l : Launch} {y : MethodName} {rm : Room} {As : List Value} {B : State → Prop} {Qc : Array Value → State → Outcome → State → Prop} {XC : Addr → String → State → State → Prop} {A : State → Nat → Prop} {free : Addr → Prop} {cc : ByteArray} {nL : Nat} {ret : Option FieldType} {L0 : List (Option Value)}
    (hy : plainName y.cls = true) (hlen : (lg_sl As).length ≤ nL) (hL0 : lx_pairs L0 = lv_args 0 As)
    (hB : ∀ U : State, B U → ok w U.heap)
    (body : ∀ C : Cx, COk C cc y.cls ret rm.frames rm.locals nL → cx_l C = l → cx_a C = As.toArray → B (cx_s C) → (cx_h C).name = y.name → (∀ x ∈ (cx_c C).exceptionTable.toList, False) → cx_A C = A (cx_s C) → cx_Q C = vx_MQ (cx_b C) Qc XC (cx_a C) (cx_s C) (cx_MC C) (cx_MS C) free → cx_MC C = rm.cells → cx_MS C = rm.slots → Gw ok C w rm.cells rm.slots 0 L0 []) :
    vx_Met l y (ws_ y cc nL ret) rm (va_Pc As B) Qc XC rm.cells rm.slots free := by
  refine vx_ofW (cc := cc) (maxL := nL) (ret := ret) hy rfl ?_
  intro p e s m args below meth c s₁ B0 hml ht hv
  obtain ⟨rfl, hb0⟩ := hv
  have hts := atoms_spec (ws := ws_ y cc nL ret) B0.pre
  have hts : ∀ w ∈ lw_all, w.before _ s = true := fun w h => hts w (List.mem_cons_of_mem _ h)
  have hl := lv_entry As (n := nL) hlen
  rw [lg_entry_eq]
  refine body (p, l, e, (headSpec (ws_ y cc nL ret) rm).room, s, m, As.toArray, below, meth, c, A s, vx_MQ below Qc XC As.toArray s rm.cells rm.slots free, nL, rm.cells, rm.slots) ⟨B0.exec, B0.bytes, B0.returns, B0.notSynchronized, hml, findClass_of_methodNamed B0.named, hts, rfl, rfl, rfl, rfl, rfl⟩ rfl rfl hb0 (name_of_methodNamed B0.named B0.method).1 ht rfl rfl rfl rfl s.heap [] 0 0 _ (hB s hb0) va_S.rf (by simp) (by simp) (lx_of hl (fun q hq => hL0 ▸ hq))
theorem metw_gw {ω : Type} (ok : ω → Heap → Prop) (w : ω) {l : Launch} {y : MethodName} {rm : Room} {As : List Value} {B : State → Prop} {Qc : Array Value → State → Outcome → State → Prop} {A : State → Nat → Prop} {free : Addr → Prop} {cc : ByteArray} {nL : Nat} {ret : Option FieldType} {hh : List (Nat × Nat × Nat × Nat)} {L0 : List (Option Value)}
    (hy : plainName y.cls = true) (hlen : (lg_sl As).length ≤ nL) (hL0 : lx_pairs L0 = lv_args 0 As)
    (hB : ∀ U : State, B U → ok w U.heap)
    (body : ∀ C : Cx, COk C cc y.cls ret rm.frames rm.locals nL → cx_l C = l → cx_a C = As.toArray → B (cx_s C) → (cx_h C).name = y.name → (cx_c C).exceptionTable.toList = tableOf hh → cx_A C = A (cx_s C) → cx_Q C = MQ (cx_b C) Qc (cx_a C) (cx_s C) (cx_MC C) (cx_MS C) free → cx_MC C = rm.cells → cx_MS C = rm.slots → Gw ok C w rm.cells rm.slots 0 L0 []) :
    Met l y (wsW_ y cc nL ret hh) rm (va_Pc As B) Qc rm.cells rm.slots free := by
  have hM : vx_Met l y (wsW_ y cc nL ret hh) rm (va_Pc As B) Qc (fun _ _ _ _ => False) rm.cells rm.slots free := by
    refine vx_ofWH (cc := cc) (maxL := nL) (ret := ret) (hh := hh) hy rfl ?_
    intro p e s m args below meth c s₁ B0 hml hv
    obtain ⟨rfl, hb0⟩ := hv
    have hts0 := atoms_spec (ws := wsW_ y cc nL ret hh) B0.pre
    have hts : ∀ w ∈ lw_all, w.before _ s = true := fun w h => hts0 w (List.mem_cons_of_mem _ h)
    have htab := vx_table (x := y) B0 (hts0 _ List.mem_cons_self)
    have hl := lv_entry As (n := nL) hlen
    rw [lg_entry_eq]
    refine vx_ret ?_
    exact body (p, l, e, (headSpec (wsW_ y cc nL ret hh) rm).room, s, m, As.toArray, below, meth, c, A s, MQ below Qc As.toArray s rm.cells rm.slots free, nL, rm.cells, rm.slots) ⟨B0.exec, B0.bytes, B0.returns, B0.notSynchronized, hml, findClass_of_methodNamed B0.named, hts, rfl, rfl, rfl, rfl, rfl⟩ rfl rfl hb0 (name_of_methodNamed B0.named B0.method).1 htab rfl rfl rfl rfl s.heap [] 0 0 _ (hB s hb0) va_S.rf (by simp) (by simp) (lx_of hl (fun q hq => hL0 ▸ hq))
  refine MetFree.mono hM (fun _ _ h => h) (fun _ _ _ _ _ h => h) (fun a s o t _ h => ?_)
  rcases h with h | ⟨q, -, E9, ce, L9, hf, -⟩
  · exact h
  · exact hf.elim
theorem XMetX_of {E : XE} {l : Launch} {y : MethodName} {cc : ByteArray} {nL : Nat} {ret : Option FieldType} {rm : Room} {As : List Value} {S : XS} {Qc : Nat → Array Value → State → Outcome → State → Prop} {En : String} {kE : Nat} {X : Nat → XS → Prop} (hy : plainName y.cls = true) (hlen : (lg_sl As).length ≤ nL) {L0 : List (Option Value)} (hL0 : lx_pairs L0 = lv_args 0 As)
    (body : ∀ (sz : Nat) (C : Cx), COk C cc y.cls ret rm.frames rm.locals nL → XOk E C → cx_l C = l → (cx_h C).name = y.name → (∀ x ∈ (cx_c C).exceptionTable.toList, False) → cx_A C = xA S sz → cx_Q C = vx_MQ (cx_b C) (Qc sz) (XC0 E S sz En kE X) (cx_a C) (cx_s C) (cx_MC C) (cx_MS C) (xA S sz) → GX E C S rm.cells rm.slots 0 L0 []) : XMetX E l y cc nL ret rm As S Qc En kE X := by
  intro sz
  refine metx_gw (okXA E (xA S sz)) S (A := fun _ => xA S sz) hy hlen hL0 (fun U h => h.2.1) (fun C hC hl _ hB hnm hT hA hQ _ _ => ?_)
  have hX : XOk E C := ⟨hB.2.2.1, fun q hq => by rw [hA]; exact Or.inr (by rw [← hB.1]; exact hq), by rw [hA]; exact hB.2.2.2⟩
  have := body sz C hC hX hl hnm hT hA hQ
  rw [show okXA E (xA S sz) = okXA E (cx_A C) by rw [hA]]
  exact this
theorem XMetW_of {E : XE} {l : Launch} {y : MethodName} {cc : ByteArray} {nL : Nat} {ret : Option FieldType} {hh : List (Nat × Nat × Nat × Nat)} {rm : Room} {As : List Value} {S : XS} {Qc : Nat → Array Value → State → Outcome → State → Prop} (hy : plainName y.cls = true) (hlen : (lg_sl As).length ≤ nL) {L0 : List (Option Value)} (hL0 : lx_pairs L0 = lv_args 0 As)
    (body : ∀ (sz : Nat) (C : Cx), COk C cc y.cls ret rm.frames rm.locals nL → XOk E C → cx_l C = l → (cx_h C).name = y.name → (cx_c C).exceptionTable.toList = tableOf hh → cx_A C = xA S sz → cx_Q C = MQ (cx_b C) (Qc sz) (cx_a C) (cx_s C) (cx_MC C) (cx_MS C) (xA S sz) → GX E C S rm.cells rm.slots 0 L0 []) : XMetW E l y cc nL ret hh rm As S Qc := by
  intro sz
  refine metw_gw (okXA E (xA S sz)) S (A := fun _ => xA S sz) hy hlen hL0 (fun U h => h.2.1) (fun C hC hl _ hB hnm hT hA hQ _ _ => ?_)
  have hX : XOk E C := ⟨hB.2.2.1, fun q hq => by rw [hA]; exact Or.inr (by rw [← hB.1]; exact hq), by rw [hA]; exact hB.2.2.2⟩
  have := body sz C hC hX hl hnm hT hA hQ
  rw [show okXA E (xA S sz) = okXA E (cx_A C) by rw [hA]]
  exact this
