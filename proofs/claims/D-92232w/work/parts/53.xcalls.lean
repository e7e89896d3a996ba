/-! THE CLASS SIDE's CALLS -/
theorem cat_or {l : List Value} (h : l.length ≤ 4 ∨ l.length ≤ 8 ∧ ∀ v ∈ l, v.category = 1) : (l.map fun v => v.category).sum ≤ 8 := by
  rcases h with h | ⟨h, h1⟩
  · exact cat_le h
  · have : ∀ l : List Value, (∀ v ∈ l, v.category = 1) → (l.map fun v => v.category).sum = l.length := by
      intro l
      induction l with
      | nil => intro _; rfl
      | cons v l ih =>
        intro h
        have h2 := ih (fun u hu => h u (List.mem_cons_of_mem _ hu))
        have h3 := h v List.mem_cons_self
        simp only [List.map_cons, List.sum_cons, List.length_cons, h2, h3]
        omega
    rw [this l h1]
    exact h
section GXC
variable {E : XE} {C : Cx} {S : XS} {mc ms pc : Nat} {L : List (Option Value)} {st : List Value} {cc : ByteArray} {own : String} {ret : Option FieldType} {rf rl nL : Nat}
/-- a call's run, from any heap that holds the world -/
def XRun (E : XE) (C : Cx) (S : XS) (mc ms : Nat) (pc : Nat) (L : List (Option Value)) (st rest : List Value) (k n : Nat) (Qa : Nat → State → Outcome → State → Prop) : Prop :=
  ∀ (H : Heap) (locs : List Loc) (cells slots : Nat) (ls : Array Slot), okXA E (cx_A C) S H → va_S (cx_A C) (cx_s C).heap H locs → cells + mc ≤ cx_MC C → slots + ms ≤ cx_MS C → lx_has ls (cx_nL C) L → va_Run (cx_p C) (cx_l C) (cx_e C) (cx_R C) (cx_s C) (cx_m C) (cx_a C) (cx_b C) (cx_h C) (cx_c C) H locs cells slots k n (F0 (cx_m C) pc ls st) rest (Qa H.size) (xA S H.size)
def XRun5 (E : XE) (C : Cx) (S : XS) (mc ms : Nat) (pc : Nat) (L : List (Option Value)) (st rest : List Value) (k n : Nat) (Qa : Nat → State → Outcome → State → Prop) : Prop :=
  ∀ (H : Heap) (locs : List Loc) (cells slots : Nat) (ls : Array Slot), okXA E (cx_A C) S H → va_S (cx_A C) (cx_s C).heap H locs → cells + mc ≤ cx_MC C → slots + ms ≤ cx_MS C → lx_has ls (cx_nL C) L → va_Run5 (cx_p C) (cx_l C) (cx_e C) (cx_R C) (cx_s C) (cx_m C) (cx_a C) (cx_b C) (cx_h C) (cx_c C) H locs cells slots k n (F0 (cx_m C) pc ls st) rest (Qa H.size) (xA S H.size)
theorem x_pre {As : List Value} {H : Heap} {locs : List Loc} (hX : XOk E C) (a1 : okXA E (cx_A C) S H) (a2 : va_S (cx_A C) (cx_s C).heap H locs) : ∀ U : State, U.heap = H → (cx_s C).WarmedH U.vm → va_Pc As (BX0 E S H.size) As.toArray U := by
  intro U hU hW
  refine ⟨rfl, by rw [hU], by rw [hU]; exact okX_own a1 hX.2.1 a2.1, KX.warm hW hX.1, ?_⟩
  exact ZX.sub hX.2.2 a2 (fun q hq z => okX_Asub a1 hX.2.1 a2.1 q z) hW.alike hU
theorem gX_runV {As rest : List Value} {Qa : Nat → Array Value → State → Outcome → State → Prop} {y : MethodName} {cy : ByteArray} {nLy n idx : Nat} {rety : Option FieldType} {rm : Room} {b kb : Nat} {r : vw_C} {Cr : String} (hC : COk C cc own ret rf rl nL) (hX : XOk E C) (hy : XMet E (cx_l C) y cy nLy rety rm (va_rf (some b) :: As) S Qa) (hw : GoodIn lw_all (wsV own idx Cr y (ws_ y cy nLy rety))) (hd : y.cls = Cr ∧ y.cls ≠ "java/lang/invoke/MethodHandle" ∧ y.cls ≠ "java/lang/invoke/VarHandle" ∧ (parseMethodDescriptor y.desc).map (fun d => d.parameters.length) = some n) (hn : As.length = n) (hst : st = As.reverse ++ va_rf (some b) :: rest) (hcat : rest.length ≤ 4 ∨ rest.length ≤ 8 ∧ ∀ v ∈ rest, v.category = 1) (hR : rm.frames + 1 ≤ rf ∧ 8 + (nLy + 11) + rm.locals ≤ rl) (d : decode cc pc = .ok (.invokevirtual idx, 3)) (hmc : rm.cells ≤ mc) (hms : rm.slots ≤ ms) (hkb : xKD S b = some kb) (hcb : vwX[kb]? = some r) (hnb : kb < 19 ∧ kb ≠ 17) (hrb : r.1 = Cr) : XRun E C S mc ms pc L st rest rm.cells rm.slots (fun sz => Qa sz (va_rf (some b) :: As).toArray) := by
  subst hst
  intro H locs cells slots ls a1 a2 a3 a4 a5
  have hZ := x_pre (As := (va_rf (some b) :: As)) hX a1 a2
  obtain ⟨hx, hb, hr, hlk0, hml, hown, hts, hrf, hrl, hrc, hrs, hnl⟩ := id hC
  exact va_runV (As := As) (rest := rest) ⟨hx, hb, hml, hown, hts⟩ (hy H.size) (cwV n hts hw rfl rfl rfl hd ⟨by rw [hrf]; exact hR.1, by rw [hrl]; exact hR.2⟩) ⟨BX0_blind, hrb ▸ x_recv hX a1 hkb hcb hnb, hZ⟩ rfl hn a5.1 rfl (lv_room (cat_or hcat)) d ⟨by rw [hrc]; omega, by rw [hrs]; omega⟩
theorem gX_runS {As rest : List Value} {Qa : Nat → Array Value → State → Outcome → State → Prop} {y : MethodName} {cy : ByteArray} {nLy n idx : Nat} {rety : Option FieldType} {rm : Room}  (hC : COk C cc own ret rf rl nL) (hX : XOk E C) (hy : XMet E (cx_l C) y cy nLy rety rm As S Qa) (hw : GoodIn lw_all (va_wsS own idx y (ws_ y cy nLy rety))) (hd : y.cls ≠ "java/lang/invoke/MethodHandle" ∧ y.cls ≠ "java/lang/invoke/VarHandle" ∧ (parseMethodDescriptor y.desc).map (fun d => d.parameters.length) = some n) (hn : As.length = n) (hst : st = As.reverse ++ rest) (hcat : rest.length ≤ 4 ∨ rest.length ≤ 8 ∧ ∀ v ∈ rest, v.category = 1) (hR : rm.frames + 1 ≤ rf ∧ 8 + (nLy + 11) + rm.locals ≤ rl) (d : decode cc pc = .ok (.invokestatic idx, 3)) (hmc : rm.cells ≤ mc) (hms : rm.slots ≤ ms)  : XRun E C S mc ms pc L st rest rm.cells rm.slots (fun sz => Qa sz As.toArray) := by
  subst hst
  intro H locs cells slots ls a1 a2 a3 a4 a5
  have hZ := x_pre (As := As) hX a1 a2
  obtain ⟨hx, hb, hr, hlk0, hml, hown, hts, hrf, hrl, hrc, hrs, hnl⟩ := id hC
  exact va_runS (As := As) (rest := rest) ⟨hx, hb, hml, hown, hts⟩ (hy H.size) (va_cwS n hts hw rfl rfl rfl hd ⟨by rw [hrf]; exact hR.1, by rw [hrl]; exact hR.2⟩) ⟨BX0_blind, hZ⟩ rfl hn a5.1 rfl (lv_room (cat_or hcat)) d ⟨by rw [hrc]; omega, by rw [hrs]; omega⟩
theorem gX_runI {As rest : List Value} {Qa : Nat → Array Value → State → Outcome → State → Prop} {y : MethodName} {cy : ByteArray} {nLy n idx b : Nat} {rm : Room} (hC : COk C cc own ret rf rl nL) (hX : XOk E C) (hy : XMet E (cx_l C) y cy nLy none rm (va_rf (some b) :: As) S Qa) (hw : Cond.code y cy nLy none ∈ lw_all) (hini : Cond.initialized y.cls ∈ lw_all) (hl : Cond.methodLink own idx y ∈ lw_all) (hin : Cond.instanceMethod y ∈ lw_all) (hy1 : y.name = "<init>") (hd : y.cls ≠ "java/lang/invoke/MethodHandle" ∧ y.cls ≠ "java/lang/invoke/VarHandle" ∧ (parseMethodDescriptor y.desc).map (fun d => d.parameters.length) = some n) (hn : As.length = n) (hst : st = As.reverse ++ va_rf (some b) :: rest) (hcat : rest.length ≤ 4 ∨ rest.length ≤ 8 ∧ ∀ v ∈ rest, v.category = 1) (hR : rm.frames + 1 ≤ rf ∧ 8 + (nLy + 11) + rm.locals ≤ rl) (d : decode cc pc = .ok (.invokespecial idx, 3)) (hmc : rm.cells ≤ mc) (hms : rm.slots ≤ ms) : XRun E C S mc ms pc L st rest rm.cells rm.slots (fun sz => Qa sz (va_rf (some b) :: As).toArray) := by
  subst hst
  intro H locs cells slots ls a1 a2 a3 a4 a5
  have hZ := x_pre (As := va_rf (some b) :: As) hX a1 a2
  obtain ⟨hx, hb, hr, hlk0, hml, hown, hts, hrf, hrl, hrc, hrs, hnl⟩ := id hC
  exact va_runI (As := As) (rest := rest) ⟨hx, hb, hml, hown, hts⟩ (hy H.size) (cwI n hts (lw_meth hw) rfl rfl rfl (hts _ hini) (hts _ hl) (hts _ hin) hy1 hd ⟨by rw [hrf]; exact hR.1, by rw [hrl]; exact hR.2⟩) ⟨BX0_blind, hZ⟩ rfl hn a5.1 rfl (lv_room (cat_or hcat)) d ⟨by rw [hrc]; omega, by rw [hrs]; omega⟩
theorem gX_runVN {As rest : List Value} {Qa : Nat → Array Value → State → Outcome → State → Prop} {y : MethodName} {cy : ByteArray} {nLy n idx : Nat} {rety : Option FieldType} {rm : Room} {b kb : Nat} {r : vw_C} {Cr : String} {host : String} (hC : COk C cc own ret rf rl nL) (hX : XOk E C) (hy : XMet E (cx_l C) y cy nLy rety rm (va_rf (some b) :: As) S Qa) (hw : Cond.code y cy nLy rety ∈ lw_all) (hlk : Cond.methodLinkNest own idx y host ∈ lw_tbl) (hini : Cond.initialized y.cls ∈ lw_all) (hd : y.cls ≠ "java/lang/invoke/MethodHandle" ∧ y.cls ≠ "java/lang/invoke/VarHandle" ∧ (parseMethodDescriptor y.desc).map (fun d => d.parameters.length) = some n) (hin : Cond.instanceMethod y ∈ lw_all) (hsel : Cond.selects Cr y y ∈ lw_all) (hn : As.length = n) (hst : st = As.reverse ++ va_rf (some b) :: rest) (hcat : rest.length ≤ 4 ∨ rest.length ≤ 8 ∧ ∀ v ∈ rest, v.category = 1) (hR : rm.frames + 1 ≤ rf ∧ 8 + (nLy + 11) + rm.locals ≤ rl) (d : decode cc pc = .ok (.invokevirtual idx, 3)) (hmc : rm.cells ≤ mc) (hms : rm.slots ≤ ms) (hkb : xKD S b = some kb) (hcb : vwX[kb]? = some r) (hnb : kb < 19 ∧ kb ≠ 17) (hrb : r.1 = Cr) : XRun E C S mc ms pc L st rest rm.cells rm.slots (fun sz => Qa sz (va_rf (some b) :: As).toArray) := by
  subst hst
  intro H locs cells slots ls a1 a2 a3 a4 a5
  have hZ := x_pre (As := (va_rf (some b) :: As)) hX a1 a2
  obtain ⟨hx, hb, hr, hlk0, hml, hown, hts, hrf, hrl, hrc, hrs, hnl⟩ := id hC
  exact va_runVN (As := As) (rest := rest) ⟨hx, hb, hml, hown, hts⟩ (hy H.size) ⟨va_cnB n hts (lw_meth hw) rfl rfl rfl (hX.1.2.1 _ (nst_at hlk rfl)) (hts _ hini) hd ⟨by rw [hrf]; exact hR.1, by rw [hrl]; exact hR.2⟩, hts _ hin, hts _ hsel⟩ ⟨BX0_blind, hrb ▸ x_recv hX a1 hkb hcb hnb, hZ⟩ rfl hn a5.1 rfl (lv_room (cat_or hcat)) d ⟨by rw [hrc]; omega, by rw [hrs]; omega⟩
theorem gX_runSN {As rest : List Value} {Qa : Nat → Array Value → State → Outcome → State → Prop} {y : MethodName} {cy : ByteArray} {nLy n idx : Nat} {rety : Option FieldType} {rm : Room} {host : String} (hC : COk C cc own ret rf rl nL) (hX : XOk E C) (hy : XMet E (cx_l C) y cy nLy rety rm As S Qa) (hw : Cond.code y cy nLy rety ∈ lw_all) (hlk : Cond.methodLinkNest own idx y host ∈ lw_tbl) (hini : Cond.initialized y.cls ∈ lw_all) (hd : y.cls ≠ "java/lang/invoke/MethodHandle" ∧ y.cls ≠ "java/lang/invoke/VarHandle" ∧ (parseMethodDescriptor y.desc).map (fun d => d.parameters.length) = some n) (hst0 : Cond.static y ∈ lw_all) (hn : As.length = n) (hst : st = As.reverse ++ rest) (hcat : rest.length ≤ 4 ∨ rest.length ≤ 8 ∧ ∀ v ∈ rest, v.category = 1) (hR : rm.frames + 1 ≤ rf ∧ 8 + (nLy + 11) + rm.locals ≤ rl) (d : decode cc pc = .ok (.invokestatic idx, 3)) (hmc : rm.cells ≤ mc) (hms : rm.slots ≤ ms)  : XRun E C S mc ms pc L st rest rm.cells rm.slots (fun sz => Qa sz As.toArray) := by
  subst hst
  intro H locs cells slots ls a1 a2 a3 a4 a5
  have hZ := x_pre (As := As) hX a1 a2
  obtain ⟨hx, hb, hr, hlk0, hml, hown, hts, hrf, hrl, hrc, hrs, hnl⟩ := id hC
  exact va_runSN (As := As) (rest := rest) ⟨hx, hb, hml, hown, hts⟩ (hy H.size) ⟨va_cnB n hts (lw_meth hw) rfl rfl rfl (hX.1.2.1 _ (nst_at hlk rfl)) (hts _ hini) hd ⟨by rw [hrf]; exact hR.1, by rw [hrl]; exact hR.2⟩, hts _ hst0, trivial⟩ ⟨BX0_blind, hZ⟩ rfl hn a5.1 rfl (lv_room (cat_or hcat)) d ⟨by rw [hrc]; omega, by rw [hrs]; omega⟩
theorem gX_runIN {As rest : List Value} {Qa : Nat → Array Value → State → Outcome → State → Prop} {y : MethodName} {cy : ByteArray} {nLy n idx b : Nat} {rm : Room} {host : String} (hC : COk C cc own ret rf rl nL) (hX : XOk E C) (hy : XMet E (cx_l C) y cy nLy none rm (va_rf (some b) :: As) S Qa) (hw : Cond.code y cy nLy none ∈ lw_all) (hlk : Cond.methodLinkNest own idx y host ∈ lw_tbl) (hini : Cond.initialized y.cls ∈ lw_all) (hin : Cond.instanceMethod y ∈ lw_all) (hy1 : y.name = "<init>") (hd : y.cls ≠ "java/lang/invoke/MethodHandle" ∧ y.cls ≠ "java/lang/invoke/VarHandle" ∧ (parseMethodDescriptor y.desc).map (fun d => d.parameters.length) = some n) (hn : As.length = n) (hst : st = As.reverse ++ va_rf (some b) :: rest) (hcat : rest.length ≤ 4 ∨ rest.length ≤ 8 ∧ ∀ v ∈ rest, v.category = 1) (hR : rm.frames + 1 ≤ rf ∧ 8 + (nLy + 11) + rm.locals ≤ rl) (d : decode cc pc = .ok (.invokespecial idx, 3)) (hmc : rm.cells ≤ mc) (hms : rm.slots ≤ ms) : XRun E C S mc ms pc L st rest rm.cells rm.slots (fun sz => Qa sz (va_rf (some b) :: As).toArray) := by
  subst hst
  intro H locs cells slots ls a1 a2 a3 a4 a5
  have hZ := x_pre (As := va_rf (some b) :: As) hX a1 a2
  obtain ⟨hx, hb, hr, hlk0, hml, hown, hts, hrf, hrl, hrc, hrs, hnl⟩ := id hC
  exact va_runIN (As := As) (rest := rest) ⟨hx, hb, hml, hown, hts⟩ (hy H.size) ⟨va_cnB n hts (lw_meth hw) rfl rfl rfl (hX.1.2.1 _ (nst_at hlk rfl)) (hts _ hini) hd ⟨by rw [hrf]; exact hR.1, by rw [hrl]; exact hR.2⟩, hy1, hts _ hin⟩ ⟨BX0_blind, hZ⟩ rfl hn a5.1 rfl (lv_room (cat_or hcat)) d ⟨by rw [hrc]; omega, by rw [hrs]; omega⟩
theorem gX_runSU {As rest : List Value} {Qa : Nat → Array Value → State → Outcome → State → Prop} {y : MethodName} {cy : ByteArray} {nLy n idx : Nat} {rety : Option FieldType} {rm : Room} {b kb : Nat} {r : vw_C} {Cr : String} (hC : COk C cc own ret rf rl nL) (hX : XOk E C) (hy : XMet E (cx_l C) y cy nLy rety rm (va_rf (some b) :: As) S Qa) (hw : GoodIn lw_all (va_wsSU own idx y (ws_ y cy nLy rety))) (hd : y.name ≠ "<init>" ∧ (parseMethodDescriptor y.desc).map (fun d => d.parameters.length) = some n) (hn : As.length = n) (hst : st = As.reverse ++ va_rf (some b) :: rest) (hcat : rest.length ≤ 4 ∨ rest.length ≤ 8 ∧ ∀ v ∈ rest, v.category = 1) (hR : rm.frames + 1 ≤ rf ∧ 8 + (nLy + 11) + rm.locals ≤ rl) (d : decode cc pc = .ok (.invokespecial idx, 3)) (hmc : rm.cells ≤ mc) (hms : rm.slots ≤ ms) (hkb : xKD S b = some kb) (hcb : vwX[kb]? = some r) (hnb : kb < 19 ∧ kb ≠ 17) (hrb : r.1 = Cr) : XRun E C S mc ms pc L st rest rm.cells rm.slots (fun sz => Qa sz (va_rf (some b) :: As).toArray) := by
  subst hst
  intro H locs cells slots ls a1 a2 a3 a4 a5
  have hZ := x_pre (As := (va_rf (some b) :: As)) hX a1 a2
  obtain ⟨hx, hb, hr, hlk0, hml, hown, hts, hrf, hrl, hrc, hrs, hnl⟩ := id hC
  exact va_runSU (hrb ▸ (hX.1.1.1 kb _ hcb).2) (As := As) (rest := rest) ⟨hx, hb, hml, hown, hts⟩ (hy H.size) (va_cwSU n hts hw rfl rfl rfl hd ⟨by rw [hrf]; exact hR.1, by rw [hrl]; exact hR.2⟩) ⟨BX0_blind, hrb ▸ x_recv hX a1 hkb hcb hnb, hZ⟩ rfl hn a5.1 rfl (lv_room (cat_or hcat)) d ⟨by rw [hrc]; omega, by rw [hrs]; omega⟩
theorem gX_runF {As rest : List Value} {Qa : Nat → Array Value → State → Outcome → State → Prop} {y : MethodName} {cy : ByteArray} {nLy n idx : Nat} {rety : Option FieldType} {rm : Room} {b kb : Nat} {r : vw_C} {Cr : String} {x : MethodName} {count : Nat} (hC : COk C cc own ret rf rl nL) (hX : XOk E C) (hy : XMet E (cx_l C) y cy nLy rety rm (va_rf (some b) :: As) S Qa) (hw : GoodIn lw_all (va_wsF own idx Cr x y (ws_ y cy nLy rety))) (hF : (Cr, x, y) ∈ xFwl) (hd : x.cls ≠ "java/lang/invoke/MethodHandle" ∧ x.cls ≠ "java/lang/invoke/VarHandle" ∧ (parseMethodDescriptor x.desc).map (fun d => d.parameters.length) = some n) (hn : As.length = n) (hst : st = As.reverse ++ va_rf (some b) :: rest) (hcat : rest.length ≤ 4 ∨ rest.length ≤ 8 ∧ ∀ v ∈ rest, v.category = 1) (hR : rm.frames + 1 ≤ rf ∧ 8 + (nLy + 11) + rm.locals ≤ rl) (d : decode cc pc = .ok (.invokeinterface idx count, 5)) (hmc : rm.cells ≤ mc) (hms : rm.slots ≤ ms) (hkb : xKD S b = some kb) (hcb : vwX[kb]? = some r) (hnb : kb < 19 ∧ kb ≠ 17) (hrb : r.1 = Cr) : XRun5 E C S mc ms pc L st rest rm.cells rm.slots (fun sz => Qa sz (va_rf (some b) :: As).toArray) := by
  subst hst
  intro H locs cells slots ls a1 a2 a3 a4 a5
  have hZ := x_pre (As := (va_rf (some b) :: As)) hX a1 a2
  obtain ⟨hx, hb, hr, hlk0, hml, hown, hts, hrf, hrl, hrc, hrs, hnl⟩ := id hC
  exact va_runF (hrb ▸ (hX.1.1.1 kb _ hcb).2) (As := As) (rest := rest) ⟨hx, hb, hml, hown, hts⟩ (hy H.size) (va_cwF n hts hw rfl rfl rfl (hX.1.2.2.2.1 _ hF) hd ⟨by rw [hrf]; exact hR.1, by rw [hrl]; exact hR.2⟩) ⟨BX0_blind, hrb ▸ x_recv hX a1 hkb hcb hnb, hZ⟩ rfl hn a5.1 rfl (lv_room (cat_or hcat)) d ⟨by rw [hrc]; omega, by rw [hrs]; omega⟩
theorem gX_runU {As rest : List Value} {Qa : Nat → Array Value → State → Outcome → State → Prop} {y : MethodName} {cy : ByteArray} {nLy n idx : Nat} {rety : Option FieldType} {rm : Room} {b kb : Nat} {r : vw_C} {Cr : String} {x : MethodName} {owner : String} (hC : COk C cc own ret rf rl nL) (hX : XOk E C) (hy : XMet E (cx_l C) y cy nLy rety rm (va_rf (some b) :: As) S Qa) (hw : GoodIn lw_all (va_wsU own idx Cr owner x y (ws_ y cy nLy rety))) (hyx : y = ⟨owner, x.name, x.desc⟩) (hd : owner ≠ "java/lang/invoke/MethodHandle" ∧ owner ≠ "java/lang/invoke/VarHandle" ∧ (parseMethodDescriptor x.desc).map (fun d => d.parameters.length) = some n) (hn : As.length = n) (hst : st = As.reverse ++ va_rf (some b) :: rest) (hcat : rest.length ≤ 4 ∨ rest.length ≤ 8 ∧ ∀ v ∈ rest, v.category = 1) (hR : rm.frames + 1 ≤ rf ∧ 8 + (nLy + 11) + rm.locals ≤ rl) (d : decode cc pc = .ok (.invokevirtual idx, 3)) (hmc : rm.cells ≤ mc) (hms : rm.slots ≤ ms) (hkb : xKD S b = some kb) (hcb : vwX[kb]? = some r) (hnb : kb < 19 ∧ kb ≠ 17) (hrb : r.1 = Cr) : XRun E C S mc ms pc L st rest rm.cells rm.slots (fun sz => Qa sz (va_rf (some b) :: As).toArray) := by
  subst hst
  intro H locs cells slots ls a1 a2 a3 a4 a5
  have hZ := x_pre (As := (va_rf (some b) :: As)) hX a1 a2
  obtain ⟨hx, hb, hr, hlk0, hml, hown, hts, hrf, hrl, hrc, hrs, hnl⟩ := id hC
  exact va_runU (As := As) (rest := rest) ⟨hx, hb, hml, hown, hts⟩ (hy H.size) (va_cwU n hts hw rfl rfl rfl hyx hd ⟨by rw [hrf]; exact hR.1, by rw [hrl]; exact hR.2⟩) ⟨BX0_blind, hrb ▸ x_recv hX a1 hkb hcb hnb, hZ⟩ rfl hn a5.1 rfl (lv_room (cat_or hcat)) d ⟨by rw [hrc]; omega, by rw [hrs]; omega⟩
theorem gX_runO {As rest : List Value} {Qa : Nat → Array Value → State → Outcome → State → Prop} {y : MethodName} {cy : ByteArray} {nLy n idx : Nat} {rety : Option FieldType} {rm : Room} {b kb : Nat} {r : vw_C} {Cr : String} {x : MethodName} {owner : String} {b0 : ByteArray} {m0 : Nat} {r0 : Option FieldType} (hC : COk C cc own ret rf rl nL) (hX : XOk E C) (hy : XMet E (cx_l C) y cy nLy rety rm (va_rf (some b) :: As) S Qa) (hw : GoodIn lw_all (va_wsO own idx Cr owner x y (ws_ y cy nLy rety))) (h0 : Cond.code ⟨owner, x.name, x.desc⟩ b0 m0 r0 ∈ lw_all) (hd : owner ≠ "java/lang/invoke/MethodHandle" ∧ owner ≠ "java/lang/invoke/VarHandle" ∧ (parseMethodDescriptor x.desc).map (fun d => d.parameters.length) = some n) (hn : As.length = n) (hst : st = As.reverse ++ va_rf (some b) :: rest) (hcat : rest.length ≤ 4 ∨ rest.length ≤ 8 ∧ ∀ v ∈ rest, v.category = 1) (hR : rm.frames + 1 ≤ rf ∧ 8 + (nLy + 11) + rm.locals ≤ rl) (d : decode cc pc = .ok (.invokevirtual idx, 3)) (hmc : rm.cells ≤ mc) (hms : rm.slots ≤ ms) (hkb : xKD S b = some kb) (hcb : vwX[kb]? = some r) (hnb : kb < 19 ∧ kb ≠ 17) (hrb : r.1 = Cr) : XRun E C S mc ms pc L st rest rm.cells rm.slots (fun sz => Qa sz (va_rf (some b) :: As).toArray) := by
  subst hst
  intro H locs cells slots ls a1 a2 a3 a4 a5
  have hZ := x_pre (As := (va_rf (some b) :: As)) hX a1 a2
  obtain ⟨hx, hb, hr, hlk0, hml, hown, hts, hrf, hrl, hrc, hrs, hnl⟩ := id hC
  exact va_runU (As := As) (rest := rest) ⟨hx, hb, hml, hown, hts⟩ (hy H.size) (va_cwO n hts hw rfl rfl rfl h0 hd ⟨by rw [hrf]; exact hR.1, by rw [hrl]; exact hR.2⟩) ⟨BX0_blind, hrb ▸ x_recv hX a1 hkb hcb hnb, hZ⟩ rfl hn a5.1 rfl (lv_room (cat_or hcat)) d ⟨by rw [hrc]; omega, by rw [hrs]; omega⟩
theorem gX_ci {Q : Int32 → XS → Prop} {k n : Nat} {a : Array Value} {rest : List Value} (hX : XOk E C) (hrun : XRun E C S mc ms pc L st rest k n (fun sz => va_Qi Q (BX1 E S sz) (xA S sz) a)) (hmc : k ≤ mc) (hms : n ≤ ms) (kk : ∀ (r : Int32) (S1 : XS), Q r S1 → GX E C S1 (mc - k) (ms - n) (pc + 3) L (.int r :: rest)) : GX E C S mc ms pc L st := by
  intro H locs cells slots ls a1 a2 a3 a4 a5
  refine va_calli (hrun H locs cells slots ls a1 a2 a3 a4 a5) a2 (fun q _ h => okX_Asub a1 hX.2.1 a2.1 q h) (fun q h => okX_Asub a1 hX.2.1 a2.1 q h) (fun r u t H1 locs1 ht hvm hq hB hz hk hS => ?_)
  refine kk r u hq H1 locs1 _ _ ls ?_ hS (by omega) (by omega) a5
  rw [← ht]
  exact okX_back a1 hX.2.1 a2.1 hB
theorem gX_cv {Q : XS → Prop} {k n : Nat} {a : Array Value} {rest : List Value} (hX : XOk E C) (hrun : XRun E C S mc ms pc L st rest k n (fun sz => va_Qv Q (BX1 E S sz) (xA S sz) a)) (hmc : k ≤ mc) (hms : n ≤ ms) (kk : ∀ (S1 : XS), Q S1 → GX E C S1 (mc - k) (ms - n) (pc + 3) L rest) : GX E C S mc ms pc L st := by
  intro H locs cells slots ls a1 a2 a3 a4 a5
  refine va_callv (hrun H locs cells slots ls a1 a2 a3 a4 a5) a2 (fun q _ h => okX_Asub a1 hX.2.1 a2.1 q h) (fun q h => okX_Asub a1 hX.2.1 a2.1 q h) (fun u t H1 locs1 ht hvm hq hB hz hk hS => ?_)
  refine kk u hq H1 locs1 _ _ ls ?_ hS (by omega) (by omega) a5
  rw [← ht]
  exact okX_back a1 hX.2.1 a2.1 hB
theorem gX_cq {Q : Option Nat → XS → Prop} {k n : Nat} {a : Array Value} {rest : List Value} (hX : XOk E C) (hrun : XRun E C S mc ms pc L st rest k n (fun sz => va_Qq Q (BX1 E S sz) (xA S sz) a)) (hmc : k ≤ mc) (hms : n ≤ ms) (kk : ∀ (r : Option Nat) (S1 : XS), Q r S1 → GX E C S1 (mc - k) (ms - n) (pc + 3) L (va_rf r :: rest)) : GX E C S mc ms pc L st := by
  intro H locs cells slots ls a1 a2 a3 a4 a5
  refine va_callq (hrun H locs cells slots ls a1 a2 a3 a4 a5) a2 (fun q _ h => okX_Asub a1 hX.2.1 a2.1 q h) (fun q h => okX_Asub a1 hX.2.1 a2.1 q h) (fun r u t H1 locs1 ht hvm hq hB hz hk hS => ?_)
  refine kk r u hq H1 locs1 _ _ ls ?_ hS (by omega) (by omega) a5
  rw [← ht]
  exact okX_back a1 hX.2.1 a2.1 hB
theorem gX_ci5 {Q : Int32 → XS → Prop} {k n : Nat} {a : Array Value} {rest : List Value} (hX : XOk E C) (hrun : XRun5 E C S mc ms pc L st rest k n (fun sz => va_Qi Q (BX1 E S sz) (xA S sz) a)) (hmc : k ≤ mc) (hms : n ≤ ms) (kk : ∀ (r : Int32) (S1 : XS), Q r S1 → GX E C S1 (mc - k) (ms - n) (pc + 5) L (.int r :: rest)) : GX E C S mc ms pc L st := by
  intro H locs cells slots ls a1 a2 a3 a4 a5
  refine va_callFi (hrun H locs cells slots ls a1 a2 a3 a4 a5) a2 (fun q _ h => okX_Asub a1 hX.2.1 a2.1 q h) (fun q h => okX_Asub a1 hX.2.1 a2.1 q h) (fun r u t H1 locs1 ht hvm hq hB hz hk hS => ?_)
  refine kk r u hq H1 locs1 _ _ ls ?_ hS (by omega) (by omega) a5
  rw [← ht]
  exact okX_back a1 hX.2.1 a2.1 hB
theorem gX_cv5 {Q : XS → Prop} {k n : Nat} {a : Array Value} {rest : List Value} (hX : XOk E C) (hrun : XRun5 E C S mc ms pc L st rest k n (fun sz => va_Qv Q (BX1 E S sz) (xA S sz) a)) (hmc : k ≤ mc) (hms : n ≤ ms) (kk : ∀ (S1 : XS), Q S1 → GX E C S1 (mc - k) (ms - n) (pc + 5) L rest) : GX E C S mc ms pc L st := by
  intro H locs cells slots ls a1 a2 a3 a4 a5
  refine va_callFv (hrun H locs cells slots ls a1 a2 a3 a4 a5) a2 (fun q _ h => okX_Asub a1 hX.2.1 a2.1 q h) (fun q h => okX_Asub a1 hX.2.1 a2.1 q h) (fun u t H1 locs1 ht hvm hq hB hz hk hS => ?_)
  refine kk u hq H1 locs1 _ _ ls ?_ hS (by omega) (by omega) a5
  rw [← ht]
  exact okX_back a1 hX.2.1 a2.1 hB
theorem gX_cq5 {Q : Option Nat → XS → Prop} {k n : Nat} {a : Array Value} {rest : List Value} (hX : XOk E C) (hrun : XRun5 E C S mc ms pc L st rest k n (fun sz => va_Qq Q (BX1 E S sz) (xA S sz) a)) (hmc : k ≤ mc) (hms : n ≤ ms) (kk : ∀ (r : Option Nat) (S1 : XS), Q r S1 → GX E C S1 (mc - k) (ms - n) (pc + 5) L (va_rf r :: rest)) : GX E C S mc ms pc L st := by
  intro H locs cells slots ls a1 a2 a3 a4 a5
  refine va_callFq (hrun H locs cells slots ls a1 a2 a3 a4 a5) a2 (fun q _ h => okX_Asub a1 hX.2.1 a2.1 q h) (fun q h => okX_Asub a1 hX.2.1 a2.1 q h) (fun r u t H1 locs1 ht hvm hq hB hz hk hS => ?_)
  refine kk r u hq H1 locs1 _ _ ls ?_ hS (by omega) (by omega) a5
  rw [← ht]
  exact okX_back a1 hX.2.1 a2.1 hB
theorem gX_iret {S0 : XS} {sz : Nat} {Q : Int32 → XS → Prop} {v : Int32} (hr : ret = some .int) (hC : COk C cc own ret rf rl nL) (hA : cx_A C = xA S0 sz) (hQ : cx_Q C = MQ (cx_b C) (va_Qi Q (BX1 E S0 sz) (xA S0 sz)) (cx_a C) (cx_s C) (cx_MC C) (cx_MS C) (xA S0 sz)) (d : decode cc pc = .ok (.ireturn, 1)) (h : Q v S) : GX E C S mc ms pc L [.int v] :=
  g_iret hC hQ (fun q z => hA ▸ z) hr d (fun H t ho ht hW hF => ⟨⟨v, S, rfl, h, by unfold BX1; rw [ht, ← hA]; exact ho⟩, hA ▸ hF⟩)
theorem gX_zret {S0 : XS} {sz : Nat} {Q : Int32 → XS → Prop} {v : Int32} {ty : FieldType} (hr : ret = some ty) (hnw : narrow ty (.int v) = .int v) (hC : COk C cc own ret rf rl nL) (hA : cx_A C = xA S0 sz) (hQ : cx_Q C = MQ (cx_b C) (va_Qi Q (BX1 E S0 sz) (xA S0 sz)) (cx_a C) (cx_s C) (cx_MC C) (cx_MS C) (xA S0 sz)) (d : decode cc pc = .ok (.ireturn, 1)) (h : Q v S) : GX E C S mc ms pc L [.int v] :=
  g_zret hC hQ (fun q z => hA ▸ z) hr hnw d (fun H t ho ht hW hF => ⟨⟨v, S, rfl, h, by unfold BX1; rw [ht, ← hA]; exact ho⟩, hA ▸ hF⟩)
theorem gX_vret {S0 : XS} {sz : Nat} {Q : XS → Prop} (hC : COk C cc own ret rf rl nL) (hA : cx_A C = xA S0 sz) (hQ : cx_Q C = MQ (cx_b C) (va_Qv Q (BX1 E S0 sz) (xA S0 sz)) (cx_a C) (cx_s C) (cx_MC C) (cx_MS C) (xA S0 sz)) (hr : ret = none) (d : decode cc pc = .ok (.return_, 1)) (h : Q S) : GX E C S mc ms pc L [] :=
  g_vret hC hQ (fun q z => hA ▸ z) hr d (fun H t ho ht hW hF => ⟨⟨S, rfl, h, by unfold BX1; rw [ht, ← hA]; exact ho⟩, hA ▸ hF⟩)
theorem gX_aret {S0 : XS} {sz : Nat} {Q : Option Nat → XS → Prop} {v : Option Nat} {rt : FieldType} (hC : COk C cc own ret rf rl nL) (hA : cx_A C = xA S0 sz) (hQ : cx_Q C = MQ (cx_b C) (va_Qq Q (BX1 E S0 sz) (xA S0 sz)) (cx_a C) (cx_s C) (cx_MC C) (cx_MS C) (xA S0 sz)) (hr : ret = some rt) (hrt : (∃ n, rt = .object n) ∨ ∃ t, rt = .array t) (d : decode cc pc = .ok (.areturn, 1)) (h : Q v S) : GX E C S mc ms pc L [va_rf v] := by
  intro H locs cells slots ls h1 h2 h3 h4 h5
  refine W.widen (k := cx_MC C) (n := cx_MS C) (Nat.le_trans (Nat.le_add_right _ _) h3) (Nat.le_trans (Nat.le_add_right _ _) h4) ?_
  rw [hQ]
  exact W.aret hC.1 hC.2.1 (hC.2.2.1.trans hr) hrt (by cases v; exact Or.inl rfl; exact Or.inr ⟨_, rfl⟩) (fun t ht hW => ⟨⟨v, S, rfl, h, by unfold BX1; rw [ht, ← hA]; exact h1⟩, by rw [← hA]; exact h2.F ht⟩) (fun q hq => by rw [← hA]; exact h2.2.2 q hq) d hC.2.2.2.1
end GXC
theorem XMet_of {E : XE} {l : Launch} {y : MethodName} {cc : ByteArray} {nL : Nat} {ret : Option FieldType} {rm : Room} {As : List Value} {S : XS} {Qc : Nat → Array Value → State → Outcome → State → Prop} (hy : plainName y.cls = true) (hlen : (lg_sl As).length ≤ nL) {L0 : List (Option Value)} (hL0 : lx_pairs L0 = lv_args 0 As)
    (body : ∀ (sz : Nat) (C : Cx), COk C cc y.cls ret rm.frames rm.locals nL → XOk E C → cx_l C = l → (cx_h C).name = y.name → cx_A C = xA S sz → cx_Q C = MQ (cx_b C) (Qc sz) (cx_a C) (cx_s C) (cx_MC C) (cx_MS C) (xA S sz) → GX E C S rm.cells rm.slots 0 L0 []) : XMet E l y cc nL ret rm As S Qc := by
  intro sz
  refine met_gw (okXA E (xA S sz)) S (A := fun _ => xA S sz) hy hlen hL0 (fun U h => h.2.1) (fun C hC hl _ hB hnm hA hQ _ _ => ?_)
  have hX : XOk E C := ⟨hB.2.2.1, fun q hq => by rw [hA]; exact Or.inr (by rw [← hB.1]; exact hq), by rw [hA]; exact hB.2.2.2⟩
  have := body sz C hC hX hl hnm hA hQ
  rw [show okXA E (xA S sz) = okXA E (cx_A C) by rw [hA]]
  exact this
