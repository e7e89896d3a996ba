/-! WHAT THE MACHINE THROWS BY ITSELF: a checkcast that fails. -/
section XMACH
variable {p : Program} {l : Launch} {e : Env} {R : Room} {s : State} {m : MethodId} {args : Array Value} {below : List Frame} {meth : Method} {c : Code} {H : Heap} {locs : List Loc} {cells slots : Nat} {Q : State → Prop} {cc : ByteArray} {pc : Nat} {ls : Array Slot} {rest : List Value}
theorem vx_castF (hexec : p.tables.exec = Jvm.exec) (hb : c.code = cc) {own name : String} {index a cT : Nat} {cell : Cell} {ks kt : Class} (hown : s.vm.findClass own = some m.cls) (hlink : (Cond.classLink own index name).before args s = true) (hcell : H[a]? = some cell) (hobj : ∀ k, cell.vm ≠ .statics k) (hks : s.vm.classes[cell.cls]? = some ks) (hcT : s.vm.findClass name = some cT) (hasg : s.vm.assignable cell.cls cT = false) (hdg : decode cc pc = .ok (.checkcast index, 3))
    (k : ∀ (vm' : Vm) (ks' kt' : Class), s.vm.Alike vm' → vm'.classes[cell.cls]? = some ks' → vm'.classes[cT]? = some kt' → vx_Note p l e R s m args below meth c H locs cells slots Q (F0 m pc ls (.ref a :: rest)) "java/lang/ClassCastException" (Op.checkcast.message vm' ks' kt')) : W p l e R s m args below meth c H locs cells slots Q (F0 m pc ls (.ref a :: rest)) := by
  intro T hT X
  have hpl : e.platform.magicAccessors = ({} : Platform).magicAccessors := by rw [X.admits.platform]
  obtain ⟨c', hc', hcl⟩ := Cond.classLink_spec hown hlink e.platform hpl
  cases hcT.symm.trans hc'
  obtain ⟨dk, _, _, kt, hd, _, _, _, _, hkt, _, hopen⟩ := hcl.here
  have hcl₀ := X.warmed.classLinks hcl
  have hW' : s.WarmedH (T.vm.noted m.cls index (.cls cT)) := X.warmed.noted hd hopen (State.rightAt_cls hcl)
  obtain ⟨ks', hks', -⟩ := hW'.alike.2.2 _ _ hks
  obtain ⟨kt', hkt', -⟩ := hW'.alike.2.2 _ _ hkt
  obtain ⟨t, st, q⟩ := k (T.vm.noted m.cls index (.cls cT)) ks' kt' hW'.alike hks' hkt' (T.setVm (T.vm.noted m.cls index (.cls cT))) hT (X.noted hW')
  refine ⟨t, ?_, q⟩
  have hdg' : decode c.code pc = .ok (.checkcast index, 3) := by rw [hb]; exact hdg
  jvm_step X.here [hexec, hdg', Op.checkcast.wp_cold (e := e) (s := T) (f := F0 m pc ls (.ref a :: rest)) X.here.top rfl (resolveClass_links e.toSetting hcl₀) hcl₀.ready,
    Op.checkcast.wp_ready (e := e) (s := T.setVm (T.vm.noted m.cls index (.cls cT))) (f := F0 m pc ls (.ref a :: rest)) X.here.top hcl₀.ready rfl]
  refine ⟨cell, by show T.heap[a]? = _; rw [hT]; exact hcell, hobj, ks', hks', kt', hkt', ?_⟩
  rw [if_neg (by
    show ¬ (T.vm.noted m.cls index (.cls cT)).assignable cell.cls cT = true
    rw [hW'.alike.assignable, hasg]
    decide)]
  exact st
end XMACH
section GXM
variable {E : XE} {C : Cx} {S : XS} {mc ms pc : Nat} {L : List (Option Value)} {st : List Value} {cc : ByteArray} {own : String} {ret : Option FieldType} {rf rl nL : Nat}
theorem nst_on {w : Cond} (h : nstB w = true) : w.onTables = true := by
  cases w <;> simp only [nstB, Bool.false_eq_true] at h
  all_goals rfl
/-- a machine's throw: its words -/
theorem x_hat {X : String} {names : List String} (h : (vx_atM X names).all (fun w => (goodWord w || nstB w) && lw_tbl.contains w) = true) (hC : COk C cc own ret rf rl nL) (hX : XOk E C) : ∀ w ∈ vx_atM X names, w.before (cx_a C) (cx_s C) = true := by
  intro w hw
  have h1 := List.all_eq_true.mp h w hw
  simp only [Bool.and_eq_true, Bool.or_eq_true, List.contains_iff_mem] at h1
  obtain ⟨h2 | h2, h3⟩ := h1
  · exact hC.2.2.2.2.2.2.1 w (List.mem_filter.mpr ⟨h3, h2⟩)
  · exact va_Nw.use (nst_on h2) (hX.1.2.1 w (nst_at h3 h2))
set_option maxRecDepth 100000 in
theorem x_cce : (vx_atM "java/lang/ClassCastException" ["java/lang/RuntimeException", "java/lang/Exception"]).all (fun w => (goodWord w || nstB w) && lw_tbl.contains w) = true := by decide +kernel
set_option maxRecDepth 100000 in
theorem x_aio : (vx_atM "java/lang/ArrayIndexOutOfBoundsException" ["java/lang/IndexOutOfBoundsException", "java/lang/RuntimeException", "java/lang/Exception"]).all (fun w => (goodWord w || nstB w) && lw_tbl.contains w) = true := by decide +kernel
theorem x_Zq {j : Nat} {Cs n ds : String} (hX : XOk E C) (h1 : (Cs, n, ds, j) ∈ xZl) (h2 : (Cs, n, ds) ∈ xZs) : vx_Zq Cs n ds (cx_A C) (cx_s C) (cx_s C).heap :=
  ⟨Or.inr ⟨_, hX.2.2.1 _ h1⟩, hX.2.2.2.2 _ h2⟩
end GXM
