/-! WHAT THE MACHINE THROWS BY ITSELF: a checkcast that fails. -/
section XMACH
variable {p : Program} {l : Launch} {e : Env} {R : Room} {s : State} {m : MethodId} {args : Array Value} {below : List Frame} {meth : Method} {c : Code} {H : Heap} {locs : List Loc} {cells slots : Nat} {Q : State → Prop} {cc : ByteArray} {pc : Nat} {ls : Array Slot} {rest : List Value}
theorem vx_castF (hexec : p.tables.exec = Jvm.exec) (hb : c.code = cc) {own name : String} {index a cT : Nat} {cell : Cell} {ks kt : Class} (hown : s.vm.findClass own = some m.cls) (hlink : (Cond.classLink own index name).before args s = true) (hcell : H[a]? = some cell) (hobj : ∀ k, cell.vm ≠ .statics k) (hks : s.vm.classes[cell.cls]? = some ks) (hcT : s.vm.findClass name = some cT) (hasg : s.vm.assignable cell.cls cT = false) (hdg : decode cc pc = .ok (.checkcast index, 3))
    (k : ∀ (vm' : Vm) (ks' kt' : Class), s.vm.Alike vm' → vm'.classes[cell.cls]? = some ks' → vm'.classes[cT]? = some kt' → vx_Note p l e R s m args below meth c H locs cells slots Q (F0 m pc ls (.ref a :: rest)) "java/lang/ClassCastException" (Op.checkcast.message vm' ks' kt')) : W p l e R s m args below meth c H locs cells slots Q (F0 m pc ls (.ref a :: rest)) := by
  intro T hT X
  have hpl : e.platform.magicAccessors = ({} : Platform).magicAccessors := by rw [X.admits.platform]
  obtain ⟨c', hc', hcl⟩ := Cond.classLink_spec hown hlink e.platform hpl
  cases hcT.symm.trans hc'
  obtain ⟨dk, _, _, kt, hd, _, _, _, _, hkt, _, hopen⟩ := hcl.here
  have hcl₀ := X.warmed.classLinks hcl
  have hW' : s.WarmedH (T.vm.noted m.cls index (.cls cT)) := X.warmed.noted hd hopen (State.rightAt_cls hcl)
  obtain ⟨ks', hks', -⟩ := hW'.alike.2.2 _ _ hks
  obtain ⟨kt', hkt', -⟩ := hW'.alike.2.2 _ _ hkt
  obtain ⟨t, st, q⟩ := k (T.vm.noted m.cls index (.cls cT)) ks' kt' hW'.alike hks' hkt' (T.setVm (T.vm.noted m.cls index (.cls cT))) hT (X.noted hW')
  refine ⟨t, ?_, q⟩
  have hdg' : decode c.code pc = .ok (.checkcast index, 3) := by rw [hb]; exact hdg
  jvm_step X.here [hexec, hdg', Op.checkcast.wp_cold (e := e) (s := T) (f := F0 m pc ls (.ref a :: rest)) X.here.top rfl (resolveClass_links e.toSetting hcl₀) hcl₀.ready,
    Op.checkcast.wp_ready (e := e) (s := T.setVm (T.vm.noted m.cls index (.cls cT))) (f := F0 m pc ls (.ref a :: rest)) X.here.top hcl₀.ready rfl]
  refine ⟨cell, by show T.heap[a]? = _; rw [hT]; exact hcell, hobj, ks', hks', kt', hkt', ?_⟩
  rw [if_neg (by
    show ¬ (T.vm.noted m.cls index (.cls cT)).assignable cell.cls cT = true
    rw [hW'.alike.assignable, hasg]
    decide)]
  exact st
end XMACH
