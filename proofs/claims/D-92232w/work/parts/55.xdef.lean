/-! CALLS THAT LAND IN A DEFAULT METHOD (virtual, and super): the kit has no row for them. -/
/-! ===== the chain of superclasses ===== -/
def chn (vm : Vm) : Nat → ClassId → Option ClassId
  | 0, c => some c
  | i + 1, c => (vm.classes[c]?.bind (·.super)).bind (chn vm i)
theorem chn_add (vm : Vm) : ∀ (i j : Nat) (c : ClassId), chn vm (i + j) c = (chn vm i c).bind (chn vm j)
  | 0, j, c => by rw [Nat.zero_add]; rfl
  | i + 1, j, c => by
    rw [show i + 1 + j = (i + j) + 1 by omega]
    show (vm.classes[c]?.bind (·.super)).bind (chn vm (i + j)) = ((vm.classes[c]?.bind (·.super)).bind (chn vm i)).bind (chn vm j)
    cases vm.classes[c]?.bind (·.super) with
    | none => rfl
    | some p => exact chn_add vm i j p
theorem chn_super {vm : Vm} : ∀ {n : Nat} {c x : ClassId}, x ∈ vm.superclassesAux n c → ∃ i, 1 ≤ i ∧ i ≤ n ∧ chn vm i c = some x
  | 0, c, x, h => by simp [Vm.superclassesAux] at h
  | n + 1, c, x, h => by
    unfold Vm.superclassesAux at h
    cases hs : vm.classes[c]?.bind (·.super) with
    | none => rw [hs] at h; cases h
    | some p =>
      rw [hs] at h
      rcases List.mem_cons.mp h with e | h
      · subst e
        exact ⟨1, Nat.le_refl _, by omega, by show (vm.classes[c]?.bind (·.super)).bind (chn vm 0) = _; rw [hs]; rfl⟩
      · obtain ⟨i, h1, h2, h3⟩ := chn_super h
        exact ⟨i + 1, by omega, by omega, by show (vm.classes[c]?.bind (·.super)).bind (chn vm i) = _; rw [hs]; exact h3⟩
theorem chn_none {vm : Vm} {name desc : String} : ∀ {n : Nat} {c : ClassId}, lookupInSuperclasses vm name desc n c = none → ∀ (i : Nat) (x : ClassId) (k : Class), i < n → chn vm i c = some x → vm.classes[x]? = some k → k.findMethod name desc = none
  | 0, c, _, i, x, k, hi, _, _ => by omega
  | n + 1, c, h, i, x, k, hi, hx, hk => by
    unfold lookupInSuperclasses at h
    cases hc : vm.classes[c]? with
    | none =>
      cases i with
      | zero => cases hx; rw [hc] at hk; cases hk
      | succ i =>
        have hx' : (vm.classes[c]?.bind (·.super)).bind (chn vm i) = some x := hx
        rw [hc] at hx'; cases hx'
    | some kc =>
      simp only [hc, Option.bind_eq_bind, Option.bind_some] at h
      cases hf : kc.findMethod name desc with
      | some j => simp [hf] at h
      | none =>
        cases i with
        | zero => cases hx; cases hc.symm.trans hk; exact hf
        | succ i =>
          have hx' : (vm.classes[c]?.bind (·.super)).bind (chn vm i) = some x := hx
          rw [hc] at hx'
          simp only [Option.bind_some] at hx'
          cases hs : kc.super with
          | none => rw [hs] at hx'; cases hx'
          | some q =>
            rw [hs] at hx'
            simp only [hf, hs, Option.bind_some] at h
            exact chn_none h i x k (by omega) hx' hk
theorem sel_none {vm : Vm} {name desc : String} {mR : MethodId} : ∀ {n : Nat} {c : ClassId}, lookupInSuperclasses vm name desc n c = none → selectInSuperclasses vm mR name desc n c = none
  | 0, c, _ => rfl
  | n + 1, c, h => by
    unfold lookupInSuperclasses at h
    unfold selectInSuperclasses
    cases hc : vm.classes[c]? with
    | none => rfl
    | some kc =>
      simp only [hc, Option.bind_eq_bind, Option.bind_some] at h ⊢
      cases hf : kc.findMethod name desc with
      | some j => simp [hf] at h
      | none =>
        simp only [hf] at h
        cases hs : kc.super with
        | none => simp
        | some q =>
          simp only [hs, Option.bind_some] at h
          simp [sel_none (mR := mR) h]
/-- boxes and pigeons -/
theorem pig : ∀ (n : Nat) (f : Nat → Nat), (∀ i, i ≤ n → f i < n) → ∃ i j, i < j ∧ j ≤ n ∧ f i = f j
  | 0, f, h => absurd (h 0 (Nat.le_refl _)) (Nat.not_lt_zero _)
  | n + 1, f, h => by
    by_cases hx : ∃ i, i ≤ n ∧ f i = f (n + 1)
    · obtain ⟨i, h1, h2⟩ := hx
      exact ⟨i, n + 1, by omega, Nat.le_refl _, h2⟩
    · have hx : ∀ i, i ≤ n → f i ≠ f (n + 1) := fun i h1 h2 => hx ⟨i, h1, h2⟩
      obtain ⟨i, j, h1, h2, h3⟩ := pig n (fun i => if f i = n then f (n + 1) else f i) (fun i hi => by
        have a := h i (by omega)
        have b := h (n + 1) (Nat.le_refl _)
        have c := hx i hi
        show (if f i = n then f (n + 1) else f i) < n
        split <;> omega)
      refine ⟨i, j, h1, by omega, ?_⟩
      have a := hx i (by omega)
      have b := hx j h2
      replace h3 : (if f i = n then f (n + 1) else f i) = (if f j = n then f (n + 1) else f j) := h3
      split at h3 <;> split at h3 <;> omega
theorem chn_some {vm : Vm} {n : Nat} {c : ClassId} {x : ClassId} (h : chn vm n c = some x) : ∀ i, i < n → ∃ y k, chn vm i c = some y ∧ vm.classes[y]? = some k := by
  intro i hi
  have e := chn_add vm i (n - i) c
  rw [show i + (n - i) = n by omega, h] at e
  cases hy : chn vm i c with
  | none => rw [hy] at e; cases e
  | some y =>
    rw [hy] at e
    refine ⟨y, ?_⟩
    obtain ⟨d, hd⟩ : ∃ d, n - i = d + 1 := ⟨n - i - 1, by omega⟩
    rw [hd] at e
    have e2 : some x = (vm.classes[y]?.bind (·.super)).bind (chn vm d) := e
    cases hk : vm.classes[y]? with
    | none => rw [hk] at e2; cases e2
    | some k => exact ⟨k, rfl, rfl⟩
theorem supers_none {vm : Vm} {name desc : String} {c : ClassId} (h : lookupInSuperclasses vm name desc (vm.classes.size + 1) c = none) : superclassMethods vm c name desc = [] := by
  unfold superclassMethods
  rw [List.filterMap_eq_nil_iff]
  intro x hx
  obtain ⟨i, h1, h2, h3⟩ := chn_super hx
  cases hk : vm.classes[x]? with
  | none => rfl
  | some k =>
    have : k.findMethod name desc = none := by
      by_cases hi : i < vm.classes.size + 1
      · exact chn_none h i x k hi h3 hk
      · have hi : i = vm.classes.size + 1 := by omega
        subst hi
        have hs := chn_some h3
        have hlt : ∀ i, i ≤ vm.classes.size → ((chn vm i c).getD 0) < vm.classes.size := by
          intro i hi
          obtain ⟨y, k, hy, hk⟩ := hs i (by omega)
          rw [hy]
          exact (Array.getElem?_eq_some_iff.mp hk).1
        obtain ⟨a, b, hab, hb, he⟩ := pig vm.classes.size (fun i => (chn vm i c).getD 0) hlt
        obtain ⟨ya, ka, hya, -⟩ := hs a (by omega)
        obtain ⟨yb, kb, hyb, -⟩ := hs b (by omega)
        simp only [hya, hyb, Option.getD_some] at he
        subst he
        have e1 := chn_add vm b (vm.classes.size + 1 - b) c
        rw [show b + (vm.classes.size + 1 - b) = vm.classes.size + 1 by omega, h3, hyb] at e1
        have e2 := chn_add vm a (vm.classes.size + 1 - b) c
        rw [hya] at e2
        exact chn_none h (a + (vm.classes.size + 1 - b)) x k (by omega) (e2.trans e1.symm) hk
    simp [this]
/-- super.m(..) where no class from there up declares m: the one default -/
theorem special_default {args : Array Value} {s : State} {cls : String} {x y : MethodName} {c : Nat} {owner : String} {r1 : MethodId} {rm : Method} {k : Class} (hl : (Cond.landsInDefault cls x y).before args s = true) (hy : y = ⟨owner, x.name, x.desc⟩) (hn : s.methodNamed? y = some r1) (hrm : s.vm.method? r1 = some rm) (hst : rm.isStatic = false)
    (hc : s.vm.findClass cls = some c) (hk : s.vm.classes[c]? = some k) (hni : k.isInterface = false) (hpoly : ∀ y, signaturePolymorphic k y = false) (hx : x.cls = cls) (hf : s.methodFound? x.cls x.name x.desc = some r1) : lookupSpecial s.vm c x.name x.desc = .method r1 := by
  have hup : s.vm.lookupUp c x.name x.desc = some r1 := ((State.methodFound?_class hc hk hni hpoly r1).mp (hx ▸ hf)).1
  cases hL : lookupInSuperclasses s.vm x.name x.desc (s.vm.classes.size + 1) c with
  | some m1 => exact lookupSpecial_of_lookupUp hk hni hup (by rw [hL]; rfl) hrm hst
  | none =>
    have hname := name_of_methodNamed hn hrm
    rw [hy] at hname
    have hn1 : rm.name = x.name := hname.1
    have hn2 : rm.desc = x.desc := hname.2
    -- what the atom says
    have hsel : selectMethod {} s.vm c r1 = .method r1 ∧ rm.isPrivate = false ∧ (s.vm.classes[r1.cls]?).any (·.isInterface) = true := by
      simp only [Cond.before, Cond.holds, Cond.value, hc, hf, hn, hrm, Option.map_some, beq_iff_eq, Option.some.injEq] at hl
      split at hl
      · rename_i m' hs
        simp only [Bool.and_eq_true, decide_eq_true_eq, Bool.not_eq_true'] at hl
        obtain ⟨⟨⟨⟨e, hi⟩, hp⟩, -⟩, -⟩ := hl
        exact ⟨e ▸ hs, hp, hi⟩
      · cases hl
    obtain ⟨h1, h2, h3⟩ := hsel
    have h4 := sel_none (mR := r1) hL
    unfold selectMethod at h1
    simp only [hrm, h2, Bool.false_eq_true, if_false, hn1, hn2, h3, h4] at h1
    split at h1
    · cases h1
    split at h1
    · rename_i hz; simp at hz
    unfold lookupSpecial
    have hown : s.vm.classes[c]?.bind (·.findMethod x.name x.desc) = none := by
      rw [hk]
      exact chn_none hL 0 c k (by omega) rfl hk
    simp only [hown, supers_none hL, Option.map_none, Option.toList_none, List.filter_nil, List.append_nil, List.find?_nil]
    exact h1
/-! ===== the runs ===== -/
section VDEF
variable {p : Program} {l : Launch} {e : Env} {R : Room} {s : State} {m : MethodId} {args : Array Value} {below : List Frame} {meth : Method} {c : Code} {H : Heap} {locs : List Loc} {cells slots : Nat}
theorem va_runG {y : MethodName} {bytes cc : ByteArray} {maxL nL mc ms : Nat} {ret : Option FieldType} {ws : List Cond} {rm : Room} {Pc : Array Value → State → Prop} {Qc : Array Value → State → Outcome → State → Prop} {free : Addr → Prop} {Ts : List Cond} {own C : String} {b : Addr} {As rest : List Value} {g : JFrame} {ins : Instr} {mk : MethodId}
    (S : CallFix p m c cc nL s args Ts own) (hM : Met l y ws rm Pc Qc mc ms free) (hbk : rm.cells = mc ∧ rm.slots = ms ∧ rm.frames + 1 ≤ R.frames ∧ 8 + (maxL + 11) + rm.locals ≤ R.locals ∧ (∀ w ∈ ws, ∀ (a' : Array Value) (U : State), s.WarmedH U.vm → w.before a' U = true) ∧ Cond.code y bytes maxL ret ∈ ws) (hini : (Cond.initialized y.cls).before args s = true) (hp : PreV s H C b Pc As)
    (hg : g.method = m) (hsize : g.locals.size = nL) (hW : 2 * g.monitorRoom + (rest.map fun v => v.category).sum ≤ 8) (hdg : decode cc g.pc = .ok (ins, 3)) (hf : cells + mc ≤ R.cells ∧ slots + ms ≤ R.slots) (hnamed : s.methodNamed? y = some mk)
    (hstep : ∀ T : State, T.heap = H → Stand p l e R s m args below meth c T locs cells slots → ∃ vm', Stand p l e R s m args below meth c (T.setVm vm') locs cells slots ∧ ∀ target, (∀ acts, Steps p.tables e below (doInvoke e ((T.setVm vm').setTop { g with stack := rest }) acts mk (Value.ref b :: As).toArray).1 target) → Steps p.tables e below (T.setTop g) target) :
    va_Run p l e R s m args below meth c H locs cells slots mc ms g rest (Qc (Value.ref b :: As).toArray) (free) := by
  obtain ⟨hrc, hrs, hfr, hlo, hws, hcw⟩ := hbk
  have hK : Back l R p e below s args y 3 8 (PreOf R mc ms Pc) (PostOf Qc mc ms free) := back_of (bytes := bytes) (maxL := maxL) (ret := ret) hM hp.1 hrc hrs hfr hlo hws hcw (fun a' U hW => word_at hW (Or.inl (by first | rfl | simp [Cond.onTables, Cond.keeps, Cond.steady])) hini)
  obtain ⟨hx, hb, hml, ho, -⟩ := S
  obtain ⟨-, -, hPc⟩ := hp
  intro T hT X
  obtain ⟨vm₁, X₁, hstep₁⟩ := hstep T hT X
  obtain ⟨v, ⟨U', l2, c2, s2⟩, X', ⟨g', mk', t, L, e1, e2, hq, h1, hL, h2, h3⟩, hsteps⟩ := hK m meth c ⟨T.setVm vm₁, locs, cells, slots⟩ { g with stack := rest } ins mk (Value.ref b :: As).toArray X₁ hg (hsize.trans hml.symm) (by rw [hb]; exact hdg) hW (X₁.named hnamed) ⟨hf.1, hf.2, hPc (T.setVm vm₁) hT X₁.warmed⟩
  dsimp only [Pt.U, Pt.locs, Pt.cells, Pt.slots] at X' e1 e2 h1 h2 h3 hsteps
  subst h1; subst h2; subst h3
  exact ⟨v, (T.setVm vm₁).calling g' mk' (Value.ref b :: As).toArray, t, U', L, hT, X', hL, e1, e2, hq, fun target h => hstep₁ _ fun acts => by rw [doInvoke_state]; exact hsteps.trans h⟩
/-- invokevirtual, landing in a default -/
theorem va_runDV {x y : MethodName} {bytes cc : ByteArray} {maxL nL mc ms n index : Nat} {ret : Option FieldType} {ws : List Cond} {rm : Room} {Pc : Array Value → State → Prop} {Qc : Array Value → State → Outcome → State → Prop} {free : Addr → Prop} {Ts : List Cond} {own C owner : String} {b : Addr} {As rest : List Value} {g : JFrame}
    (S : CallFix p m c cc nL s args Ts own) (hM : Met l y ws rm Pc Qc mc ms free) (hbk : rm.cells = mc ∧ rm.slots = ms ∧ rm.frames + 1 ≤ R.frames ∧ 8 + (maxL + 11) + rm.locals ≤ R.locals ∧ (∀ w ∈ ws, ∀ (a' : Array Value) (U : State), s.WarmedH U.vm → w.before a' U = true) ∧ Cond.code y bytes maxL ret ∈ ws) (hini : (Cond.initialized y.cls).before args s = true) (hp : PreV s H C b Pc As)
    (hlink : (Cond.methodLink own index x).before args s = true) (hsame : (Cond.sameMethod x.cls owner x.name x.desc).before args s = true) (hd0 : va_Decl s ⟨owner, x.name, x.desc⟩) (howner : owner ≠ "java/lang/invoke/MethodHandle" ∧ owner ≠ "java/lang/invoke/VarHandle") (hsel : (Cond.landsInDefault C x y).before args s = true) (hinst : (Cond.instanceMethod y).before args s = true)
    (hlen : ∀ sig, parseMethodDescriptor x.desc = some sig → n = sig.parameters.length) (hg : g.method = m) (hn : As.length = n) (hsize : g.locals.size = nL) (hstack : g.stack = As.reverse ++ .ref b :: rest) (hW : 2 * g.monitorRoom + (rest.map fun v => v.category).sum ≤ 8) (hdg : decode cc g.pc = .ok (.invokevirtual index, 3)) (hf : cells + mc ≤ R.cells ∧ slots + ms ≤ R.slots) :
    va_Run p l e R s m args below meth c H locs cells slots mc ms g rest (Qc (Value.ref b :: As).toArray) (free) := by
  obtain ⟨r0, r, hn0, hrm, hstR, hsigR⟩ := hd0
  obtain ⟨cn, ck, r1, hcn, hck, hni, hff, hn1⟩ := Cond.sameMethod_found hsame
  cases hn0.symm.trans hn1
  obtain ⟨mk, methM, hnamed, hmethM, -, habM⟩ := Cond.instanceMethod_spec hinst
  obtain ⟨c2, r2, m2, rm2, q1, q2, q3, q5, q4, ⟨kP, hkP, hkPi⟩, -, q7⟩ := Cond.landsInDefault_spec hsel
  cases hff.symm.trans q2
  cases hnamed.symm.trans q3
  cases hrm.symm.trans q5
  obtain ⟨cellB, hcB, hoB, hclB⟩ := hp.2.1
  cases hclB.symm.trans q1
  refine va_runG S hM hbk hini hp hg hsize hW hdg hf hnamed (fun T hT X => ?_)
  have hselP : selectMethod e.platform s.vm cellB.cls r0 = .method mk := by rw [Launch.admits_selectMethod X.admits]; exact q4
  exact X.invokevirtualUpD S.1 S.2.2.2.1 hlink hsame howner hn0 hrm hstR (a := b) (cell := cellB) (by rw [hT]; exact hcB) (fun z h => by rw [h] at hoB; cases hoB) hselP hmethM habM hkP hkPi q7 (g := g) hg (argsL := As) (rest := rest) (hn.trans (hlen _ hsigR)) hstack (by rw [S.2.1]; exact hdg)
/-- invokevirtual of what an interface declares, landing in a class's own method -/
theorem va_runDC {x y : MethodName} {bytes cc : ByteArray} {maxL nL mc ms n index : Nat} {ret : Option FieldType} {ws : List Cond} {rm : Room} {Pc : Array Value → State → Prop} {Qc : Array Value → State → Outcome → State → Prop} {free : Addr → Prop} {Ts : List Cond} {own C owner : String} {b : Addr} {As rest : List Value} {g : JFrame}
    (S : CallFix p m c cc nL s args Ts own) (hM : Met l y ws rm Pc Qc mc ms free) (hbk : rm.cells = mc ∧ rm.slots = ms ∧ rm.frames + 1 ≤ R.frames ∧ 8 + (maxL + 11) + rm.locals ≤ R.locals ∧ (∀ w ∈ ws, ∀ (a' : Array Value) (U : State), s.WarmedH U.vm → w.before a' U = true) ∧ Cond.code y bytes maxL ret ∈ ws) (hini : (Cond.initialized y.cls).before args s = true) (hp : PreV s H C b Pc As)
    (hlink : (Cond.methodLink own index x).before args s = true) (hsame : (Cond.sameMethod x.cls owner x.name x.desc).before args s = true) (hd0 : va_Decl s ⟨owner, x.name, x.desc⟩) (howner : owner ≠ "java/lang/invoke/MethodHandle" ∧ owner ≠ "java/lang/invoke/VarHandle") (hsel : (Cond.selects C ⟨owner, x.name, x.desc⟩ y).before args s = true) (hinst : (Cond.instanceMethod y).before args s = true)
    (hlen : ∀ sig, parseMethodDescriptor x.desc = some sig → n = sig.parameters.length) (hg : g.method = m) (hn : As.length = n) (hsize : g.locals.size = nL) (hstack : g.stack = As.reverse ++ .ref b :: rest) (hW : 2 * g.monitorRoom + (rest.map fun v => v.category).sum ≤ 8) (hdg : decode cc g.pc = .ok (.invokevirtual index, 3)) (hf : cells + mc ≤ R.cells ∧ slots + ms ≤ R.slots) :
    va_Run p l e R s m args below meth c H locs cells slots mc ms g rest (Qc (Value.ref b :: As).toArray) (free) := by
  obtain ⟨r0, r, hn0, hrm, hstR, hsigR⟩ := hd0
  obtain ⟨mk, methM, hnamed, hmethM, -, habM⟩ := Cond.instanceMethod_spec hinst
  obtain ⟨c2, r2, m2, q1, q2, q3, q4, kP, hkP, hkPi⟩ := Cond.selects_spec hsel
  cases (State.methodFound?_of_named hn0 howner).symm.trans q2
  cases hnamed.symm.trans q3
  obtain ⟨cellB, hcB, hoB, hclB⟩ := hp.2.1
  cases hclB.symm.trans q1
  refine va_runG S hM hbk hini hp hg hsize hW hdg hf hnamed (fun T hT X => ?_)
  have hselP : selectMethod e.platform s.vm cellB.cls r0 = .method mk := by rw [Launch.admits_selectMethod X.admits]; exact q4
  exact X.invokevirtualUp S.1 S.2.2.2.1 hlink hsame howner hn0 hrm hstR (a := b) (cell := cellB) (by rw [hT]; exact hcB) (fun z h => by rw [h] at hoB; cases hoB) hselP hmethM habM hkP hkPi (g := g) hg (argsL := As) (rest := rest) (hn.trans (hlen _ hsigR)) hstack (by rw [S.2.1]; exact hdg)
/-- super.m(..), landing in a default -/
theorem va_runDS {x y : MethodName} {bytes cc : ByteArray} {maxL nL mc ms n index : Nat} {ret : Option FieldType} {ws : List Cond} {rm : Room} {Pc : Array Value → State → Prop} {Qc : Array Value → State → Outcome → State → Prop} {free : Addr → Prop} {Ts : List Cond} {own C owner : String} {cC : ClassId} {b : Addr} {As rest : List Value} {g : JFrame}
    (hat : ClassAt s C cC) (S : CallFix p m c cc nL s args Ts own) (hM : Met l y ws rm Pc Qc mc ms free) (hbk : rm.cells = mc ∧ rm.slots = ms ∧ rm.frames + 1 ≤ R.frames ∧ 8 + (maxL + 11) + rm.locals ≤ R.locals ∧ (∀ w ∈ ws, ∀ (a' : Array Value) (U : State), s.WarmedH U.vm → w.before a' U = true) ∧ Cond.code y bytes maxL ret ∈ ws) (hini : (Cond.initialized y.cls).before args s = true) (hp : PreV s H C b Pc As)
    (hlink : (Cond.methodLink own index x).before args s = true) (hsame : (Cond.sameMethod x.cls owner x.name x.desc).before args s = true) (hd0 : va_Decl s ⟨owner, x.name, x.desc⟩) (hsup : (Cond.superclass own x.cls).before args s = true) (hy : y = ⟨owner, x.name, x.desc⟩) (hsel : (Cond.landsInDefault x.cls x y).before args s = true) (hinst : (Cond.instanceMethod y).before args s = true) (hno : x.name ≠ "<init>")
    (hlen : ∀ sig, parseMethodDescriptor x.desc = some sig → n = sig.parameters.length) (hg : g.method = m) (hn : As.length = n) (hsize : g.locals.size = nL) (hstack : g.stack = As.reverse ++ .ref b :: rest) (hW : 2 * g.monitorRoom + (rest.map fun v => v.category).sum ≤ 8) (hdg : decode cc g.pc = .ok (.invokespecial index, 3)) (hf : cells + mc ≤ R.cells ∧ slots + ms ≤ R.slots) :
    va_Run p l e R s m args below meth c H locs cells slots mc ms g rest (Qc (Value.ref b :: As).toArray) (free) := by
  obtain ⟨r0, r, hn0, hrm, hstR, hsigR⟩ := hd0
  obtain ⟨cn, ck, r1, hcn, hck, hni, hff, hn1⟩ := Cond.sameMethod_found hsame
  cases hn0.symm.trans hn1
  obtain ⟨mk, methM, hnamed, hmethM, -, habM⟩ := Cond.instanceMethod_spec hinst
  have hmk : mk = r0 := Option.some.inj (hnamed.symm.trans (hy ▸ hn0))
  subst hmk
  cases hrm.symm.trans hmethM
  obtain ⟨cellB, hcB, hoB, hclB⟩ := hp.2.1
  obtain ⟨hfc, kB, hkB, -⟩ := hat
  cases hfc.symm.trans hclB
  obtain ⟨ps, dk, kp, hps, hdk, hkp, hsuper, -, -, hnid⟩ := Cond.superclass_spec S.2.2.2.1 hsup
  cases hcn.symm.trans hps
  refine va_runG S hM hbk hini hp hg hsize hW hdg hf hnamed (fun T hT X => ?_)
  have hpl : e.platform.magicAccessors = ({} : Platform).magicAccessors := by rw [X.admits.platform]
  obtain ⟨ci, hl, hright⟩ := Cond.methodLink_specUp S.2.2.2.1 hcn hck hni hff hlink e.platform hpl (by rw [X.admits.platform])
  obtain ⟨kr, hkr, -⟩ := className_of_methodNamed hn0
  obtain ⟨hrn, hrd⟩ := name_of_methodNamed hn0 hrm
  obtain ⟨dk₀, cfile, nt, _, _, ck₀, _, _, hd₀, hcf, hcp, -, -, -, hc₀, -, hpoly, -⟩ := hl.here
  cases hdk.symm.trans hd₀
  cases hck.symm.trans hc₀
  have hfound0 : lookupSpecial s.vm cn x.name x.desc = .method mk := special_default hsel hy hnamed hrm hstR hcn hck hni hpoly rfl hff
  subst hg
  obtain ⟨vm', hW', st⟩ := Steps.invokeSuperColdArgs (tb := p.tables) (e := e) (s₀ := s) (U := T) (f := g) (args := As) (rest := rest) (a := b) (cell := cellB) (m := mk) X.here S.1 (by rw [S.2.1]; exact hdg) X.warmed hl hright hdk hcf hcp hrm hck
    (by rw [hrn]; simp [hno]) hstR (by rw [hrn, hrd, hsuper]; simpa using hfound0) hnid hkr habM (hn.trans (hlen _ hsigR)) hstack (by rw [hT]; exact hcB) (fun z h => by rw [h] at hoB; cases hoB) hkB
  exact ⟨vm', X.noted hW', fun target h => st target (h [])⟩
end VDEF
section GXD
variable {E : XE} {C : Cx} {S : XS} {mc ms pc : Nat} {L : List (Option Value)} {st : List Value} {cc : ByteArray} {own : String} {ret : Option FieldType} {rf rl nL : Nat}
theorem xdef_at (i : Nat) {w : Cond} (h : xDefs[i]? = some w) : w ∈ lw_nst := List.mem_append_right _ (List.mem_of_getElem? h)
theorem gX_runDV {As rest : List Value} {Qa : Nat → Array Value → State → Outcome → State → Prop} {x y : MethodName} {cy : ByteArray} {nLy n idx b kb : Nat} {rety : Option FieldType} {rm : Room} {r : vw_C} {owner Cr : String} (hC : COk C cc own ret rf rl nL) (hX : XOk E C) (hy : XMet E (cx_l C) y cy nLy rety rm (va_rf (some b) :: As) S Qa) (hw : Cond.code y cy nLy rety ∈ lw_all) (hini : Cond.initialized y.cls ∈ lw_all) (hin : Cond.instanceMethod y ∈ lw_all) (hlink : Cond.methodLink own idx x ∈ lw_nst) (hsame : Cond.sameMethod x.cls owner x.name x.desc ∈ lw_nst) (hd1 : Cond.instanceMethod ⟨owner, x.name, x.desc⟩ ∈ lw_all) {b0 : ByteArray} {m0 : Nat} {r0 : Option FieldType} (hd2 : Cond.code ⟨owner, x.name, x.desc⟩ b0 m0 r0 ∈ lw_all) (hsel : Cond.landsInDefault Cr x y ∈ lw_nst)  (hd : owner ≠ "java/lang/invoke/MethodHandle" ∧ owner ≠ "java/lang/invoke/VarHandle" ∧ (parseMethodDescriptor x.desc).map (fun d => d.parameters.length) = some n) (hn : As.length = n) (hst : st = As.reverse ++ va_rf (some b) :: rest) (hcat : rest.length ≤ 4 ∨ rest.length ≤ 8 ∧ ∀ v ∈ rest, v.category = 1) (hR : rm.frames + 1 ≤ rf ∧ 8 + (nLy + 11) + rm.locals ≤ rl) (d : decode cc pc = .ok (.invokevirtual idx, 3)) (hmc : rm.cells ≤ mc) (hms : rm.slots ≤ ms) (hkb : xKD S b = some kb) (hcb : vwX[kb]? = some r) (hnb : kb < 19 ∧ kb ≠ 17) (hrb : r.1 = Cr) : XRun E C S mc ms pc L st rest rm.cells rm.slots (fun sz => Qa sz (va_rf (some b) :: As).toArray) := by
  subst hst
  intro H locs cells slots ls a1 a2 a3 a4 a5
  have hZ := x_pre (As := va_rf (some b) :: As) hX a1 a2
  obtain ⟨hx, hb, hr, hlk0, hml, hown, hts, hrf, hrl, hrc, hrs, hnl⟩ := id hC
  have hlen : ∀ sig, parseMethodDescriptor x.desc = some sig → n = sig.parameters.length := by
    intro sig h
    have h2 := hd.2.2
    rw [h] at h2
    exact (Option.some.inj h2).symm
  have hG := lw_meth hw
  exact va_runDV (As := As) (rest := rest) ⟨hx, hb, hml, hown, hts⟩ (hy H.size) ⟨rfl, rfl, by rw [hrf]; exact hR.1, by rw [hrl]; exact hR.2, pay_in hts hG, List.mem_cons_self⟩ (hts _ hini) ⟨BX0_blind, hrb ▸ x_recv hX a1 hkb hcb hnb, hZ⟩ (va_Nw.use rfl (hX.1.2.1 _ hlink)) (va_Nw.use rfl (hX.1.2.1 _ hsame)) (va_Decl.of (hts _ hd1) (hts _ hd2)) ⟨hd.1, hd.2.1⟩ (lid_vm (A := #[]) rfl (hX.1.2.1 _ hsel)) (hts _ hin) hlen rfl hn a5.1 rfl (lv_room (cat_or hcat)) d ⟨by rw [hrc]; omega, by rw [hrs]; omega⟩
theorem gX_runDC {As rest : List Value} {Qa : Nat → Array Value → State → Outcome → State → Prop} {x y : MethodName} {cy : ByteArray} {nLy n idx b kb : Nat} {rety : Option FieldType} {rm : Room} {r : vw_C} {owner Cr : String} (hC : COk C cc own ret rf rl nL) (hX : XOk E C) (hy : XMet E (cx_l C) y cy nLy rety rm (va_rf (some b) :: As) S Qa) (hw : Cond.code y cy nLy rety ∈ lw_all) (hini : Cond.initialized y.cls ∈ lw_all) (hin : Cond.instanceMethod y ∈ lw_all) (hlink : Cond.methodLink own idx x ∈ lw_nst) (hsame : Cond.sameMethod x.cls owner x.name x.desc ∈ lw_nst) (hd1 : Cond.instanceMethod ⟨owner, x.name, x.desc⟩ ∈ lw_all) {b0 : ByteArray} {m0 : Nat} {r0 : Option FieldType} (hd2 : Cond.code ⟨owner, x.name, x.desc⟩ b0 m0 r0 ∈ lw_all) (hsel : Cond.selects Cr ⟨owner, x.name, x.desc⟩ y ∈ lw_all)  (hd : owner ≠ "java/lang/invoke/MethodHandle" ∧ owner ≠ "java/lang/invoke/VarHandle" ∧ (parseMethodDescriptor x.desc).map (fun d => d.parameters.length) = some n) (hn : As.length = n) (hst : st = As.reverse ++ va_rf (some b) :: rest) (hcat : rest.length ≤ 4 ∨ rest.length ≤ 8 ∧ ∀ v ∈ rest, v.category = 1) (hR : rm.frames + 1 ≤ rf ∧ 8 + (nLy + 11) + rm.locals ≤ rl) (d : decode cc pc = .ok (.invokevirtual idx, 3)) (hmc : rm.cells ≤ mc) (hms : rm.slots ≤ ms) (hkb : xKD S b = some kb) (hcb : vwX[kb]? = some r) (hnb : kb < 19 ∧ kb ≠ 17) (hrb : r.1 = Cr) : XRun E C S mc ms pc L st rest rm.cells rm.slots (fun sz => Qa sz (va_rf (some b) :: As).toArray) := by
  subst hst
  intro H locs cells slots ls a1 a2 a3 a4 a5
  have hZ := x_pre (As := va_rf (some b) :: As) hX a1 a2
  obtain ⟨hx, hb, hr, hlk0, hml, hown, hts, hrf, hrl, hrc, hrs, hnl⟩ := id hC
  have hlen : ∀ sig, parseMethodDescriptor x.desc = some sig → n = sig.parameters.length := by
    intro sig h
    have h2 := hd.2.2
    rw [h] at h2
    exact (Option.some.inj h2).symm
  have hG := lw_meth hw
  exact va_runDC (As := As) (rest := rest) ⟨hx, hb, hml, hown, hts⟩ (hy H.size) ⟨rfl, rfl, by rw [hrf]; exact hR.1, by rw [hrl]; exact hR.2, pay_in hts hG, List.mem_cons_self⟩ (hts _ hini) ⟨BX0_blind, hrb ▸ x_recv hX a1 hkb hcb hnb, hZ⟩ (va_Nw.use rfl (hX.1.2.1 _ hlink)) (va_Nw.use rfl (hX.1.2.1 _ hsame)) (va_Decl.of (hts _ hd1) (hts _ hd2)) ⟨hd.1, hd.2.1⟩ (hts _ hsel) (hts _ hin) hlen rfl hn a5.1 rfl (lv_room (cat_or hcat)) d ⟨by rw [hrc]; omega, by rw [hrs]; omega⟩
theorem gX_runDS {As rest : List Value} {Qa : Nat → Array Value → State → Outcome → State → Prop} {x y : MethodName} {cy : ByteArray} {nLy n idx b kb : Nat} {rety : Option FieldType} {rm : Room} {r : vw_C} {owner Cr : String} (hC : COk C cc own ret rf rl nL) (hX : XOk E C) (hy : XMet E (cx_l C) y cy nLy rety rm (va_rf (some b) :: As) S Qa) (hw : Cond.code y cy nLy rety ∈ lw_all) (hini : Cond.initialized y.cls ∈ lw_all) (hin : Cond.instanceMethod y ∈ lw_all) (hlink : Cond.methodLink own idx x ∈ lw_nst) (hsame : Cond.sameMethod x.cls owner x.name x.desc ∈ lw_nst) (hd1 : Cond.instanceMethod ⟨owner, x.name, x.desc⟩ ∈ lw_all) {b0 : ByteArray} {m0 : Nat} {r0 : Option FieldType} (hd2 : Cond.code ⟨owner, x.name, x.desc⟩ b0 m0 r0 ∈ lw_all) (hsel : Cond.landsInDefault x.cls x y ∈ lw_nst) (hsup : Cond.superclass own x.cls ∈ lw_all) (hyx : y = ⟨owner, x.name, x.desc⟩) (hno : x.name ≠ "<init>") (hd : owner ≠ "java/lang/invoke/MethodHandle" ∧ owner ≠ "java/lang/invoke/VarHandle" ∧ (parseMethodDescriptor x.desc).map (fun d => d.parameters.length) = some n) (hn : As.length = n) (hst : st = As.reverse ++ va_rf (some b) :: rest) (hcat : rest.length ≤ 4 ∨ rest.length ≤ 8 ∧ ∀ v ∈ rest, v.category = 1) (hR : rm.frames + 1 ≤ rf ∧ 8 + (nLy + 11) + rm.locals ≤ rl) (d : decode cc pc = .ok (.invokespecial idx, 3)) (hmc : rm.cells ≤ mc) (hms : rm.slots ≤ ms) (hkb : xKD S b = some kb) (hcb : vwX[kb]? = some r) (hnb : kb < 19 ∧ kb ≠ 17) (hrb : r.1 = Cr) : XRun E C S mc ms pc L st rest rm.cells rm.slots (fun sz => Qa sz (va_rf (some b) :: As).toArray) := by
  subst hst
  intro H locs cells slots ls a1 a2 a3 a4 a5
  have hZ := x_pre (As := va_rf (some b) :: As) hX a1 a2
  obtain ⟨hx, hb, hr, hlk0, hml, hown, hts, hrf, hrl, hrc, hrs, hnl⟩ := id hC
  have hlen : ∀ sig, parseMethodDescriptor x.desc = some sig → n = sig.parameters.length := by
    intro sig h
    have h2 := hd.2.2
    rw [h] at h2
    exact (Option.some.inj h2).symm
  have hG := lw_meth hw
  exact va_runDS (hrb ▸ (hX.1.1.1 kb _ hcb).2) (As := As) (rest := rest) ⟨hx, hb, hml, hown, hts⟩ (hy H.size) ⟨rfl, rfl, by rw [hrf]; exact hR.1, by rw [hrl]; exact hR.2, pay_in hts hG, List.mem_cons_self⟩ (hts _ hini) ⟨BX0_blind, hrb ▸ x_recv hX a1 hkb hcb hnb, hZ⟩ (va_Nw.use rfl (hX.1.2.1 _ hlink)) (va_Nw.use rfl (hX.1.2.1 _ hsame)) (va_Decl.of (hts _ hd1) (hts _ hd2)) (hts _ hsup) hyx (lid_vm (A := #[]) rfl (hX.1.2.1 _ hsel)) (hts _ hin) hno hlen rfl hn a5.1 rfl (lv_room (cat_or hcat)) d ⟨by rw [hrc]; omega, by rw [hrs]; omega⟩
theorem gX_runUP {As rest : List Value} {Qa : Nat → Array Value → State → Outcome → State → Prop} {x y : MethodName} {cy : ByteArray} {nLy n idx b kb : Nat} {rety : Option FieldType} {rm : Room} {r : vw_C} {owner Cr : String} (hC : COk C cc own ret rf rl nL) (hX : XOk E C) (hy : XMet E (cx_l C) y cy nLy rety rm (va_rf (some b) :: As) S Qa) (hw : Cond.code y cy nLy rety ∈ lw_all) (hini : Cond.initialized y.cls ∈ lw_all) (hin : Cond.instanceMethod y ∈ lw_all) (hlink : Cond.methodLink own idx x ∈ lw_all) (hsame : Cond.sameMethod x.cls owner x.name x.desc ∈ lw_all) (hd1 : Cond.instanceMethod ⟨owner, x.name, x.desc⟩ ∈ lw_all) {b0 : ByteArray} {m0 : Nat} {r0 : Option FieldType} (hd2 : Cond.code ⟨owner, x.name, x.desc⟩ b0 m0 r0 ∈ lw_all) (hsel : Cond.selects Cr ⟨owner, x.name, x.desc⟩ y ∈ lw_nst)  (hd : owner ≠ "java/lang/invoke/MethodHandle" ∧ owner ≠ "java/lang/invoke/VarHandle" ∧ (parseMethodDescriptor x.desc).map (fun d => d.parameters.length) = some n) (hn : As.length = n) (hst : st = As.reverse ++ va_rf (some b) :: rest) (hcat : rest.length ≤ 4 ∨ rest.length ≤ 8 ∧ ∀ v ∈ rest, v.category = 1) (hR : rm.frames + 1 ≤ rf ∧ 8 + (nLy + 11) + rm.locals ≤ rl) (d : decode cc pc = .ok (.invokevirtual idx, 3)) (hmc : rm.cells ≤ mc) (hms : rm.slots ≤ ms) (hkb : xKD S b = some kb) (hcb : vwX[kb]? = some r) (hnb : kb < 19 ∧ kb ≠ 17) (hrb : r.1 = Cr) : XRun E C S mc ms pc L st rest rm.cells rm.slots (fun sz => Qa sz (va_rf (some b) :: As).toArray) := by
  subst hst
  intro H locs cells slots ls a1 a2 a3 a4 a5
  have hZ := x_pre (As := va_rf (some b) :: As) hX a1 a2
  obtain ⟨hx, hb, hr, hlk0, hml, hown, hts, hrf, hrl, hrc, hrs, hnl⟩ := id hC
  have hlen : ∀ sig, parseMethodDescriptor x.desc = some sig → n = sig.parameters.length := by
    intro sig h
    have h2 := hd.2.2
    rw [h] at h2
    exact (Option.some.inj h2).symm
  have hG := lw_meth hw
  exact va_runDC (As := As) (rest := rest) ⟨hx, hb, hml, hown, hts⟩ (hy H.size) ⟨rfl, rfl, by rw [hrf]; exact hR.1, by rw [hrl]; exact hR.2, pay_in hts hG, List.mem_cons_self⟩ (hts _ hini) ⟨BX0_blind, hrb ▸ x_recv hX a1 hkb hcb hnb, hZ⟩ (hts _ hlink) (hts _ hsame) (va_Decl.of (hts _ hd1) (hts _ hd2)) ⟨hd.1, hd.2.1⟩ (va_Nw.use rfl (hX.1.2.1 _ hsel)) (hts _ hin) hlen rfl hn a5.1 rfl (lv_room (cat_or hcat)) d ⟨by rw [hrc]; omega, by rw [hrs]; omega⟩
/-- a call on a String -/
theorem gX_runV17 {As rest : List Value} {Qa : Nat → Array Value → State → Outcome → State → Prop} {y : MethodName} {cy : ByteArray} {nLy n idx b : Nat} {rety : Option FieldType} {rm : Room} (hC : COk C cc own ret rf rl nL) (hX : XOk E C) (hy : XMet E (cx_l C) y cy nLy rety rm (va_rf (some b) :: As) S Qa) (hw : GoodIn lw_all (wsV own idx RJ8 y (ws_ y cy nLy rety))) (hd : y.cls = RJ8 ∧ y.cls ≠ "java/lang/invoke/MethodHandle" ∧ y.cls ≠ "java/lang/invoke/VarHandle" ∧ (parseMethodDescriptor y.desc).map (fun d => d.parameters.length) = some n) (hn : As.length = n) (hst : st = As.reverse ++ va_rf (some b) :: rest) (hcat : rest.length ≤ 4 ∨ rest.length ≤ 8 ∧ ∀ v ∈ rest, v.category = 1) (hR : rm.frames + 1 ≤ rf ∧ 8 + (nLy + 11) + rm.locals ≤ rl) (d : decode cc pc = .ok (.invokevirtual idx, 3)) (hmc : rm.cells ≤ mc) (hms : rm.slots ≤ ms) (hkb : xKD S b = some 17) : XRun E C S mc ms pc L st rest rm.cells rm.slots (fun sz => Qa sz (va_rf (some b) :: As).toArray) := by
  subst hst
  intro H locs cells slots ls a1 a2 a3 a4 a5
  have hZ := x_pre (As := va_rf (some b) :: As) hX a1 a2
  obtain ⟨hx, hb, hr, hlk0, hml, hown, hts, hrf, hrl, hrc, hrs, hnl⟩ := id hC
  exact va_runV (As := As) (rest := rest) ⟨hx, hb, hml, hown, hts⟩ (hy H.size) (cwV n hts hw rfl rfl rfl hd ⟨by rw [hrf]; exact hR.1, by rw [hrl]; exact hR.2⟩) ⟨BX0_blind, x_strc hX a1 hkb, hZ⟩ rfl hn a5.1 rfl (lv_room (cat_or hcat)) d ⟨by rw [hrc]; omega, by rw [hrs]; omega⟩
end GXD
/-- the world gets a name -/
theorem gX_nm {E : XE} {C : Cx} {S S1 : XS} {mc ms pc : Nat} {L : List (Option Value)} {st : List Value} (h : S1 = S) (k : GX E C S1 mc ms pc L st) : GX E C S mc ms pc L st := h ▸ k
