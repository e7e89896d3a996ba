/-! THE MODEL's <init>: a world that grows: the object's fields and the arrays made so far. -/
abbrev WI : Type := List Value × va_W
def wI (a54 : Nat) (w : WI) : va_W := (a54, .inr (0, w.1)) :: w.2
def okI (E : ME) (a54 : Nat) (A : Nat → Prop) (w : WI) (H : Heap) : Prop := va_P (me_D E) vwM (wI a54 w) H ∧ va_D A (wI a54 w)
def aI (a54 sz : Nat) : Nat → Prop := fun q => q = a54 ∨ sz ≤ q
def IOk (E : ME) (a54 : Nat) (C : Cx) : Prop := KM E (cx_s C) ∧ ∀ q : Nat, (cx_s C).heap.size ≤ q → cx_A C q
abbrev GI (E : ME) (a54 : Nat) (C : Cx) (w : WI) (mc ms pc : Nat) (L : List (Option Value)) (st : List Value) : Prop := Gw (okI E a54 (cx_A C)) C w mc ms pc L st
def cI (E : ME) (q n : Nat) (f : Nat → Int32) : Nat × va_E := (q, .inl (me_I E, n, .inl f))
def cZ (E : ME) (q n : Nat) (f : Nat → Int32) : Nat × va_E := (q, .inl (me_Z E, n, .inl f))
section GIR
variable {E : ME} {a54 : Nat} {C : Cx} {fs : List Value} {gs : va_W} {mc ms pc : Nat} {L : List (Option Value)} {st : List Value} {cc : ByteArray} {ret : Option FieldType} {rf rl nL : Nat}
theorem gI_oinit (hC : COk C cc RX3 ret rf rl nL) {i a : Nat} {w : WI} (d : decode cc pc = .ok (.invokespecial i, 3)) (h1 : Cond.methodLink RX3 i objectInit ∈ lw_all) (h2 : Cond.instanceMethod objectInit ∈ lw_all) (h3 : Cond.code objectInit ⟨#[0xb1]⟩ 1 none ∈ lw_all) (hrf : 1 ≤ rf) (hrl : 16 ≤ rl) (kk : GI E a54 C w mc ms (pc + 3) L []) : GI E a54 C w mc ms pc L [.ref a] := by
  intro H locs cells slots ls a1 a2 a3 a4 a5
  obtain ⟨-, -, -, -, hml, -, -, hf, hl, -, -, -⟩ := id hC
  exact W.objInit hC.1 hC.2.1 hC.2.2.2.2.2.1 (hC.2.2.2.2.2.2.1 _ h1) (hC.2.2.2.2.2.2.1 _ h2) (hC.2.2.2.2.2.2.1 _ h3) rfl (by rw [hml]; exact a5.1) rfl d (by rw [hf]; exact hrf) (by rw [hl]; show 2 * 0 + 0 + 12 ≤ rl; omega) (kk H locs cells slots ls a1 a2 a3 a4 a5)
theorem gI_newi (hC : COk C cc RX3 ret rf rl nL) (hM : IOk E a54 C) {len : Int32} {n : Nat} (d : decode cc pc = .ok (.newarray .int, 2)) (hcl : Cond.arrayClass .int ∈ lw_all) (h0 : ¬ len < 0) (hn : len.toNatClampNeg = n) (hb : n ≤ 100000) {mc1 ms1 : Nat} (hmc : mc1 + 1 = mc) (hms : ms1 + n = ms) (kk : ∀ q : Nat, GI E a54 C (fs, gs ++ [cI E q n (fun _ => 0)]) mc1 ms1 (pc + 2) L (.ref q :: st)) : GI E a54 C (fs, gs) mc ms pc L (.int len :: st) := by
  intro H locs cells slots ls a1 a2 a3 a4 a5
  obtain ⟨-, -, -, -, -, -, -, -, -, hrc, hrs, -⟩ := id hC
  refine va_newa (atype := .int) (ty := .int) (a0 := (n, .inl (fun _ => 0))) hC.1 hC.2.1 (hC.2.2.2.2.2.2.1 _ hcl) rfl hM.1 a1.1 a1.2 a2 hM.2 (fun cA => rfl) h0 hn (Nat.le_trans (Nat.mul_le_mul_right _ hb) (by decide)) (by rw [hrc]; omega) (by rw [hrs]; omega) d (fun q cA H1 hK hP hD hS => ?_)
  have hcA : cA = me_I E := va_RA_inj (hK.2 2 (cA, .int) rfl).2 (hM.1.2 0 _ rfl).2
  subst hcA
  exact kk q H1 locs (cells + 1) (slots + n) ls ⟨hP, hD⟩ hS (by omega) (by omega) a5
theorem gI_newz (hC : COk C cc RX3 ret rf rl nL) (hM : IOk E a54 C) {len : Int32} {n : Nat} (d : decode cc pc = .ok (.newarray .boolean, 2)) (hcl : Cond.arrayClass .boolean ∈ lw_all) (h0 : ¬ len < 0) (hn : len.toNatClampNeg = n) (hb : n ≤ 100000) {mc1 ms1 : Nat} (hmc : mc1 + 1 = mc) (hms : ms1 + n = ms) (kk : ∀ q : Nat, GI E a54 C (fs, gs ++ [cZ E q n (fun _ => 0)]) mc1 ms1 (pc + 2) L (.ref q :: st)) : GI E a54 C (fs, gs) mc ms pc L (.int len :: st) := by
  intro H locs cells slots ls a1 a2 a3 a4 a5
  obtain ⟨-, -, -, -, -, -, -, -, -, hrc, hrs, -⟩ := id hC
  refine va_newa (atype := .boolean) (ty := .boolean) (a0 := (n, .inl (fun _ => 0))) hC.1 hC.2.1 (hC.2.2.2.2.2.2.1 _ hcl) rfl hM.1 a1.1 a1.2 a2 hM.2 (fun cA => rfl) h0 hn (Nat.le_trans (Nat.mul_le_mul_right _ hb) (by decide)) (by rw [hrc]; omega) (by rw [hrs]; omega) d (fun q cA H1 hK hP hD hS => ?_)
  have hcA : cA = me_Z E := va_RA_inj (hK.2 2 (cA, .boolean) rfl).2 (hM.1.2 1 _ rfl).2
  subst hcA
  exact kk q H1 locs (cells + 1) (slots + n) ls ⟨hP, hD⟩ hS (by omega) (by omega) a5
theorem wI_last {w : List Value} {q : Nat} {e : va_E} : (wI a54 (w, gs ++ [(q, e)]))[gs.length + 1]? = some (q, e) := by
  show (gs ++ [(q, e)])[gs.length]? = _
  simp
theorem wI_set {w : List Value} {q : Nat} {e e' : va_E} : (wI a54 (w, gs ++ [(q, e)])).set (gs.length + 1) (q, e') = wI a54 (w, gs ++ [(q, e')]) := by
  show (a54, _) :: (gs ++ [(q, e)]).set gs.length (q, e') = _
  rw [List.set_append_right _ _ (Nat.le_refl _), Nat.sub_self]
  rfl
theorem gI_iast (hC : COk C cc RX3 ret rf rl nL) (hM : IOk E a54 C) {i x : Int32} {q n : Nat} {f : Nat → Int32} (d : decode cc pc = .ok (.iastore, 1)) (hin : vp_in i n) (kk : GI E a54 C (fs, gs ++ [cI E q n (upd f i.toNatClampNeg x)]) mc ms (pc + 1) L st) : GI E a54 C (fs, gs ++ [cI E q n f]) mc ms pc L (.int x :: .int i :: .ref q :: st) := by
  intro H locs cells slots ls a1 a2 a3 a4 a5
  refine va_iast hC.1 hC.2.1 hM.1 a1.1 a1.2 a2 (gs.length + 1) 0 wI_last rfl hin d (fun H1 locs1 hP hD hS => ?_)
  have e1 : (wI a54 (fs, gs ++ [cI E q n f])).set (gs.length + 1) (q, .inl (me_I E, n, .inl (upd f i.toNatClampNeg x))) = wI a54 (fs, gs ++ [cI E q n (upd f i.toNatClampNeg x)]) := wI_set
  rw [e1] at hP hD
  exact kk H1 locs1 cells slots ls ⟨hP, hD⟩ hS a3 a4 a5
theorem gI_put (hC : COk C cc RX3 ret rf rl nL) (hM : IOk E a54 C) (hini : (cx_h C).name = "<init>") {i q : Nat} (k : Nat) {ty : FieldType} (d : decode cc pc = .ok (.putfield i, 3)) (hq : Cond.fieldLink RX3 i RX3 (TX3 k).2.1 (TX3 k).2.2.1 ∈ lw_all) (hk : k < 54) (h1 : (TX3 k).1 = RX3) (hfin : (TX3 k).2.2.2 = true) (hd : parseFieldDescriptor (TX3 k).2.2.1 = some ty) (hn : narrow ty (.ref q) = .ref q) (hfit : fits ty (.ref q) = true) (hl : fs.length = 54) (kk : GI E a54 C (fs.set k (.ref q), gs) mc ms (pc + 3) L st) : GI E a54 C (fs, gs) mc ms pc L (.ref q :: .ref a54 :: st) := by
  intro H locs cells slots ls a1 a2 a3 a4 a5
  refine va_putF (C := RX3) (T := TX3) (N := 54) (ci := 0) (ref := RX3) (own := RX3) hC.1 hC.2.1 hC.2.2.2.2.2.2.1 in_X3 tyX3 tyX3_ok nmX3 hC.2.2.2.2.2.1 hM.1 a1.1 a1.2 a2 0 rfl rfl k hk (hC.2.2.2.2.2.2.1 _ hq) (fun x hx => by rw [h1] at hx; exact hx) hfin hini h1 hd hn hfit (by rw [hl]; exact hk) d (fun H1 locs1 hP hD hS => ?_)
  exact kk H1 locs1 cells slots ls ⟨hP, hD⟩ hS a3 a4 a5
end GIR
def fI_2 : Nat → Int32 := (upd (upd (upd (upd (fun _ => 0) 0 2) 1 2) 2 2) 3 2)
set_option maxRecDepth 20000 in
theorem bI_2 {E : ME} {a54 : Nat} {C : Cx} {rf rl : Nat} (hC : COk C cX3_init RX3 none rf rl 1) (hM : IOk E a54 C) (hini : (cx_h C).name = "<init>") {fs : List Value} {gs : va_W} {mc ms : Nat} (hl : fs.length = 54) (mc1 ms1 : Nat) (hmc : mc1 + 1 = mc) (hms : ms1 + 4 = ms) (kk : ∀ q : Nat, GI E a54 C (fs.set 2 (.ref q), gs ++ [cI E q 4 fI_2]) mc1 ms1 27 [some (.ref a54)] []) : GI E a54 C (fs, gs) mc ms 4 [some (.ref a54)] [] := by
  refine g_aload_n hC dX3_init_4 rfl ?_
  refine g_iconst (v := 4) hC dX3_init_5 (by decide) ?_
  refine gI_newi (n := 4) hC hM dX3_init_6 q163 (by decide) (by decide) (by decide) hmc hms (fun q => ?_)
  refine g_dup hC dX3_init_8 rfl ?_
  refine g_iconst (v := 0) hC dX3_init_9 (by decide) ?_
  refine g_iconst (v := 2) hC dX3_init_10 (by decide) ?_
  refine gI_iast hC hM dX3_init_11 (by unfold vp_in; decide) ?_
  refine g_dup hC dX3_init_12 rfl ?_
  refine g_iconst (v := 1) hC dX3_init_13 (by decide) ?_
  refine g_iconst (v := 2) hC dX3_init_14 (by decide) ?_
  refine gI_iast hC hM dX3_init_15 (by unfold vp_in; decide) ?_
  refine g_dup hC dX3_init_16 rfl ?_
  refine g_iconst (v := 2) hC dX3_init_17 (by decide) ?_
  refine g_iconst (v := 2) hC dX3_init_18 (by decide) ?_
  refine gI_iast hC hM dX3_init_19 (by unfold vp_in; decide) ?_
  refine g_dup hC dX3_init_20 rfl ?_
  refine g_iconst (v := 3) hC dX3_init_21 (by decide) ?_
  refine g_iconst (v := 2) hC dX3_init_22 (by decide) ?_
  refine gI_iast hC hM dX3_init_23 (by unfold vp_in; decide) ?_
  refine gI_put hC hM hini 2 dX3_init_24 q1505 (by decide) rfl rfl rfl rfl rfl hl ?_
  exact kk q
def fI_3 : Nat → Int32 := (upd (upd (upd (upd (fun _ => 0) 0 12) 1 12) 2 12) 3 12)
set_option maxRecDepth 20000 in
theorem bI_3 {E : ME} {a54 : Nat} {C : Cx} {rf rl : Nat} (hC : COk C cX3_init RX3 none rf rl 1) (hM : IOk E a54 C) (hini : (cx_h C).name = "<init>") {fs : List Value} {gs : va_W} {mc ms : Nat} (hl : fs.length = 54) (mc1 ms1 : Nat) (hmc : mc1 + 1 = mc) (hms : ms1 + 4 = ms) (kk : ∀ q : Nat, GI E a54 C (fs.set 3 (.ref q), gs ++ [cI E q 4 fI_3]) mc1 ms1 54 [some (.ref a54)] []) : GI E a54 C (fs, gs) mc ms 27 [some (.ref a54)] [] := by
  refine g_aload_n hC dX3_init_27 rfl ?_
  refine g_iconst (v := 4) hC dX3_init_28 (by decide) ?_
  refine gI_newi (n := 4) hC hM dX3_init_29 q163 (by decide) (by decide) (by decide) hmc hms (fun q => ?_)
  refine g_dup hC dX3_init_31 rfl ?_
  refine g_iconst (v := 0) hC dX3_init_32 (by decide) ?_
  refine g_bipush (v := 12) hC dX3_init_33 (by decide) ?_
  refine gI_iast hC hM dX3_init_35 (by unfold vp_in; decide) ?_
  refine g_dup hC dX3_init_36 rfl ?_
  refine g_iconst (v := 1) hC dX3_init_37 (by decide) ?_
  refine g_bipush (v := 12) hC dX3_init_38 (by decide) ?_
  refine gI_iast hC hM dX3_init_40 (by unfold vp_in; decide) ?_
  refine g_dup hC dX3_init_41 rfl ?_
  refine g_iconst (v := 2) hC dX3_init_42 (by decide) ?_
  refine g_bipush (v := 12) hC dX3_init_43 (by decide) ?_
  refine gI_iast hC hM dX3_init_45 (by unfold vp_in; decide) ?_
  refine g_dup hC dX3_init_46 rfl ?_
  refine g_iconst (v := 3) hC dX3_init_47 (by decide) ?_
  refine g_bipush (v := 12) hC dX3_init_48 (by decide) ?_
  refine gI_iast hC hM dX3_init_50 (by unfold vp_in; decide) ?_
  refine gI_put hC hM hini 3 dX3_init_51 q1506 (by decide) rfl rfl rfl rfl rfl hl ?_
  exact kk q
def fI_4 : Nat → Int32 := (upd (upd (upd (upd (fun _ => 0) 0 7) 1 7) 2 7) 3 7)
set_option maxRecDepth 20000 in
theorem bI_4 {E : ME} {a54 : Nat} {C : Cx} {rf rl : Nat} (hC : COk C cX3_init RX3 none rf rl 1) (hM : IOk E a54 C) (hini : (cx_h C).name = "<init>") {fs : List Value} {gs : va_W} {mc ms : Nat} (hl : fs.length = 54) (mc1 ms1 : Nat) (hmc : mc1 + 1 = mc) (hms : ms1 + 4 = ms) (kk : ∀ q : Nat, GI E a54 C (fs.set 4 (.ref q), gs ++ [cI E q 4 fI_4]) mc1 ms1 81 [some (.ref a54)] []) : GI E a54 C (fs, gs) mc ms 54 [some (.ref a54)] [] := by
  refine g_aload_n hC dX3_init_54 rfl ?_
  refine g_iconst (v := 4) hC dX3_init_55 (by decide) ?_
  refine gI_newi (n := 4) hC hM dX3_init_56 q163 (by decide) (by decide) (by decide) hmc hms (fun q => ?_)
  refine g_dup hC dX3_init_58 rfl ?_
  refine g_iconst (v := 0) hC dX3_init_59 (by decide) ?_
  refine g_bipush (v := 7) hC dX3_init_60 (by decide) ?_
  refine gI_iast hC hM dX3_init_62 (by unfold vp_in; decide) ?_
  refine g_dup hC dX3_init_63 rfl ?_
  refine g_iconst (v := 1) hC dX3_init_64 (by decide) ?_
  refine g_bipush (v := 7) hC dX3_init_65 (by decide) ?_
  refine gI_iast hC hM dX3_init_67 (by unfold vp_in; decide) ?_
  refine g_dup hC dX3_init_68 rfl ?_
  refine g_iconst (v := 2) hC dX3_init_69 (by decide) ?_
  refine g_bipush (v := 7) hC dX3_init_70 (by decide) ?_
  refine gI_iast hC hM dX3_init_72 (by unfold vp_in; decide) ?_
  refine g_dup hC dX3_init_73 rfl ?_
  refine g_iconst (v := 3) hC dX3_init_74 (by decide) ?_
  refine g_bipush (v := 7) hC dX3_init_75 (by decide) ?_
  refine gI_iast hC hM dX3_init_77 (by unfold vp_in; decide) ?_
  refine gI_put hC hM hini 4 dX3_init_78 q1507 (by decide) rfl rfl rfl rfl rfl hl ?_
  exact kk q
def fI_5 : Nat → Int32 := (upd (upd (upd (upd (fun _ => 0) 0 50) 1 50) 2 50) 3 50)
set_option maxRecDepth 20000 in
theorem bI_5 {E : ME} {a54 : Nat} {C : Cx} {rf rl : Nat} (hC : COk C cX3_init RX3 none rf rl 1) (hM : IOk E a54 C) (hini : (cx_h C).name = "<init>") {fs : List Value} {gs : va_W} {mc ms : Nat} (hl : fs.length = 54) (mc1 ms1 : Nat) (hmc : mc1 + 1 = mc) (hms : ms1 + 4 = ms) (kk : ∀ q : Nat, GI E a54 C (fs.set 5 (.ref q), gs ++ [cI E q 4 fI_5]) mc1 ms1 108 [some (.ref a54)] []) : GI E a54 C (fs, gs) mc ms 81 [some (.ref a54)] [] := by
  refine g_aload_n hC dX3_init_81 rfl ?_
  refine g_iconst (v := 4) hC dX3_init_82 (by decide) ?_
  refine gI_newi (n := 4) hC hM dX3_init_83 q163 (by decide) (by decide) (by decide) hmc hms (fun q => ?_)
  refine g_dup hC dX3_init_85 rfl ?_
  refine g_iconst (v := 0) hC dX3_init_86 (by decide) ?_
  refine g_bipush (v := 50) hC dX3_init_87 (by decide) ?_
  refine gI_iast hC hM dX3_init_89 (by unfold vp_in; decide) ?_
  refine g_dup hC dX3_init_90 rfl ?_
  refine g_iconst (v := 1) hC dX3_init_91 (by decide) ?_
  refine g_bipush (v := 50) hC dX3_init_92 (by decide) ?_
  refine gI_iast hC hM dX3_init_94 (by unfold vp_in; decide) ?_
  refine g_dup hC dX3_init_95 rfl ?_
  refine g_iconst (v := 2) hC dX3_init_96 (by decide) ?_
  refine g_bipush (v := 50) hC dX3_init_97 (by decide) ?_
  refine gI_iast hC hM dX3_init_99 (by unfold vp_in; decide) ?_
  refine g_dup hC dX3_init_100 rfl ?_
  refine g_iconst (v := 3) hC dX3_init_101 (by decide) ?_
  refine g_bipush (v := 50) hC dX3_init_102 (by decide) ?_
  refine gI_iast hC hM dX3_init_104 (by unfold vp_in; decide) ?_
  refine gI_put hC hM hini 5 dX3_init_105 q1508 (by decide) rfl rfl rfl rfl rfl hl ?_
  exact kk q
def fI_6 : Nat → Int32 := (upd (upd (upd (upd (upd (upd (upd (upd (fun _ => 0) 0 100) 1 100) 2 100) 3 100) 4 100) 5 100) 6 100) 7 100)
set_option maxRecDepth 20000 in
theorem bI_6 {E : ME} {a54 : Nat} {C : Cx} {rf rl : Nat} (hC : COk C cX3_init RX3 none rf rl 1) (hM : IOk E a54 C) (hini : (cx_h C).name = "<init>") {fs : List Value} {gs : va_W} {mc ms : Nat} (hl : fs.length = 54) (mc1 ms1 : Nat) (hmc : mc1 + 1 = mc) (hms : ms1 + 8 = ms) (kk : ∀ q : Nat, GI E a54 C (fs.set 6 (.ref q), gs ++ [cI E q 8 fI_6]) mc1 ms1 158 [some (.ref a54)] []) : GI E a54 C (fs, gs) mc ms 108 [some (.ref a54)] [] := by
  refine g_aload_n hC dX3_init_108 rfl ?_
  refine g_bipush (v := 8) hC dX3_init_109 (by decide) ?_
  refine gI_newi (n := 8) hC hM dX3_init_111 q163 (by decide) (by decide) (by decide) hmc hms (fun q => ?_)
  refine g_dup hC dX3_init_113 rfl ?_
  refine g_iconst (v := 0) hC dX3_init_114 (by decide) ?_
  refine g_bipush (v := 100) hC dX3_init_115 (by decide) ?_
  refine gI_iast hC hM dX3_init_117 (by unfold vp_in; decide) ?_
  refine g_dup hC dX3_init_118 rfl ?_
  refine g_iconst (v := 1) hC dX3_init_119 (by decide) ?_
  refine g_bipush (v := 100) hC dX3_init_120 (by decide) ?_
  refine gI_iast hC hM dX3_init_122 (by unfold vp_in; decide) ?_
  refine g_dup hC dX3_init_123 rfl ?_
  refine g_iconst (v := 2) hC dX3_init_124 (by decide) ?_
  refine g_bipush (v := 100) hC dX3_init_125 (by decide) ?_
  refine gI_iast hC hM dX3_init_127 (by unfold vp_in; decide) ?_
  refine g_dup hC dX3_init_128 rfl ?_
  refine g_iconst (v := 3) hC dX3_init_129 (by decide) ?_
  refine g_bipush (v := 100) hC dX3_init_130 (by decide) ?_
  refine gI_iast hC hM dX3_init_132 (by unfold vp_in; decide) ?_
  refine g_dup hC dX3_init_133 rfl ?_
  refine g_iconst (v := 4) hC dX3_init_134 (by decide) ?_
  refine g_bipush (v := 100) hC dX3_init_135 (by decide) ?_
  refine gI_iast hC hM dX3_init_137 (by unfold vp_in; decide) ?_
  refine g_dup hC dX3_init_138 rfl ?_
  refine g_iconst (v := 5) hC dX3_init_139 (by decide) ?_
  refine g_bipush (v := 100) hC dX3_init_140 (by decide) ?_
  refine gI_iast hC hM dX3_init_142 (by unfold vp_in; decide) ?_
  refine g_dup hC dX3_init_143 rfl ?_
  refine g_bipush (v := 6) hC dX3_init_144 (by decide) ?_
  refine g_bipush (v := 100) hC dX3_init_146 (by decide) ?_
  refine gI_iast hC hM dX3_init_148 (by unfold vp_in; decide) ?_
  refine g_dup hC dX3_init_149 rfl ?_
  refine g_bipush (v := 7) hC dX3_init_150 (by decide) ?_
  refine g_bipush (v := 100) hC dX3_init_152 (by decide) ?_
  refine gI_iast hC hM dX3_init_154 (by unfold vp_in; decide) ?_
  refine gI_put hC hM hini 6 dX3_init_155 q1509 (by decide) rfl rfl rfl rfl rfl hl ?_
  exact kk q
def fI_7 : Nat → Int32 := (upd (upd (upd (upd (upd (upd (upd (upd (upd (upd (upd (upd (upd (upd (upd (upd (upd (upd (upd (upd (fun _ => 0) 0 10) 1 10) 2 10) 3 10) 4 10) 5 10) 6 10) 7 10) 8 10) 9 10) 10 10) 11 10) 12 10) 13 10) 14 10) 15 10) 16 10) 17 10) 18 10) 19 10)
set_option maxRecDepth 20000 in
theorem bI_7 {E : ME} {a54 : Nat} {C : Cx} {rf rl : Nat} (hC : COk C cX3_init RX3 none rf rl 1) (hM : IOk E a54 C) (hini : (cx_h C).name = "<init>") {fs : List Value} {gs : va_W} {mc ms : Nat} (hl : fs.length = 54) (mc1 ms1 : Nat) (hmc : mc1 + 1 = mc) (hms : ms1 + 20 = ms) (kk : ∀ q : Nat, GI E a54 C (fs.set 7 (.ref q), gs ++ [cI E q 20 fI_7]) mc1 ms1 280 [some (.ref a54)] []) : GI E a54 C (fs, gs) mc ms 158 [some (.ref a54)] [] := by
  refine g_aload_n hC dX3_init_158 rfl ?_
  refine g_bipush (v := 20) hC dX3_init_159 (by decide) ?_
  refine gI_newi (n := 20) hC hM dX3_init_161 q163 (by decide) (by decide) (by decide) hmc hms (fun q => ?_)
  refine g_dup hC dX3_init_163 rfl ?_
  refine g_iconst (v := 0) hC dX3_init_164 (by decide) ?_
  refine g_bipush (v := 10) hC dX3_init_165 (by decide) ?_
  refine gI_iast hC hM dX3_init_167 (by unfold vp_in; decide) ?_
  refine g_dup hC dX3_init_168 rfl ?_
  refine g_iconst (v := 1) hC dX3_init_169 (by decide) ?_
  refine g_bipush (v := 10) hC dX3_init_170 (by decide) ?_
  refine gI_iast hC hM dX3_init_172 (by unfold vp_in; decide) ?_
  refine g_dup hC dX3_init_173 rfl ?_
  refine g_iconst (v := 2) hC dX3_init_174 (by decide) ?_
  refine g_bipush (v := 10) hC dX3_init_175 (by decide) ?_
  refine gI_iast hC hM dX3_init_177 (by unfold vp_in; decide) ?_
  refine g_dup hC dX3_init_178 rfl ?_
  refine g_iconst (v := 3) hC dX3_init_179 (by decide) ?_
  refine g_bipush (v := 10) hC dX3_init_180 (by decide) ?_
  refine gI_iast hC hM dX3_init_182 (by unfold vp_in; decide) ?_
  refine g_dup hC dX3_init_183 rfl ?_
  refine g_iconst (v := 4) hC dX3_init_184 (by decide) ?_
  refine g_bipush (v := 10) hC dX3_init_185 (by decide) ?_
  refine gI_iast hC hM dX3_init_187 (by unfold vp_in; decide) ?_
  refine g_dup hC dX3_init_188 rfl ?_
  refine g_iconst (v := 5) hC dX3_init_189 (by decide) ?_
  refine g_bipush (v := 10) hC dX3_init_190 (by decide) ?_
  refine gI_iast hC hM dX3_init_192 (by unfold vp_in; decide) ?_
  refine g_dup hC dX3_init_193 rfl ?_
  refine g_bipush (v := 6) hC dX3_init_194 (by decide) ?_
  refine g_bipush (v := 10) hC dX3_init_196 (by decide) ?_
  refine gI_iast hC hM dX3_init_198 (by unfold vp_in; decide) ?_
  refine g_dup hC dX3_init_199 rfl ?_
  refine g_bipush (v := 7) hC dX3_init_200 (by decide) ?_
  refine g_bipush (v := 10) hC dX3_init_202 (by decide) ?_
  refine gI_iast hC hM dX3_init_204 (by unfold vp_in; decide) ?_
  refine g_dup hC dX3_init_205 rfl ?_
  refine g_bipush (v := 8) hC dX3_init_206 (by decide) ?_
  refine g_bipush (v := 10) hC dX3_init_208 (by decide) ?_
  refine gI_iast hC hM dX3_init_210 (by unfold vp_in; decide) ?_
  refine g_dup hC dX3_init_211 rfl ?_
  refine g_bipush (v := 9) hC dX3_init_212 (by decide) ?_
  refine g_bipush (v := 10) hC dX3_init_214 (by decide) ?_
  refine gI_iast hC hM dX3_init_216 (by unfold vp_in; decide) ?_
  refine g_dup hC dX3_init_217 rfl ?_
  refine g_bipush (v := 10) hC dX3_init_218 (by decide) ?_
  refine g_bipush (v := 10) hC dX3_init_220 (by decide) ?_
  refine gI_iast hC hM dX3_init_222 (by unfold vp_in; decide) ?_
  refine g_dup hC dX3_init_223 rfl ?_
  refine g_bipush (v := 11) hC dX3_init_224 (by decide) ?_
  refine g_bipush (v := 10) hC dX3_init_226 (by decide) ?_
  refine gI_iast hC hM dX3_init_228 (by unfold vp_in; decide) ?_
  refine g_dup hC dX3_init_229 rfl ?_
  refine g_bipush (v := 12) hC dX3_init_230 (by decide) ?_
  refine g_bipush (v := 10) hC dX3_init_232 (by decide) ?_
  refine gI_iast hC hM dX3_init_234 (by unfold vp_in; decide) ?_
  refine g_dup hC dX3_init_235 rfl ?_
  refine g_bipush (v := 13) hC dX3_init_236 (by decide) ?_
  refine g_bipush (v := 10) hC dX3_init_238 (by decide) ?_
  refine gI_iast hC hM dX3_init_240 (by unfold vp_in; decide) ?_
  refine g_dup hC dX3_init_241 rfl ?_
  refine g_bipush (v := 14) hC dX3_init_242 (by decide) ?_
  refine g_bipush (v := 10) hC dX3_init_244 (by decide) ?_
  refine gI_iast hC hM dX3_init_246 (by unfold vp_in; decide) ?_
  refine g_dup hC dX3_init_247 rfl ?_
  refine g_bipush (v := 15) hC dX3_init_248 (by decide) ?_
  refine g_bipush (v := 10) hC dX3_init_250 (by decide) ?_
  refine gI_iast hC hM dX3_init_252 (by unfold vp_in; decide) ?_
  refine g_dup hC dX3_init_253 rfl ?_
  refine g_bipush (v := 16) hC dX3_init_254 (by decide) ?_
  refine g_bipush (v := 10) hC dX3_init_256 (by decide) ?_
  refine gI_iast hC hM dX3_init_258 (by unfold vp_in; decide) ?_
  refine g_dup hC dX3_init_259 rfl ?_
  refine g_bipush (v := 17) hC dX3_init_260 (by decide) ?_
  refine g_bipush (v := 10) hC dX3_init_262 (by decide) ?_
  refine gI_iast hC hM dX3_init_264 (by unfold vp_in; decide) ?_
  refine g_dup hC dX3_init_265 rfl ?_
  refine g_bipush (v := 18) hC dX3_init_266 (by decide) ?_
  refine g_bipush (v := 10) hC dX3_init_268 (by decide) ?_
  refine gI_iast hC hM dX3_init_270 (by unfold vp_in; decide) ?_
  refine g_dup hC dX3_init_271 rfl ?_
  refine g_bipush (v := 19) hC dX3_init_272 (by decide) ?_
  refine g_bipush (v := 10) hC dX3_init_274 (by decide) ?_
  refine gI_iast hC hM dX3_init_276 (by unfold vp_in; decide) ?_
  refine gI_put hC hM hini 7 dX3_init_277 q1510 (by decide) rfl rfl rfl rfl rfl hl ?_
  exact kk q
def fI_8 : Nat → Int32 := (upd (upd (upd (upd (upd (upd (upd (upd (upd (upd (upd (upd (upd (upd (upd (upd (upd (upd (upd (upd (fun _ => 0) 0 0) 1 1) 2 2) 3 3) 4 4) 5 0) 6 1) 7 2) 8 3) 9 4) 10 0) 11 1) 12 2) 13 3) 14 4) 15 0) 16 1) 17 2) 18 3) 19 4)
set_option maxRecDepth 20000 in
theorem bI_8 {E : ME} {a54 : Nat} {C : Cx} {rf rl : Nat} (hC : COk C cX3_init RX3 none rf rl 1) (hM : IOk E a54 C) (hini : (cx_h C).name = "<init>") {fs : List Value} {gs : va_W} {mc ms : Nat} (hl : fs.length = 54) (mc1 ms1 : Nat) (hmc : mc1 + 1 = mc) (hms : ms1 + 20 = ms) (kk : ∀ q : Nat, GI E a54 C (fs.set 8 (.ref q), gs ++ [cI E q 20 fI_8]) mc1 ms1 382 [some (.ref a54)] []) : GI E a54 C (fs, gs) mc ms 280 [some (.ref a54)] [] := by
  refine g_aload_n hC dX3_init_280 rfl ?_
  refine g_bipush (v := 20) hC dX3_init_281 (by decide) ?_
  refine gI_newi (n := 20) hC hM dX3_init_283 q163 (by decide) (by decide) (by decide) hmc hms (fun q => ?_)
  refine g_dup hC dX3_init_285 rfl ?_
  refine g_iconst (v := 0) hC dX3_init_286 (by decide) ?_
  refine g_iconst (v := 0) hC dX3_init_287 (by decide) ?_
  refine gI_iast hC hM dX3_init_288 (by unfold vp_in; decide) ?_
  refine g_dup hC dX3_init_289 rfl ?_
  refine g_iconst (v := 1) hC dX3_init_290 (by decide) ?_
  refine g_iconst (v := 1) hC dX3_init_291 (by decide) ?_
  refine gI_iast hC hM dX3_init_292 (by unfold vp_in; decide) ?_
  refine g_dup hC dX3_init_293 rfl ?_
  refine g_iconst (v := 2) hC dX3_init_294 (by decide) ?_
  refine g_iconst (v := 2) hC dX3_init_295 (by decide) ?_
  refine gI_iast hC hM dX3_init_296 (by unfold vp_in; decide) ?_
  refine g_dup hC dX3_init_297 rfl ?_
  refine g_iconst (v := 3) hC dX3_init_298 (by decide) ?_
  refine g_iconst (v := 3) hC dX3_init_299 (by decide) ?_
  refine gI_iast hC hM dX3_init_300 (by unfold vp_in; decide) ?_
  refine g_dup hC dX3_init_301 rfl ?_
  refine g_iconst (v := 4) hC dX3_init_302 (by decide) ?_
  refine g_iconst (v := 4) hC dX3_init_303 (by decide) ?_
  refine gI_iast hC hM dX3_init_304 (by unfold vp_in; decide) ?_
  refine g_dup hC dX3_init_305 rfl ?_
  refine g_iconst (v := 5) hC dX3_init_306 (by decide) ?_
  refine g_iconst (v := 0) hC dX3_init_307 (by decide) ?_
  refine gI_iast hC hM dX3_init_308 (by unfold vp_in; decide) ?_
  refine g_dup hC dX3_init_309 rfl ?_
  refine g_bipush (v := 6) hC dX3_init_310 (by decide) ?_
  refine g_iconst (v := 1) hC dX3_init_312 (by decide) ?_
  refine gI_iast hC hM dX3_init_313 (by unfold vp_in; decide) ?_
  refine g_dup hC dX3_init_314 rfl ?_
  refine g_bipush (v := 7) hC dX3_init_315 (by decide) ?_
  refine g_iconst (v := 2) hC dX3_init_317 (by decide) ?_
  refine gI_iast hC hM dX3_init_318 (by unfold vp_in; decide) ?_
  refine g_dup hC dX3_init_319 rfl ?_
  refine g_bipush (v := 8) hC dX3_init_320 (by decide) ?_
  refine g_iconst (v := 3) hC dX3_init_322 (by decide) ?_
  refine gI_iast hC hM dX3_init_323 (by unfold vp_in; decide) ?_
  refine g_dup hC dX3_init_324 rfl ?_
  refine g_bipush (v := 9) hC dX3_init_325 (by decide) ?_
  refine g_iconst (v := 4) hC dX3_init_327 (by decide) ?_
  refine gI_iast hC hM dX3_init_328 (by unfold vp_in; decide) ?_
  refine g_dup hC dX3_init_329 rfl ?_
  refine g_bipush (v := 10) hC dX3_init_330 (by decide) ?_
  refine g_iconst (v := 0) hC dX3_init_332 (by decide) ?_
  refine gI_iast hC hM dX3_init_333 (by unfold vp_in; decide) ?_
  refine g_dup hC dX3_init_334 rfl ?_
  refine g_bipush (v := 11) hC dX3_init_335 (by decide) ?_
  refine g_iconst (v := 1) hC dX3_init_337 (by decide) ?_
  refine gI_iast hC hM dX3_init_338 (by unfold vp_in; decide) ?_
  refine g_dup hC dX3_init_339 rfl ?_
  refine g_bipush (v := 12) hC dX3_init_340 (by decide) ?_
  refine g_iconst (v := 2) hC dX3_init_342 (by decide) ?_
  refine gI_iast hC hM dX3_init_343 (by unfold vp_in; decide) ?_
  refine g_dup hC dX3_init_344 rfl ?_
  refine g_bipush (v := 13) hC dX3_init_345 (by decide) ?_
  refine g_iconst (v := 3) hC dX3_init_347 (by decide) ?_
  refine gI_iast hC hM dX3_init_348 (by unfold vp_in; decide) ?_
  refine g_dup hC dX3_init_349 rfl ?_
  refine g_bipush (v := 14) hC dX3_init_350 (by decide) ?_
  refine g_iconst (v := 4) hC dX3_init_352 (by decide) ?_
  refine gI_iast hC hM dX3_init_353 (by unfold vp_in; decide) ?_
  refine g_dup hC dX3_init_354 rfl ?_
  refine g_bipush (v := 15) hC dX3_init_355 (by decide) ?_
  refine g_iconst (v := 0) hC dX3_init_357 (by decide) ?_
  refine gI_iast hC hM dX3_init_358 (by unfold vp_in; decide) ?_
  refine g_dup hC dX3_init_359 rfl ?_
  refine g_bipush (v := 16) hC dX3_init_360 (by decide) ?_
  refine g_iconst (v := 1) hC dX3_init_362 (by decide) ?_
  refine gI_iast hC hM dX3_init_363 (by unfold vp_in; decide) ?_
  refine g_dup hC dX3_init_364 rfl ?_
  refine g_bipush (v := 17) hC dX3_init_365 (by decide) ?_
  refine g_iconst (v := 2) hC dX3_init_367 (by decide) ?_
  refine gI_iast hC hM dX3_init_368 (by unfold vp_in; decide) ?_
  refine g_dup hC dX3_init_369 rfl ?_
  refine g_bipush (v := 18) hC dX3_init_370 (by decide) ?_
  refine g_iconst (v := 3) hC dX3_init_372 (by decide) ?_
  refine gI_iast hC hM dX3_init_373 (by unfold vp_in; decide) ?_
  refine g_dup hC dX3_init_374 rfl ?_
  refine g_bipush (v := 19) hC dX3_init_375 (by decide) ?_
  refine g_iconst (v := 4) hC dX3_init_377 (by decide) ?_
  refine gI_iast hC hM dX3_init_378 (by unfold vp_in; decide) ?_
  refine gI_put hC hM hini 8 dX3_init_379 q1511 (by decide) rfl rfl rfl rfl rfl hl ?_
  exact kk q
def fI_9 : Nat → Int32 := (upd (upd (upd (upd (upd (upd (upd (upd (fun _ => 0) 0 (-1)) 1 (-1)) 2 (-1)) 3 (-1)) 4 (-1)) 5 (-1)) 6 (-1)) 7 (-1))
set_option maxRecDepth 20000 in
theorem bI_9 {E : ME} {a54 : Nat} {C : Cx} {rf rl : Nat} (hC : COk C cX3_init RX3 none rf rl 1) (hM : IOk E a54 C) (hini : (cx_h C).name = "<init>") {fs : List Value} {gs : va_W} {mc ms : Nat} (hl : fs.length = 54) (mc1 ms1 : Nat) (hmc : mc1 + 1 = mc) (hms : ms1 + 8 = ms) (kk : ∀ q : Nat, GI E a54 C (fs.set 9 (.ref q), gs ++ [cI E q 8 fI_9]) mc1 ms1 424 [some (.ref a54)] []) : GI E a54 C (fs, gs) mc ms 382 [some (.ref a54)] [] := by
  refine g_aload_n hC dX3_init_382 rfl ?_
  refine g_bipush (v := 8) hC dX3_init_383 (by decide) ?_
  refine gI_newi (n := 8) hC hM dX3_init_385 q163 (by decide) (by decide) (by decide) hmc hms (fun q => ?_)
  refine g_dup hC dX3_init_387 rfl ?_
  refine g_iconst (v := 0) hC dX3_init_388 (by decide) ?_
  refine g_iconst (v := -1) hC dX3_init_389 (by decide) ?_
  refine gI_iast hC hM dX3_init_390 (by unfold vp_in; decide) ?_
  refine g_dup hC dX3_init_391 rfl ?_
  refine g_iconst (v := 1) hC dX3_init_392 (by decide) ?_
  refine g_iconst (v := -1) hC dX3_init_393 (by decide) ?_
  refine gI_iast hC hM dX3_init_394 (by unfold vp_in; decide) ?_
  refine g_dup hC dX3_init_395 rfl ?_
  refine g_iconst (v := 2) hC dX3_init_396 (by decide) ?_
  refine g_iconst (v := -1) hC dX3_init_397 (by decide) ?_
  refine gI_iast hC hM dX3_init_398 (by unfold vp_in; decide) ?_
  refine g_dup hC dX3_init_399 rfl ?_
  refine g_iconst (v := 3) hC dX3_init_400 (by decide) ?_
  refine g_iconst (v := -1) hC dX3_init_401 (by decide) ?_
  refine gI_iast hC hM dX3_init_402 (by unfold vp_in; decide) ?_
  refine g_dup hC dX3_init_403 rfl ?_
  refine g_iconst (v := 4) hC dX3_init_404 (by decide) ?_
  refine g_iconst (v := -1) hC dX3_init_405 (by decide) ?_
  refine gI_iast hC hM dX3_init_406 (by unfold vp_in; decide) ?_
  refine g_dup hC dX3_init_407 rfl ?_
  refine g_iconst (v := 5) hC dX3_init_408 (by decide) ?_
  refine g_iconst (v := -1) hC dX3_init_409 (by decide) ?_
  refine gI_iast hC hM dX3_init_410 (by unfold vp_in; decide) ?_
  refine g_dup hC dX3_init_411 rfl ?_
  refine g_bipush (v := 6) hC dX3_init_412 (by decide) ?_
  refine g_iconst (v := -1) hC dX3_init_414 (by decide) ?_
  refine gI_iast hC hM dX3_init_415 (by unfold vp_in; decide) ?_
  refine g_dup hC dX3_init_416 rfl ?_
  refine g_bipush (v := 7) hC dX3_init_417 (by decide) ?_
  refine g_iconst (v := -1) hC dX3_init_419 (by decide) ?_
  refine gI_iast hC hM dX3_init_420 (by unfold vp_in; decide) ?_
  refine gI_put hC hM hini 9 dX3_init_421 q1512 (by decide) rfl rfl rfl rfl rfl hl ?_
  exact kk q
def fI_10 : Nat → Int32 := (fun _ => 0)
set_option maxRecDepth 20000 in
theorem bI_10 {E : ME} {a54 : Nat} {C : Cx} {rf rl : Nat} (hC : COk C cX3_init RX3 none rf rl 1) (hM : IOk E a54 C) (hini : (cx_h C).name = "<init>") {fs : List Value} {gs : va_W} {mc ms : Nat} (hl : fs.length = 54) (mc1 ms1 : Nat) (hmc : mc1 + 1 = mc) (hms : ms1 + 8 = ms) (kk : ∀ q : Nat, GI E a54 C (fs.set 10 (.ref q), gs ++ [cI E q 8 fI_10]) mc1 ms1 432 [some (.ref a54)] []) : GI E a54 C (fs, gs) mc ms 424 [some (.ref a54)] [] := by
  refine g_aload_n hC dX3_init_424 rfl ?_
  refine g_bipush (v := 8) hC dX3_init_425 (by decide) ?_
  refine gI_newi (n := 8) hC hM dX3_init_427 q163 (by decide) (by decide) (by decide) hmc hms (fun q => ?_)
  refine gI_put hC hM hini 10 dX3_init_429 q1513 (by decide) rfl rfl rfl rfl rfl hl ?_
  exact kk q
def fI_11 : Nat → Int32 := (fun _ => 0)
set_option maxRecDepth 20000 in
theorem bI_11 {E : ME} {a54 : Nat} {C : Cx} {rf rl : Nat} (hC : COk C cX3_init RX3 none rf rl 1) (hM : IOk E a54 C) (hini : (cx_h C).name = "<init>") {fs : List Value} {gs : va_W} {mc ms : Nat} (hl : fs.length = 54) (mc1 ms1 : Nat) (hmc : mc1 + 1 = mc) (hms : ms1 + 480 = ms) (kk : ∀ q : Nat, GI E a54 C (fs.set 11 (.ref q), gs ++ [cI E q 480 fI_11]) mc1 ms1 441 [some (.ref a54)] []) : GI E a54 C (fs, gs) mc ms 432 [some (.ref a54)] [] := by
  refine g_aload_n hC dX3_init_432 rfl ?_
  refine g_sipush (v := 480) hC dX3_init_433 (by decide) ?_
  refine gI_newi (n := 480) hC hM dX3_init_436 q163 (by decide) (by decide) (by decide) hmc hms (fun q => ?_)
  refine gI_put hC hM hini 11 dX3_init_438 q1514 (by decide) rfl rfl rfl rfl rfl hl ?_
  exact kk q
def fI_12 : Nat → Int32 := (fun _ => 0)
set_option maxRecDepth 20000 in
theorem bI_12 {E : ME} {a54 : Nat} {C : Cx} {rf rl : Nat} (hC : COk C cX3_init RX3 none rf rl 1) (hM : IOk E a54 C) (hini : (cx_h C).name = "<init>") {fs : List Value} {gs : va_W} {mc ms : Nat} (hl : fs.length = 54) (mc1 ms1 : Nat) (hmc : mc1 + 1 = mc) (hms : ms1 + 400 = ms) (kk : ∀ q : Nat, GI E a54 C (fs.set 12 (.ref q), gs ++ [cI E q 400 fI_12]) mc1 ms1 450 [some (.ref a54)] []) : GI E a54 C (fs, gs) mc ms 441 [some (.ref a54)] [] := by
  refine g_aload_n hC dX3_init_441 rfl ?_
  refine g_sipush (v := 400) hC dX3_init_442 (by decide) ?_
  refine gI_newi (n := 400) hC hM dX3_init_445 q163 (by decide) (by decide) (by decide) hmc hms (fun q => ?_)
  refine gI_put hC hM hini 12 dX3_init_447 q1515 (by decide) rfl rfl rfl rfl rfl hl ?_
  exact kk q
def fI_25 : Nat → Int32 := (fun _ => 0)
set_option maxRecDepth 20000 in
theorem bI_25 {E : ME} {a54 : Nat} {C : Cx} {rf rl : Nat} (hC : COk C cX3_init RX3 none rf rl 1) (hM : IOk E a54 C) (hini : (cx_h C).name = "<init>") {fs : List Value} {gs : va_W} {mc ms : Nat} (hl : fs.length = 54) (mc1 ms1 : Nat) (hmc : mc1 + 1 = mc) (hms : ms1 + 144 = ms) (kk : ∀ q : Nat, GI E a54 C (fs.set 25 (.ref q), gs ++ [cI E q 144 fI_25]) mc1 ms1 459 [some (.ref a54)] []) : GI E a54 C (fs, gs) mc ms 450 [some (.ref a54)] [] := by
  refine g_aload_n hC dX3_init_450 rfl ?_
  refine g_sipush (v := 144) hC dX3_init_451 (by decide) ?_
  refine gI_newi (n := 144) hC hM dX3_init_454 q163 (by decide) (by decide) (by decide) hmc hms (fun q => ?_)
  refine gI_put hC hM hini 25 dX3_init_456 q1528 (by decide) rfl rfl rfl rfl rfl hl ?_
  exact kk q
def fI_26 : Nat → Int32 := (fun _ => 0)
set_option maxRecDepth 20000 in
theorem bI_26 {E : ME} {a54 : Nat} {C : Cx} {rf rl : Nat} (hC : COk C cX3_init RX3 none rf rl 1) (hM : IOk E a54 C) (hini : (cx_h C).name = "<init>") {fs : List Value} {gs : va_W} {mc ms : Nat} (hl : fs.length = 54) (mc1 ms1 : Nat) (hmc : mc1 + 1 = mc) (hms : ms1 + 16 = ms) (kk : ∀ q : Nat, GI E a54 C (fs.set 26 (.ref q), gs ++ [cI E q 16 fI_26]) mc1 ms1 467 [some (.ref a54)] []) : GI E a54 C (fs, gs) mc ms 459 [some (.ref a54)] [] := by
  refine g_aload_n hC dX3_init_459 rfl ?_
  refine g_bipush (v := 16) hC dX3_init_460 (by decide) ?_
  refine gI_newi (n := 16) hC hM dX3_init_462 q163 (by decide) (by decide) (by decide) hmc hms (fun q => ?_)
  refine gI_put hC hM hini 26 dX3_init_464 q1529 (by decide) rfl rfl rfl rfl rfl hl ?_
  exact kk q
def fI_28 : Nat → Int32 := (fun _ => 0)
set_option maxRecDepth 20000 in
theorem bI_28 {E : ME} {a54 : Nat} {C : Cx} {rf rl : Nat} (hC : COk C cX3_init RX3 none rf rl 1) (hM : IOk E a54 C) (hini : (cx_h C).name = "<init>") {fs : List Value} {gs : va_W} {mc ms : Nat} (hl : fs.length = 54) (mc1 ms1 : Nat) (hmc : mc1 + 1 = mc) (hms : ms1 + 65536 = ms) (kk : ∀ q : Nat, GI E a54 C (fs.set 28 (.ref q), gs ++ [cZ E q 65536 fI_28]) mc1 ms1 475 [some (.ref a54)] []) : GI E a54 C (fs, gs) mc ms 467 [some (.ref a54)] [] := by
  refine g_aload_n hC dX3_init_467 rfl ?_
  refine g_ldc (v := 65536) hC dX3_init_468 q1502 ?_
  refine gI_newz (n := 65536) hC hM dX3_init_470 q1666 (by decide) (by decide) (by decide) hmc hms (fun q => ?_)
  refine gI_put hC hM hini 28 dX3_init_472 q1531 (by decide) rfl rfl rfl rfl rfl hl ?_
  exact kk q
def fI_29 : Nat → Int32 := (fun _ => 0)
set_option maxRecDepth 20000 in
theorem bI_29 {E : ME} {a54 : Nat} {C : Cx} {rf rl : Nat} (hC : COk C cX3_init RX3 none rf rl 1) (hM : IOk E a54 C) (hini : (cx_h C).name = "<init>") {fs : List Value} {gs : va_W} {mc ms : Nat} (hl : fs.length = 54) (mc1 ms1 : Nat) (hmc : mc1 + 1 = mc) (hms : ms1 + 65536 = ms) (kk : ∀ q : Nat, GI E a54 C (fs.set 29 (.ref q), gs ++ [cI E q 65536 fI_29]) mc1 ms1 483 [some (.ref a54)] []) : GI E a54 C (fs, gs) mc ms 475 [some (.ref a54)] [] := by
  refine g_aload_n hC dX3_init_475 rfl ?_
  refine g_ldc (v := 65536) hC dX3_init_476 q1502 ?_
  refine gI_newi (n := 65536) hC hM dX3_init_478 q163 (by decide) (by decide) (by decide) hmc hms (fun q => ?_)
  refine gI_put hC hM hini 29 dX3_init_480 q1532 (by decide) rfl rfl rfl rfl rfl hl ?_
  exact kk q
def fI_30 : Nat → Int32 := (fun _ => 0)
set_option maxRecDepth 20000 in
theorem bI_30 {E : ME} {a54 : Nat} {C : Cx} {rf rl : Nat} (hC : COk C cX3_init RX3 none rf rl 1) (hM : IOk E a54 C) (hini : (cx_h C).name = "<init>") {fs : List Value} {gs : va_W} {mc ms : Nat} (hl : fs.length = 54) (mc1 ms1 : Nat) (hmc : mc1 + 1 = mc) (hms : ms1 + 16 = ms) (kk : ∀ q : Nat, GI E a54 C (fs.set 30 (.ref q), gs ++ [cI E q 16 fI_30]) mc1 ms1 491 [some (.ref a54)] []) : GI E a54 C (fs, gs) mc ms 483 [some (.ref a54)] [] := by
  refine g_aload_n hC dX3_init_483 rfl ?_
  refine g_bipush (v := 16) hC dX3_init_484 (by decide) ?_
  refine gI_newi (n := 16) hC hM dX3_init_486 q163 (by decide) (by decide) (by decide) hmc hms (fun q => ?_)
  refine gI_put hC hM hini 30 dX3_init_488 q1533 (by decide) rfl rfl rfl rfl rfl hl ?_
  exact kk q
def fI_31 : Nat → Int32 := (fun _ => 0)
set_option maxRecDepth 20000 in
theorem bI_31 {E : ME} {a54 : Nat} {C : Cx} {rf rl : Nat} (hC : COk C cX3_init RX3 none rf rl 1) (hM : IOk E a54 C) (hini : (cx_h C).name = "<init>") {fs : List Value} {gs : va_W} {mc ms : Nat} (hl : fs.length = 54) (mc1 ms1 : Nat) (hmc : mc1 + 1 = mc) (hms : ms1 + 16 = ms) (kk : ∀ q : Nat, GI E a54 C (fs.set 31 (.ref q), gs ++ [cI E q 16 fI_31]) mc1 ms1 499 [some (.ref a54)] []) : GI E a54 C (fs, gs) mc ms 491 [some (.ref a54)] [] := by
  refine g_aload_n hC dX3_init_491 rfl ?_
  refine g_bipush (v := 16) hC dX3_init_492 (by decide) ?_
  refine gI_newi (n := 16) hC hM dX3_init_494 q163 (by decide) (by decide) (by decide) hmc hms (fun q => ?_)
  refine gI_put hC hM hini 31 dX3_init_496 q1534 (by decide) rfl rfl rfl rfl rfl hl ?_
  exact kk q
def fI_34 : Nat → Int32 := (fun _ => 0)
set_option maxRecDepth 20000 in
theorem bI_34 {E : ME} {a54 : Nat} {C : Cx} {rf rl : Nat} (hC : COk C cX3_init RX3 none rf rl 1) (hM : IOk E a54 C) (hini : (cx_h C).name = "<init>") {fs : List Value} {gs : va_W} {mc ms : Nat} (hl : fs.length = 54) (mc1 ms1 : Nat) (hmc : mc1 + 1 = mc) (hms : ms1 + 40 = ms) (kk : ∀ q : Nat, GI E a54 C (fs.set 34 (.ref q), gs ++ [cI E q 40 fI_34]) mc1 ms1 507 [some (.ref a54)] []) : GI E a54 C (fs, gs) mc ms 499 [some (.ref a54)] [] := by
  refine g_aload_n hC dX3_init_499 rfl ?_
  refine g_bipush (v := 40) hC dX3_init_500 (by decide) ?_
  refine gI_newi (n := 40) hC hM dX3_init_502 q163 (by decide) (by decide) (by decide) hmc hms (fun q => ?_)
  refine gI_put hC hM hini 34 dX3_init_504 q1537 (by decide) rfl rfl rfl rfl rfl hl ?_
  exact kk q
def fI_35 : Nat → Int32 := (fun _ => 0)
set_option maxRecDepth 20000 in
theorem bI_35 {E : ME} {a54 : Nat} {C : Cx} {rf rl : Nat} (hC : COk C cX3_init RX3 none rf rl 1) (hM : IOk E a54 C) (hini : (cx_h C).name = "<init>") {fs : List Value} {gs : va_W} {mc ms : Nat} (hl : fs.length = 54) (mc1 ms1 : Nat) (hmc : mc1 + 1 = mc) (hms : ms1 + 40 = ms) (kk : ∀ q : Nat, GI E a54 C (fs.set 35 (.ref q), gs ++ [cI E q 40 fI_35]) mc1 ms1 515 [some (.ref a54)] []) : GI E a54 C (fs, gs) mc ms 507 [some (.ref a54)] [] := by
  refine g_aload_n hC dX3_init_507 rfl ?_
  refine g_bipush (v := 40) hC dX3_init_508 (by decide) ?_
  refine gI_newi (n := 40) hC hM dX3_init_510 q163 (by decide) (by decide) (by decide) hmc hms (fun q => ?_)
  refine gI_put hC hM hini 35 dX3_init_512 q1538 (by decide) rfl rfl rfl rfl rfl hl ?_
  exact kk q
def fI_36 : Nat → Int32 := (fun _ => 0)
set_option maxRecDepth 20000 in
theorem bI_36 {E : ME} {a54 : Nat} {C : Cx} {rf rl : Nat} (hC : COk C cX3_init RX3 none rf rl 1) (hM : IOk E a54 C) (hini : (cx_h C).name = "<init>") {fs : List Value} {gs : va_W} {mc ms : Nat} (hl : fs.length = 54) (mc1 ms1 : Nat) (hmc : mc1 + 1 = mc) (hms : ms1 + 40 = ms) (kk : ∀ q : Nat, GI E a54 C (fs.set 36 (.ref q), gs ++ [cI E q 40 fI_36]) mc1 ms1 523 [some (.ref a54)] []) : GI E a54 C (fs, gs) mc ms 515 [some (.ref a54)] [] := by
  refine g_aload_n hC dX3_init_515 rfl ?_
  refine g_bipush (v := 40) hC dX3_init_516 (by decide) ?_
  refine gI_newi (n := 40) hC hM dX3_init_518 q163 (by decide) (by decide) (by decide) hmc hms (fun q => ?_)
  refine gI_put hC hM hini 36 dX3_init_520 q1539 (by decide) rfl rfl rfl rfl rfl hl ?_
  exact kk q
def fI_38 : Nat → Int32 := (fun _ => 0)
set_option maxRecDepth 20000 in
theorem bI_38 {E : ME} {a54 : Nat} {C : Cx} {rf rl : Nat} (hC : COk C cX3_init RX3 none rf rl 1) (hM : IOk E a54 C) (hini : (cx_h C).name = "<init>") {fs : List Value} {gs : va_W} {mc ms : Nat} (hl : fs.length = 54) (mc1 ms1 : Nat) (hmc : mc1 + 1 = mc) (hms : ms1 + 40 = ms) (kk : ∀ q : Nat, GI E a54 C (fs.set 38 (.ref q), gs ++ [cI E q 40 fI_38]) mc1 ms1 531 [some (.ref a54)] []) : GI E a54 C (fs, gs) mc ms 523 [some (.ref a54)] [] := by
  refine g_aload_n hC dX3_init_523 rfl ?_
  refine g_bipush (v := 40) hC dX3_init_524 (by decide) ?_
  refine gI_newi (n := 40) hC hM dX3_init_526 q163 (by decide) (by decide) (by decide) hmc hms (fun q => ?_)
  refine gI_put hC hM hini 38 dX3_init_528 q1541 (by decide) rfl rfl rfl rfl rfl hl ?_
  exact kk q
def fI_39 : Nat → Int32 := (fun _ => 0)
set_option maxRecDepth 20000 in
theorem bI_39 {E : ME} {a54 : Nat} {C : Cx} {rf rl : Nat} (hC : COk C cX3_init RX3 none rf rl 1) (hM : IOk E a54 C) (hini : (cx_h C).name = "<init>") {fs : List Value} {gs : va_W} {mc ms : Nat} (hl : fs.length = 54) (mc1 ms1 : Nat) (hmc : mc1 + 1 = mc) (hms : ms1 + 40 = ms) (kk : ∀ q : Nat, GI E a54 C (fs.set 39 (.ref q), gs ++ [cI E q 40 fI_39]) mc1 ms1 539 [some (.ref a54)] []) : GI E a54 C (fs, gs) mc ms 531 [some (.ref a54)] [] := by
  refine g_aload_n hC dX3_init_531 rfl ?_
  refine g_bipush (v := 40) hC dX3_init_532 (by decide) ?_
  refine gI_newi (n := 40) hC hM dX3_init_534 q163 (by decide) (by decide) (by decide) hmc hms (fun q => ?_)
  refine gI_put hC hM hini 39 dX3_init_536 q1542 (by decide) rfl rfl rfl rfl rfl hl ?_
  exact kk q
def fI_40 : Nat → Int32 := (fun _ => 0)
set_option maxRecDepth 20000 in
theorem bI_40 {E : ME} {a54 : Nat} {C : Cx} {rf rl : Nat} (hC : COk C cX3_init RX3 none rf rl 1) (hM : IOk E a54 C) (hini : (cx_h C).name = "<init>") {fs : List Value} {gs : va_W} {mc ms : Nat} (hl : fs.length = 54) (mc1 ms1 : Nat) (hmc : mc1 + 1 = mc) (hms : ms1 + 40 = ms) (kk : ∀ q : Nat, GI E a54 C (fs.set 40 (.ref q), gs ++ [cI E q 40 fI_40]) mc1 ms1 547 [some (.ref a54)] []) : GI E a54 C (fs, gs) mc ms 539 [some (.ref a54)] [] := by
  refine g_aload_n hC dX3_init_539 rfl ?_
  refine g_bipush (v := 40) hC dX3_init_540 (by decide) ?_
  refine gI_newi (n := 40) hC hM dX3_init_542 q163 (by decide) (by decide) (by decide) hmc hms (fun q => ?_)
  refine gI_put hC hM hini 40 dX3_init_544 q1543 (by decide) rfl rfl rfl rfl rfl hl ?_
  exact kk q
def fI_41 : Nat → Int32 := (fun _ => 0)
set_option maxRecDepth 20000 in
theorem bI_41 {E : ME} {a54 : Nat} {C : Cx} {rf rl : Nat} (hC : COk C cX3_init RX3 none rf rl 1) (hM : IOk E a54 C) (hini : (cx_h C).name = "<init>") {fs : List Value} {gs : va_W} {mc ms : Nat} (hl : fs.length = 54) (mc1 ms1 : Nat) (hmc : mc1 + 1 = mc) (hms : ms1 + 40 = ms) (kk : ∀ q : Nat, GI E a54 C (fs.set 41 (.ref q), gs ++ [cI E q 40 fI_41]) mc1 ms1 555 [some (.ref a54)] []) : GI E a54 C (fs, gs) mc ms 547 [some (.ref a54)] [] := by
  refine g_aload_n hC dX3_init_547 rfl ?_
  refine g_bipush (v := 40) hC dX3_init_548 (by decide) ?_
  refine gI_newi (n := 40) hC hM dX3_init_550 q163 (by decide) (by decide) (by decide) hmc hms (fun q => ?_)
  refine gI_put hC hM hini 41 dX3_init_552 q1544 (by decide) rfl rfl rfl rfl rfl hl ?_
  exact kk q
def fI_43 : Nat → Int32 := (fun _ => 0)
set_option maxRecDepth 20000 in
theorem bI_43 {E : ME} {a54 : Nat} {C : Cx} {rf rl : Nat} (hC : COk C cX3_init RX3 none rf rl 1) (hM : IOk E a54 C) (hini : (cx_h C).name = "<init>") {fs : List Value} {gs : va_W} {mc ms : Nat} (hl : fs.length = 54) (mc1 ms1 : Nat) (hmc : mc1 + 1 = mc) (hms : ms1 + 40 = ms) (kk : ∀ q : Nat, GI E a54 C (fs.set 43 (.ref q), gs ++ [cI E q 40 fI_43]) mc1 ms1 563 [some (.ref a54)] []) : GI E a54 C (fs, gs) mc ms 555 [some (.ref a54)] [] := by
  refine g_aload_n hC dX3_init_555 rfl ?_
  refine g_bipush (v := 40) hC dX3_init_556 (by decide) ?_
  refine gI_newi (n := 40) hC hM dX3_init_558 q163 (by decide) (by decide) (by decide) hmc hms (fun q => ?_)
  refine gI_put hC hM hini 43 dX3_init_560 q1546 (by decide) rfl rfl rfl rfl rfl hl ?_
  exact kk q
def fI_44 : Nat → Int32 := (fun _ => 0)
set_option maxRecDepth 20000 in
theorem bI_44 {E : ME} {a54 : Nat} {C : Cx} {rf rl : Nat} (hC : COk C cX3_init RX3 none rf rl 1) (hM : IOk E a54 C) (hini : (cx_h C).name = "<init>") {fs : List Value} {gs : va_W} {mc ms : Nat} (hl : fs.length = 54) (mc1 ms1 : Nat) (hmc : mc1 + 1 = mc) (hms : ms1 + 40 = ms) (kk : ∀ q : Nat, GI E a54 C (fs.set 44 (.ref q), gs ++ [cI E q 40 fI_44]) mc1 ms1 571 [some (.ref a54)] []) : GI E a54 C (fs, gs) mc ms 563 [some (.ref a54)] [] := by
  refine g_aload_n hC dX3_init_563 rfl ?_
  refine g_bipush (v := 40) hC dX3_init_564 (by decide) ?_
  refine gI_newi (n := 40) hC hM dX3_init_566 q163 (by decide) (by decide) (by decide) hmc hms (fun q => ?_)
  refine gI_put hC hM hini 44 dX3_init_568 q1547 (by decide) rfl rfl rfl rfl rfl hl ?_
  exact kk q
def fI_45 : Nat → Int32 := (fun _ => 0)
set_option maxRecDepth 20000 in
theorem bI_45 {E : ME} {a54 : Nat} {C : Cx} {rf rl : Nat} (hC : COk C cX3_init RX3 none rf rl 1) (hM : IOk E a54 C) (hini : (cx_h C).name = "<init>") {fs : List Value} {gs : va_W} {mc ms : Nat} (hl : fs.length = 54) (mc1 ms1 : Nat) (hmc : mc1 + 1 = mc) (hms : ms1 + 40 = ms) (kk : ∀ q : Nat, GI E a54 C (fs.set 45 (.ref q), gs ++ [cI E q 40 fI_45]) mc1 ms1 579 [some (.ref a54)] []) : GI E a54 C (fs, gs) mc ms 571 [some (.ref a54)] [] := by
  refine g_aload_n hC dX3_init_571 rfl ?_
  refine g_bipush (v := 40) hC dX3_init_572 (by decide) ?_
  refine gI_newi (n := 40) hC hM dX3_init_574 q163 (by decide) (by decide) (by decide) hmc hms (fun q => ?_)
  refine gI_put hC hM hini 45 dX3_init_576 q1548 (by decide) rfl rfl rfl rfl rfl hl ?_
  exact kk q
def fI_47 : Nat → Int32 := (fun _ => 0)
set_option maxRecDepth 20000 in
theorem bI_47 {E : ME} {a54 : Nat} {C : Cx} {rf rl : Nat} (hC : COk C cX3_init RX3 none rf rl 1) (hM : IOk E a54 C) (hini : (cx_h C).name = "<init>") {fs : List Value} {gs : va_W} {mc ms : Nat} (hl : fs.length = 54) (mc1 ms1 : Nat) (hmc : mc1 + 1 = mc) (hms : ms1 + 10 = ms) (kk : ∀ q : Nat, GI E a54 C (fs.set 47 (.ref q), gs ++ [cI E q 10 fI_47]) mc1 ms1 587 [some (.ref a54)] []) : GI E a54 C (fs, gs) mc ms 579 [some (.ref a54)] [] := by
  refine g_aload_n hC dX3_init_579 rfl ?_
  refine g_bipush (v := 10) hC dX3_init_580 (by decide) ?_
  refine gI_newi (n := 10) hC hM dX3_init_582 q163 (by decide) (by decide) (by decide) hmc hms (fun q => ?_)
  refine gI_put hC hM hini 47 dX3_init_584 q1550 (by decide) rfl rfl rfl rfl rfl hl ?_
  exact kk q
def fI_48 : Nat → Int32 := (fun _ => 0)
set_option maxRecDepth 20000 in
theorem bI_48 {E : ME} {a54 : Nat} {C : Cx} {rf rl : Nat} (hC : COk C cX3_init RX3 none rf rl 1) (hM : IOk E a54 C) (hini : (cx_h C).name = "<init>") {fs : List Value} {gs : va_W} {mc ms : Nat} (hl : fs.length = 54) (mc1 ms1 : Nat) (hmc : mc1 + 1 = mc) (hms : ms1 + 10 = ms) (kk : ∀ q : Nat, GI E a54 C (fs.set 48 (.ref q), gs ++ [cI E q 10 fI_48]) mc1 ms1 595 [some (.ref a54)] []) : GI E a54 C (fs, gs) mc ms 587 [some (.ref a54)] [] := by
  refine g_aload_n hC dX3_init_587 rfl ?_
  refine g_bipush (v := 10) hC dX3_init_588 (by decide) ?_
  refine gI_newi (n := 10) hC hM dX3_init_590 q163 (by decide) (by decide) (by decide) hmc hms (fun q => ?_)
  refine gI_put hC hM hini 48 dX3_init_592 q1551 (by decide) rfl rfl rfl rfl rfl hl ?_
  exact kk q
def fI_49 : Nat → Int32 := (fun _ => 0)
set_option maxRecDepth 20000 in
theorem bI_49 {E : ME} {a54 : Nat} {C : Cx} {rf rl : Nat} (hC : COk C cX3_init RX3 none rf rl 1) (hM : IOk E a54 C) (hini : (cx_h C).name = "<init>") {fs : List Value} {gs : va_W} {mc ms : Nat} (hl : fs.length = 54) (mc1 ms1 : Nat) (hmc : mc1 + 1 = mc) (hms : ms1 + 10 = ms) (kk : ∀ q : Nat, GI E a54 C (fs.set 49 (.ref q), gs ++ [cI E q 10 fI_49]) mc1 ms1 603 [some (.ref a54)] []) : GI E a54 C (fs, gs) mc ms 595 [some (.ref a54)] [] := by
  refine g_aload_n hC dX3_init_595 rfl ?_
  refine g_bipush (v := 10) hC dX3_init_596 (by decide) ?_
  refine gI_newi (n := 10) hC hM dX3_init_598 q163 (by decide) (by decide) (by decide) hmc hms (fun q => ?_)
  refine gI_put hC hM hini 49 dX3_init_600 q1552 (by decide) rfl rfl rfl rfl rfl hl ?_
  exact kk q
def fI_50 : Nat → Int32 := (fun _ => 0)
set_option maxRecDepth 20000 in
theorem bI_50 {E : ME} {a54 : Nat} {C : Cx} {rf rl : Nat} (hC : COk C cX3_init RX3 none rf rl 1) (hM : IOk E a54 C) (hini : (cx_h C).name = "<init>") {fs : List Value} {gs : va_W} {mc ms : Nat} (hl : fs.length = 54) (mc1 ms1 : Nat) (hmc : mc1 + 1 = mc) (hms : ms1 + 10 = ms) (kk : ∀ q : Nat, GI E a54 C (fs.set 50 (.ref q), gs ++ [cI E q 10 fI_50]) mc1 ms1 611 [some (.ref a54)] []) : GI E a54 C (fs, gs) mc ms 603 [some (.ref a54)] [] := by
  refine g_aload_n hC dX3_init_603 rfl ?_
  refine g_bipush (v := 10) hC dX3_init_604 (by decide) ?_
  refine gI_newi (n := 10) hC hM dX3_init_606 q163 (by decide) (by decide) (by decide) hmc hms (fun q => ?_)
  refine gI_put hC hM hini 50 dX3_init_608 q1553 (by decide) rfl rfl rfl rfl rfl hl ?_
  exact kk q
def fI_51 : Nat → Int32 := (fun _ => 0)
set_option maxRecDepth 20000 in
theorem bI_51 {E : ME} {a54 : Nat} {C : Cx} {rf rl : Nat} (hC : COk C cX3_init RX3 none rf rl 1) (hM : IOk E a54 C) (hini : (cx_h C).name = "<init>") {fs : List Value} {gs : va_W} {mc ms : Nat} (hl : fs.length = 54) (mc1 ms1 : Nat) (hmc : mc1 + 1 = mc) (hms : ms1 + 10 = ms) (kk : ∀ q : Nat, GI E a54 C (fs.set 51 (.ref q), gs ++ [cI E q 10 fI_51]) mc1 ms1 619 [some (.ref a54)] []) : GI E a54 C (fs, gs) mc ms 611 [some (.ref a54)] [] := by
  refine g_aload_n hC dX3_init_611 rfl ?_
  refine g_bipush (v := 10) hC dX3_init_612 (by decide) ?_
  refine gI_newi (n := 10) hC hM dX3_init_614 q163 (by decide) (by decide) (by decide) hmc hms (fun q => ?_)
  refine gI_put hC hM hini 51 dX3_init_616 q1554 (by decide) rfl rfl rfl rfl rfl hl ?_
  exact kk q
def fI_52 : Nat → Int32 := (fun _ => 0)
set_option maxRecDepth 20000 in
theorem bI_52 {E : ME} {a54 : Nat} {C : Cx} {rf rl : Nat} (hC : COk C cX3_init RX3 none rf rl 1) (hM : IOk E a54 C) (hini : (cx_h C).name = "<init>") {fs : List Value} {gs : va_W} {mc ms : Nat} (hl : fs.length = 54) (mc1 ms1 : Nat) (hmc : mc1 + 1 = mc) (hms : ms1 + 16 = ms) (kk : ∀ q : Nat, GI E a54 C (fs.set 52 (.ref q), gs ++ [cI E q 16 fI_52]) mc1 ms1 627 [some (.ref a54)] []) : GI E a54 C (fs, gs) mc ms 619 [some (.ref a54)] [] := by
  refine g_aload_n hC dX3_init_619 rfl ?_
  refine g_bipush (v := 16) hC dX3_init_620 (by decide) ?_
  refine gI_newi (n := 16) hC hM dX3_init_622 q163 (by decide) (by decide) (by decide) hmc hms (fun q => ?_)
  refine gI_put hC hM hini 52 dX3_init_624 q1555 (by decide) rfl rfl rfl rfl rfl hl ?_
  exact kk q
def mJ0 : MS := fun k => match k with
  | 2 => fI_2
  | 3 => fI_3
  | 4 => fI_4
  | 5 => fI_5
  | 6 => fI_6
  | 7 => fI_7
  | 8 => fI_8
  | 9 => fI_9
  | 10 => fI_10
  | 11 => fI_11
  | 12 => fI_12
  | 25 => fI_25
  | 26 => fI_26
  | 28 => fI_28
  | 29 => fI_29
  | 30 => fI_30
  | 31 => fI_31
  | 34 => fI_34
  | 35 => fI_35
  | 36 => fI_36
  | 38 => fI_38
  | 39 => fI_39
  | 40 => fI_40
  | 41 => fI_41
  | 43 => fI_43
  | 44 => fI_44
  | 45 => fI_45
  | 47 => fI_47
  | 48 => fI_48
  | 49 => fI_49
  | 50 => fI_50
  | 51 => fI_51
  | 52 => fI_52
  | _ => fun _ => 0
def mAdr (a54 : Nat) (qs : List Nat) : Nat → Nat := fun k => if k = 54 then a54 else qs.getD (([0, 0, 0, 1, 2, 3, 4, 5, 6, 7, 8, 9, 10, 0, 0, 0, 0, 0, 0, 0, 0, 0, 0, 0, 0, 11, 12, 0, 13, 14, 15, 16, 0, 0, 17, 18, 19, 0, 20, 21, 22, 23, 0, 24, 25, 26, 0, 27, 28, 29, 30, 31, 32, 0] : List Nat).getD k 0) 0
theorem range54 {α : Type} (f : Nat → α) : (List.range 54).map f = [f 0, f 1, f 2, f 3, f 4, f 5, f 6, f 7, f 8, f 9, f 10, f 11, f 12, f 13, f 14, f 15, f 16, f 17, f 18, f 19, f 20, f 21, f 22, f 23, f 24, f 25, f 26, f 27, f 28, f 29, f 30, f 31, f 32, f 33, f 34, f 35, f 36, f 37, f 38, f 39, f 40, f 41, f 42, f 43, f 44, f 45, f 46, f 47, f 48, f 49, f 50, f 51, f 52, f 53] := rfl
theorem keys33 {α : Type} (f : Nat → α) : mKeys.map f = [f 2, f 3, f 4, f 5, f 6, f 7, f 8, f 9, f 10, f 11, f 12, f 25, f 26, f 28, f 29, f 30, f 31, f 34, f 35, f 36, f 38, f 39, f 40, f 41, f 43, f 44, f 45, f 47, f 48, f 49, f 50, f 51, f 52] := rfl
def BI0 (E : ME) (a54 sz : Nat) (U : State) : Prop := U.heap.size = sz ∧ a54 < sz ∧ va_P (me_D E) vwM [(a54, .inr (0, [Value.int 0, Value.int 0, Value.null, Value.null, Value.null, Value.null, Value.null, Value.null, Value.null, Value.null, Value.null, Value.null, Value.null, Value.int 0, Value.int 0, Value.int 0, Value.int 0, Value.int 0, Value.int 0, Value.int 0, Value.int 0, Value.int 0, Value.int 0, Value.int 0, Value.int 0, Value.null, Value.null, Value.int 0, Value.null, Value.null, Value.null, Value.null, Value.int 0, Value.int 0, Value.null, Value.null, Value.null, Value.int 0, Value.null, Value.null, Value.null, Value.null, Value.int 0, Value.null, Value.null, Value.null, Value.int 0, Value.null, Value.null, Value.null, Value.null, Value.null, Value.null, Value.int 0]))] U.heap ∧ KM E U
def BI1 (E : ME) (sz : Nat) (a : Nat → Nat) (t : State) : Prop := okM (me_D E, me_I E, me_Z E, a) mJ0 t.heap ∧ mInj (me_D E, me_I E, me_Z E, a) ∧ ∀ k ∈ mKeys, sz ≤ a k
section ME
variable {E : ME} {a54 q0 q1 q2 q3 q4 q5 q6 q7 q8 q9 q10 q11 q12 q13 q14 q15 q16 q17 q18 q19 q20 q21 q22 q23 q24 q25 q26 q27 q28 q29 q30 q31 q32 : Nat}
theorem fE_0 : mFld (mAdr a54 [q0, q1, q2, q3, q4, q5, q6, q7, q8, q9, q10, q11, q12, q13, q14, q15, q16, q17, q18, q19, q20, q21, q22, q23, q24, q25, q26, q27, q28, q29, q30, q31, q32]) mJ0 0 = Value.int 0 := mFld_s (by decide)
theorem fE_1 : mFld (mAdr a54 [q0, q1, q2, q3, q4, q5, q6, q7, q8, q9, q10, q11, q12, q13, q14, q15, q16, q17, q18, q19, q20, q21, q22, q23, q24, q25, q26, q27, q28, q29, q30, q31, q32]) mJ0 1 = Value.int 0 := mFld_s (by decide)
theorem fE_2 : mFld (mAdr a54 [q0, q1, q2, q3, q4, q5, q6, q7, q8, q9, q10, q11, q12, q13, q14, q15, q16, q17, q18, q19, q20, q21, q22, q23, q24, q25, q26, q27, q28, q29, q30, q31, q32]) mJ0 2 = Value.ref q0 := mFld_a (by decide)
theorem fE_3 : mFld (mAdr a54 [q0, q1, q2, q3, q4, q5, q6, q7, q8, q9, q10, q11, q12, q13, q14, q15, q16, q17, q18, q19, q20, q21, q22, q23, q24, q25, q26, q27, q28, q29, q30, q31, q32]) mJ0 3 = Value.ref q1 := mFld_a (by decide)
theorem fE_4 : mFld (mAdr a54 [q0, q1, q2, q3, q4, q5, q6, q7, q8, q9, q10, q11, q12, q13, q14, q15, q16, q17, q18, q19, q20, q21, q22, q23, q24, q25, q26, q27, q28, q29, q30, q31, q32]) mJ0 4 = Value.ref q2 := mFld_a (by decide)
theorem fE_5 : mFld (mAdr a54 [q0, q1, q2, q3, q4, q5, q6, q7, q8, q9, q10, q11, q12, q13, q14, q15, q16, q17, q18, q19, q20, q21, q22, q23, q24, q25, q26, q27, q28, q29, q30, q31, q32]) mJ0 5 = Value.ref q3 := mFld_a (by decide)
theorem fE_6 : mFld (mAdr a54 [q0, q1, q2, q3, q4, q5, q6, q7, q8, q9, q10, q11, q12, q13, q14, q15, q16, q17, q18, q19, q20, q21, q22, q23, q24, q25, q26, q27, q28, q29, q30, q31, q32]) mJ0 6 = Value.ref q4 := mFld_a (by decide)
theorem fE_7 : mFld (mAdr a54 [q0, q1, q2, q3, q4, q5, q6, q7, q8, q9, q10, q11, q12, q13, q14, q15, q16, q17, q18, q19, q20, q21, q22, q23, q24, q25, q26, q27, q28, q29, q30, q31, q32]) mJ0 7 = Value.ref q5 := mFld_a (by decide)
theorem fE_8 : mFld (mAdr a54 [q0, q1, q2, q3, q4, q5, q6, q7, q8, q9, q10, q11, q12, q13, q14, q15, q16, q17, q18, q19, q20, q21, q22, q23, q24, q25, q26, q27, q28, q29, q30, q31, q32]) mJ0 8 = Value.ref q6 := mFld_a (by decide)
theorem fE_9 : mFld (mAdr a54 [q0, q1, q2, q3, q4, q5, q6, q7, q8, q9, q10, q11, q12, q13, q14, q15, q16, q17, q18, q19, q20, q21, q22, q23, q24, q25, q26, q27, q28, q29, q30, q31, q32]) mJ0 9 = Value.ref q7 := mFld_a (by decide)
theorem fE_10 : mFld (mAdr a54 [q0, q1, q2, q3, q4, q5, q6, q7, q8, q9, q10, q11, q12, q13, q14, q15, q16, q17, q18, q19, q20, q21, q22, q23, q24, q25, q26, q27, q28, q29, q30, q31, q32]) mJ0 10 = Value.ref q8 := mFld_a (by decide)
theorem fE_11 : mFld (mAdr a54 [q0, q1, q2, q3, q4, q5, q6, q7, q8, q9, q10, q11, q12, q13, q14, q15, q16, q17, q18, q19, q20, q21, q22, q23, q24, q25, q26, q27, q28, q29, q30, q31, q32]) mJ0 11 = Value.ref q9 := mFld_a (by decide)
theorem fE_12 : mFld (mAdr a54 [q0, q1, q2, q3, q4, q5, q6, q7, q8, q9, q10, q11, q12, q13, q14, q15, q16, q17, q18, q19, q20, q21, q22, q23, q24, q25, q26, q27, q28, q29, q30, q31, q32]) mJ0 12 = Value.ref q10 := mFld_a (by decide)
theorem fE_13 : mFld (mAdr a54 [q0, q1, q2, q3, q4, q5, q6, q7, q8, q9, q10, q11, q12, q13, q14, q15, q16, q17, q18, q19, q20, q21, q22, q23, q24, q25, q26, q27, q28, q29, q30, q31, q32]) mJ0 13 = Value.int 0 := mFld_s (by decide)
theorem fE_14 : mFld (mAdr a54 [q0, q1, q2, q3, q4, q5, q6, q7, q8, q9, q10, q11, q12, q13, q14, q15, q16, q17, q18, q19, q20, q21, q22, q23, q24, q25, q26, q27, q28, q29, q30, q31, q32]) mJ0 14 = Value.int 0 := mFld_s (by decide)
theorem fE_15 : mFld (mAdr a54 [q0, q1, q2, q3, q4, q5, q6, q7, q8, q9, q10, q11, q12, q13, q14, q15, q16, q17, q18, q19, q20, q21, q22, q23, q24, q25, q26, q27, q28, q29, q30, q31, q32]) mJ0 15 = Value.int 0 := mFld_s (by decide)
theorem fE_16 : mFld (mAdr a54 [q0, q1, q2, q3, q4, q5, q6, q7, q8, q9, q10, q11, q12, q13, q14, q15, q16, q17, q18, q19, q20, q21, q22, q23, q24, q25, q26, q27, q28, q29, q30, q31, q32]) mJ0 16 = Value.int 0 := mFld_s (by decide)
theorem fE_17 : mFld (mAdr a54 [q0, q1, q2, q3, q4, q5, q6, q7, q8, q9, q10, q11, q12, q13, q14, q15, q16, q17, q18, q19, q20, q21, q22, q23, q24, q25, q26, q27, q28, q29, q30, q31, q32]) mJ0 17 = Value.int 0 := mFld_s (by decide)
theorem fE_18 : mFld (mAdr a54 [q0, q1, q2, q3, q4, q5, q6, q7, q8, q9, q10, q11, q12, q13, q14, q15, q16, q17, q18, q19, q20, q21, q22, q23, q24, q25, q26, q27, q28, q29, q30, q31, q32]) mJ0 18 = Value.int 0 := mFld_s (by decide)
theorem fE_19 : mFld (mAdr a54 [q0, q1, q2, q3, q4, q5, q6, q7, q8, q9, q10, q11, q12, q13, q14, q15, q16, q17, q18, q19, q20, q21, q22, q23, q24, q25, q26, q27, q28, q29, q30, q31, q32]) mJ0 19 = Value.int 0 := mFld_s (by decide)
theorem fE_20 : mFld (mAdr a54 [q0, q1, q2, q3, q4, q5, q6, q7, q8, q9, q10, q11, q12, q13, q14, q15, q16, q17, q18, q19, q20, q21, q22, q23, q24, q25, q26, q27, q28, q29, q30, q31, q32]) mJ0 20 = Value.int 0 := mFld_s (by decide)
theorem fE_21 : mFld (mAdr a54 [q0, q1, q2, q3, q4, q5, q6, q7, q8, q9, q10, q11, q12, q13, q14, q15, q16, q17, q18, q19, q20, q21, q22, q23, q24, q25, q26, q27, q28, q29, q30, q31, q32]) mJ0 21 = Value.int 0 := mFld_s (by decide)
theorem fE_22 : mFld (mAdr a54 [q0, q1, q2, q3, q4, q5, q6, q7, q8, q9, q10, q11, q12, q13, q14, q15, q16, q17, q18, q19, q20, q21, q22, q23, q24, q25, q26, q27, q28, q29, q30, q31, q32]) mJ0 22 = Value.int 0 := mFld_s (by decide)
theorem fE_23 : mFld (mAdr a54 [q0, q1, q2, q3, q4, q5, q6, q7, q8, q9, q10, q11, q12, q13, q14, q15, q16, q17, q18, q19, q20, q21, q22, q23, q24, q25, q26, q27, q28, q29, q30, q31, q32]) mJ0 23 = Value.int 0 := mFld_s (by decide)
theorem fE_24 : mFld (mAdr a54 [q0, q1, q2, q3, q4, q5, q6, q7, q8, q9, q10, q11, q12, q13, q14, q15, q16, q17, q18, q19, q20, q21, q22, q23, q24, q25, q26, q27, q28, q29, q30, q31, q32]) mJ0 24 = Value.int 0 := mFld_s (by decide)
theorem fE_25 : mFld (mAdr a54 [q0, q1, q2, q3, q4, q5, q6, q7, q8, q9, q10, q11, q12, q13, q14, q15, q16, q17, q18, q19, q20, q21, q22, q23, q24, q25, q26, q27, q28, q29, q30, q31, q32]) mJ0 25 = Value.ref q11 := mFld_a (by decide)
theorem fE_26 : mFld (mAdr a54 [q0, q1, q2, q3, q4, q5, q6, q7, q8, q9, q10, q11, q12, q13, q14, q15, q16, q17, q18, q19, q20, q21, q22, q23, q24, q25, q26, q27, q28, q29, q30, q31, q32]) mJ0 26 = Value.ref q12 := mFld_a (by decide)
theorem fE_27 : mFld (mAdr a54 [q0, q1, q2, q3, q4, q5, q6, q7, q8, q9, q10, q11, q12, q13, q14, q15, q16, q17, q18, q19, q20, q21, q22, q23, q24, q25, q26, q27, q28, q29, q30, q31, q32]) mJ0 27 = Value.int 0 := mFld_s (by decide)
theorem fE_28 : mFld (mAdr a54 [q0, q1, q2, q3, q4, q5, q6, q7, q8, q9, q10, q11, q12, q13, q14, q15, q16, q17, q18, q19, q20, q21, q22, q23, q24, q25, q26, q27, q28, q29, q30, q31, q32]) mJ0 28 = Value.ref q13 := mFld_a (by decide)
theorem fE_29 : mFld (mAdr a54 [q0, q1, q2, q3, q4, q5, q6, q7, q8, q9, q10, q11, q12, q13, q14, q15, q16, q17, q18, q19, q20, q21, q22, q23, q24, q25, q26, q27, q28, q29, q30, q31, q32]) mJ0 29 = Value.ref q14 := mFld_a (by decide)
theorem fE_30 : mFld (mAdr a54 [q0, q1, q2, q3, q4, q5, q6, q7, q8, q9, q10, q11, q12, q13, q14, q15, q16, q17, q18, q19, q20, q21, q22, q23, q24, q25, q26, q27, q28, q29, q30, q31, q32]) mJ0 30 = Value.ref q15 := mFld_a (by decide)
theorem fE_31 : mFld (mAdr a54 [q0, q1, q2, q3, q4, q5, q6, q7, q8, q9, q10, q11, q12, q13, q14, q15, q16, q17, q18, q19, q20, q21, q22, q23, q24, q25, q26, q27, q28, q29, q30, q31, q32]) mJ0 31 = Value.ref q16 := mFld_a (by decide)
theorem fE_32 : mFld (mAdr a54 [q0, q1, q2, q3, q4, q5, q6, q7, q8, q9, q10, q11, q12, q13, q14, q15, q16, q17, q18, q19, q20, q21, q22, q23, q24, q25, q26, q27, q28, q29, q30, q31, q32]) mJ0 32 = Value.int 0 := mFld_s (by decide)
theorem fE_33 : mFld (mAdr a54 [q0, q1, q2, q3, q4, q5, q6, q7, q8, q9, q10, q11, q12, q13, q14, q15, q16, q17, q18, q19, q20, q21, q22, q23, q24, q25, q26, q27, q28, q29, q30, q31, q32]) mJ0 33 = Value.int 0 := mFld_s (by decide)
theorem fE_34 : mFld (mAdr a54 [q0, q1, q2, q3, q4, q5, q6, q7, q8, q9, q10, q11, q12, q13, q14, q15, q16, q17, q18, q19, q20, q21, q22, q23, q24, q25, q26, q27, q28, q29, q30, q31, q32]) mJ0 34 = Value.ref q17 := mFld_a (by decide)
theorem fE_35 : mFld (mAdr a54 [q0, q1, q2, q3, q4, q5, q6, q7, q8, q9, q10, q11, q12, q13, q14, q15, q16, q17, q18, q19, q20, q21, q22, q23, q24, q25, q26, q27, q28, q29, q30, q31, q32]) mJ0 35 = Value.ref q18 := mFld_a (by decide)
theorem fE_36 : mFld (mAdr a54 [q0, q1, q2, q3, q4, q5, q6, q7, q8, q9, q10, q11, q12, q13, q14, q15, q16, q17, q18, q19, q20, q21, q22, q23, q24, q25, q26, q27, q28, q29, q30, q31, q32]) mJ0 36 = Value.ref q19 := mFld_a (by decide)
theorem fE_37 : mFld (mAdr a54 [q0, q1, q2, q3, q4, q5, q6, q7, q8, q9, q10, q11, q12, q13, q14, q15, q16, q17, q18, q19, q20, q21, q22, q23, q24, q25, q26, q27, q28, q29, q30, q31, q32]) mJ0 37 = Value.int 0 := mFld_s (by decide)
theorem fE_38 : mFld (mAdr a54 [q0, q1, q2, q3, q4, q5, q6, q7, q8, q9, q10, q11, q12, q13, q14, q15, q16, q17, q18, q19, q20, q21, q22, q23, q24, q25, q26, q27, q28, q29, q30, q31, q32]) mJ0 38 = Value.ref q20 := mFld_a (by decide)
theorem fE_39 : mFld (mAdr a54 [q0, q1, q2, q3, q4, q5, q6, q7, q8, q9, q10, q11, q12, q13, q14, q15, q16, q17, q18, q19, q20, q21, q22, q23, q24, q25, q26, q27, q28, q29, q30, q31, q32]) mJ0 39 = Value.ref q21 := mFld_a (by decide)
theorem fE_40 : mFld (mAdr a54 [q0, q1, q2, q3, q4, q5, q6, q7, q8, q9, q10, q11, q12, q13, q14, q15, q16, q17, q18, q19, q20, q21, q22, q23, q24, q25, q26, q27, q28, q29, q30, q31, q32]) mJ0 40 = Value.ref q22 := mFld_a (by decide)
theorem fE_41 : mFld (mAdr a54 [q0, q1, q2, q3, q4, q5, q6, q7, q8, q9, q10, q11, q12, q13, q14, q15, q16, q17, q18, q19, q20, q21, q22, q23, q24, q25, q26, q27, q28, q29, q30, q31, q32]) mJ0 41 = Value.ref q23 := mFld_a (by decide)
theorem fE_42 : mFld (mAdr a54 [q0, q1, q2, q3, q4, q5, q6, q7, q8, q9, q10, q11, q12, q13, q14, q15, q16, q17, q18, q19, q20, q21, q22, q23, q24, q25, q26, q27, q28, q29, q30, q31, q32]) mJ0 42 = Value.int 0 := mFld_s (by decide)
theorem fE_43 : mFld (mAdr a54 [q0, q1, q2, q3, q4, q5, q6, q7, q8, q9, q10, q11, q12, q13, q14, q15, q16, q17, q18, q19, q20, q21, q22, q23, q24, q25, q26, q27, q28, q29, q30, q31, q32]) mJ0 43 = Value.ref q24 := mFld_a (by decide)
theorem fE_44 : mFld (mAdr a54 [q0, q1, q2, q3, q4, q5, q6, q7, q8, q9, q10, q11, q12, q13, q14, q15, q16, q17, q18, q19, q20, q21, q22, q23, q24, q25, q26, q27, q28, q29, q30, q31, q32]) mJ0 44 = Value.ref q25 := mFld_a (by decide)
theorem fE_45 : mFld (mAdr a54 [q0, q1, q2, q3, q4, q5, q6, q7, q8, q9, q10, q11, q12, q13, q14, q15, q16, q17, q18, q19, q20, q21, q22, q23, q24, q25, q26, q27, q28, q29, q30, q31, q32]) mJ0 45 = Value.ref q26 := mFld_a (by decide)
theorem fE_46 : mFld (mAdr a54 [q0, q1, q2, q3, q4, q5, q6, q7, q8, q9, q10, q11, q12, q13, q14, q15, q16, q17, q18, q19, q20, q21, q22, q23, q24, q25, q26, q27, q28, q29, q30, q31, q32]) mJ0 46 = Value.int 0 := mFld_s (by decide)
theorem fE_47 : mFld (mAdr a54 [q0, q1, q2, q3, q4, q5, q6, q7, q8, q9, q10, q11, q12, q13, q14, q15, q16, q17, q18, q19, q20, q21, q22, q23, q24, q25, q26, q27, q28, q29, q30, q31, q32]) mJ0 47 = Value.ref q27 := mFld_a (by decide)
theorem fE_48 : mFld (mAdr a54 [q0, q1, q2, q3, q4, q5, q6, q7, q8, q9, q10, q11, q12, q13, q14, q15, q16, q17, q18, q19, q20, q21, q22, q23, q24, q25, q26, q27, q28, q29, q30, q31, q32]) mJ0 48 = Value.ref q28 := mFld_a (by decide)
theorem fE_49 : mFld (mAdr a54 [q0, q1, q2, q3, q4, q5, q6, q7, q8, q9, q10, q11, q12, q13, q14, q15, q16, q17, q18, q19, q20, q21, q22, q23, q24, q25, q26, q27, q28, q29, q30, q31, q32]) mJ0 49 = Value.ref q29 := mFld_a (by decide)
theorem fE_50 : mFld (mAdr a54 [q0, q1, q2, q3, q4, q5, q6, q7, q8, q9, q10, q11, q12, q13, q14, q15, q16, q17, q18, q19, q20, q21, q22, q23, q24, q25, q26, q27, q28, q29, q30, q31, q32]) mJ0 50 = Value.ref q30 := mFld_a (by decide)
theorem fE_51 : mFld (mAdr a54 [q0, q1, q2, q3, q4, q5, q6, q7, q8, q9, q10, q11, q12, q13, q14, q15, q16, q17, q18, q19, q20, q21, q22, q23, q24, q25, q26, q27, q28, q29, q30, q31, q32]) mJ0 51 = Value.ref q31 := mFld_a (by decide)
theorem fE_52 : mFld (mAdr a54 [q0, q1, q2, q3, q4, q5, q6, q7, q8, q9, q10, q11, q12, q13, q14, q15, q16, q17, q18, q19, q20, q21, q22, q23, q24, q25, q26, q27, q28, q29, q30, q31, q32]) mJ0 52 = Value.ref q32 := mFld_a (by decide)
theorem fE_53 : mFld (mAdr a54 [q0, q1, q2, q3, q4, q5, q6, q7, q8, q9, q10, q11, q12, q13, q14, q15, q16, q17, q18, q19, q20, q21, q22, q23, q24, q25, q26, q27, q28, q29, q30, q31, q32]) mJ0 53 = Value.int 0 := mFld_s (by decide)
theorem cE_2 : mCell (me_D E, me_I E, me_Z E, mAdr a54 [q0, q1, q2, q3, q4, q5, q6, q7, q8, q9, q10, q11, q12, q13, q14, q15, q16, q17, q18, q19, q20, q21, q22, q23, q24, q25, q26, q27, q28, q29, q30, q31, q32]) mJ0 2 = cI E q0 4 fI_2 := rfl
theorem cE_3 : mCell (me_D E, me_I E, me_Z E, mAdr a54 [q0, q1, q2, q3, q4, q5, q6, q7, q8, q9, q10, q11, q12, q13, q14, q15, q16, q17, q18, q19, q20, q21, q22, q23, q24, q25, q26, q27, q28, q29, q30, q31, q32]) mJ0 3 = cI E q1 4 fI_3 := rfl
theorem cE_4 : mCell (me_D E, me_I E, me_Z E, mAdr a54 [q0, q1, q2, q3, q4, q5, q6, q7, q8, q9, q10, q11, q12, q13, q14, q15, q16, q17, q18, q19, q20, q21, q22, q23, q24, q25, q26, q27, q28, q29, q30, q31, q32]) mJ0 4 = cI E q2 4 fI_4 := rfl
theorem cE_5 : mCell (me_D E, me_I E, me_Z E, mAdr a54 [q0, q1, q2, q3, q4, q5, q6, q7, q8, q9, q10, q11, q12, q13, q14, q15, q16, q17, q18, q19, q20, q21, q22, q23, q24, q25, q26, q27, q28, q29, q30, q31, q32]) mJ0 5 = cI E q3 4 fI_5 := rfl
theorem cE_6 : mCell (me_D E, me_I E, me_Z E, mAdr a54 [q0, q1, q2, q3, q4, q5, q6, q7, q8, q9, q10, q11, q12, q13, q14, q15, q16, q17, q18, q19, q20, q21, q22, q23, q24, q25, q26, q27, q28, q29, q30, q31, q32]) mJ0 6 = cI E q4 8 fI_6 := rfl
theorem cE_7 : mCell (me_D E, me_I E, me_Z E, mAdr a54 [q0, q1, q2, q3, q4, q5, q6, q7, q8, q9, q10, q11, q12, q13, q14, q15, q16, q17, q18, q19, q20, q21, q22, q23, q24, q25, q26, q27, q28, q29, q30, q31, q32]) mJ0 7 = cI E q5 20 fI_7 := rfl
theorem cE_8 : mCell (me_D E, me_I E, me_Z E, mAdr a54 [q0, q1, q2, q3, q4, q5, q6, q7, q8, q9, q10, q11, q12, q13, q14, q15, q16, q17, q18, q19, q20, q21, q22, q23, q24, q25, q26, q27, q28, q29, q30, q31, q32]) mJ0 8 = cI E q6 20 fI_8 := rfl
theorem cE_9 : mCell (me_D E, me_I E, me_Z E, mAdr a54 [q0, q1, q2, q3, q4, q5, q6, q7, q8, q9, q10, q11, q12, q13, q14, q15, q16, q17, q18, q19, q20, q21, q22, q23, q24, q25, q26, q27, q28, q29, q30, q31, q32]) mJ0 9 = cI E q7 8 fI_9 := rfl
theorem cE_10 : mCell (me_D E, me_I E, me_Z E, mAdr a54 [q0, q1, q2, q3, q4, q5, q6, q7, q8, q9, q10, q11, q12, q13, q14, q15, q16, q17, q18, q19, q20, q21, q22, q23, q24, q25, q26, q27, q28, q29, q30, q31, q32]) mJ0 10 = cI E q8 8 fI_10 := rfl
theorem cE_11 : mCell (me_D E, me_I E, me_Z E, mAdr a54 [q0, q1, q2, q3, q4, q5, q6, q7, q8, q9, q10, q11, q12, q13, q14, q15, q16, q17, q18, q19, q20, q21, q22, q23, q24, q25, q26, q27, q28, q29, q30, q31, q32]) mJ0 11 = cI E q9 480 fI_11 := rfl
theorem cE_12 : mCell (me_D E, me_I E, me_Z E, mAdr a54 [q0, q1, q2, q3, q4, q5, q6, q7, q8, q9, q10, q11, q12, q13, q14, q15, q16, q17, q18, q19, q20, q21, q22, q23, q24, q25, q26, q27, q28, q29, q30, q31, q32]) mJ0 12 = cI E q10 400 fI_12 := rfl
theorem cE_25 : mCell (me_D E, me_I E, me_Z E, mAdr a54 [q0, q1, q2, q3, q4, q5, q6, q7, q8, q9, q10, q11, q12, q13, q14, q15, q16, q17, q18, q19, q20, q21, q22, q23, q24, q25, q26, q27, q28, q29, q30, q31, q32]) mJ0 25 = cI E q11 144 fI_25 := rfl
theorem cE_26 : mCell (me_D E, me_I E, me_Z E, mAdr a54 [q0, q1, q2, q3, q4, q5, q6, q7, q8, q9, q10, q11, q12, q13, q14, q15, q16, q17, q18, q19, q20, q21, q22, q23, q24, q25, q26, q27, q28, q29, q30, q31, q32]) mJ0 26 = cI E q12 16 fI_26 := rfl
theorem cE_28 : mCell (me_D E, me_I E, me_Z E, mAdr a54 [q0, q1, q2, q3, q4, q5, q6, q7, q8, q9, q10, q11, q12, q13, q14, q15, q16, q17, q18, q19, q20, q21, q22, q23, q24, q25, q26, q27, q28, q29, q30, q31, q32]) mJ0 28 = cZ E q13 65536 fI_28 := rfl
theorem cE_29 : mCell (me_D E, me_I E, me_Z E, mAdr a54 [q0, q1, q2, q3, q4, q5, q6, q7, q8, q9, q10, q11, q12, q13, q14, q15, q16, q17, q18, q19, q20, q21, q22, q23, q24, q25, q26, q27, q28, q29, q30, q31, q32]) mJ0 29 = cI E q14 65536 fI_29 := rfl
theorem cE_30 : mCell (me_D E, me_I E, me_Z E, mAdr a54 [q0, q1, q2, q3, q4, q5, q6, q7, q8, q9, q10, q11, q12, q13, q14, q15, q16, q17, q18, q19, q20, q21, q22, q23, q24, q25, q26, q27, q28, q29, q30, q31, q32]) mJ0 30 = cI E q15 16 fI_30 := rfl
theorem cE_31 : mCell (me_D E, me_I E, me_Z E, mAdr a54 [q0, q1, q2, q3, q4, q5, q6, q7, q8, q9, q10, q11, q12, q13, q14, q15, q16, q17, q18, q19, q20, q21, q22, q23, q24, q25, q26, q27, q28, q29, q30, q31, q32]) mJ0 31 = cI E q16 16 fI_31 := rfl
theorem cE_34 : mCell (me_D E, me_I E, me_Z E, mAdr a54 [q0, q1, q2, q3, q4, q5, q6, q7, q8, q9, q10, q11, q12, q13, q14, q15, q16, q17, q18, q19, q20, q21, q22, q23, q24, q25, q26, q27, q28, q29, q30, q31, q32]) mJ0 34 = cI E q17 40 fI_34 := rfl
theorem cE_35 : mCell (me_D E, me_I E, me_Z E, mAdr a54 [q0, q1, q2, q3, q4, q5, q6, q7, q8, q9, q10, q11, q12, q13, q14, q15, q16, q17, q18, q19, q20, q21, q22, q23, q24, q25, q26, q27, q28, q29, q30, q31, q32]) mJ0 35 = cI E q18 40 fI_35 := rfl
theorem cE_36 : mCell (me_D E, me_I E, me_Z E, mAdr a54 [q0, q1, q2, q3, q4, q5, q6, q7, q8, q9, q10, q11, q12, q13, q14, q15, q16, q17, q18, q19, q20, q21, q22, q23, q24, q25, q26, q27, q28, q29, q30, q31, q32]) mJ0 36 = cI E q19 40 fI_36 := rfl
theorem cE_38 : mCell (me_D E, me_I E, me_Z E, mAdr a54 [q0, q1, q2, q3, q4, q5, q6, q7, q8, q9, q10, q11, q12, q13, q14, q15, q16, q17, q18, q19, q20, q21, q22, q23, q24, q25, q26, q27, q28, q29, q30, q31, q32]) mJ0 38 = cI E q20 40 fI_38 := rfl
theorem cE_39 : mCell (me_D E, me_I E, me_Z E, mAdr a54 [q0, q1, q2, q3, q4, q5, q6, q7, q8, q9, q10, q11, q12, q13, q14, q15, q16, q17, q18, q19, q20, q21, q22, q23, q24, q25, q26, q27, q28, q29, q30, q31, q32]) mJ0 39 = cI E q21 40 fI_39 := rfl
theorem cE_40 : mCell (me_D E, me_I E, me_Z E, mAdr a54 [q0, q1, q2, q3, q4, q5, q6, q7, q8, q9, q10, q11, q12, q13, q14, q15, q16, q17, q18, q19, q20, q21, q22, q23, q24, q25, q26, q27, q28, q29, q30, q31, q32]) mJ0 40 = cI E q22 40 fI_40 := rfl
theorem cE_41 : mCell (me_D E, me_I E, me_Z E, mAdr a54 [q0, q1, q2, q3, q4, q5, q6, q7, q8, q9, q10, q11, q12, q13, q14, q15, q16, q17, q18, q19, q20, q21, q22, q23, q24, q25, q26, q27, q28, q29, q30, q31, q32]) mJ0 41 = cI E q23 40 fI_41 := rfl
theorem cE_43 : mCell (me_D E, me_I E, me_Z E, mAdr a54 [q0, q1, q2, q3, q4, q5, q6, q7, q8, q9, q10, q11, q12, q13, q14, q15, q16, q17, q18, q19, q20, q21, q22, q23, q24, q25, q26, q27, q28, q29, q30, q31, q32]) mJ0 43 = cI E q24 40 fI_43 := rfl
theorem cE_44 : mCell (me_D E, me_I E, me_Z E, mAdr a54 [q0, q1, q2, q3, q4, q5, q6, q7, q8, q9, q10, q11, q12, q13, q14, q15, q16, q17, q18, q19, q20, q21, q22, q23, q24, q25, q26, q27, q28, q29, q30, q31, q32]) mJ0 44 = cI E q25 40 fI_44 := rfl
theorem cE_45 : mCell (me_D E, me_I E, me_Z E, mAdr a54 [q0, q1, q2, q3, q4, q5, q6, q7, q8, q9, q10, q11, q12, q13, q14, q15, q16, q17, q18, q19, q20, q21, q22, q23, q24, q25, q26, q27, q28, q29, q30, q31, q32]) mJ0 45 = cI E q26 40 fI_45 := rfl
theorem cE_47 : mCell (me_D E, me_I E, me_Z E, mAdr a54 [q0, q1, q2, q3, q4, q5, q6, q7, q8, q9, q10, q11, q12, q13, q14, q15, q16, q17, q18, q19, q20, q21, q22, q23, q24, q25, q26, q27, q28, q29, q30, q31, q32]) mJ0 47 = cI E q27 10 fI_47 := rfl
theorem cE_48 : mCell (me_D E, me_I E, me_Z E, mAdr a54 [q0, q1, q2, q3, q4, q5, q6, q7, q8, q9, q10, q11, q12, q13, q14, q15, q16, q17, q18, q19, q20, q21, q22, q23, q24, q25, q26, q27, q28, q29, q30, q31, q32]) mJ0 48 = cI E q28 10 fI_48 := rfl
theorem cE_49 : mCell (me_D E, me_I E, me_Z E, mAdr a54 [q0, q1, q2, q3, q4, q5, q6, q7, q8, q9, q10, q11, q12, q13, q14, q15, q16, q17, q18, q19, q20, q21, q22, q23, q24, q25, q26, q27, q28, q29, q30, q31, q32]) mJ0 49 = cI E q29 10 fI_49 := rfl
theorem cE_50 : mCell (me_D E, me_I E, me_Z E, mAdr a54 [q0, q1, q2, q3, q4, q5, q6, q7, q8, q9, q10, q11, q12, q13, q14, q15, q16, q17, q18, q19, q20, q21, q22, q23, q24, q25, q26, q27, q28, q29, q30, q31, q32]) mJ0 50 = cI E q30 10 fI_50 := rfl
theorem cE_51 : mCell (me_D E, me_I E, me_Z E, mAdr a54 [q0, q1, q2, q3, q4, q5, q6, q7, q8, q9, q10, q11, q12, q13, q14, q15, q16, q17, q18, q19, q20, q21, q22, q23, q24, q25, q26, q27, q28, q29, q30, q31, q32]) mJ0 51 = cI E q31 10 fI_51 := rfl
theorem cE_52 : mCell (me_D E, me_I E, me_Z E, mAdr a54 [q0, q1, q2, q3, q4, q5, q6, q7, q8, q9, q10, q11, q12, q13, q14, q15, q16, q17, q18, q19, q20, q21, q22, q23, q24, q25, q26, q27, q28, q29, q30, q31, q32]) mJ0 52 = cI E q32 16 fI_52 := rfl
theorem mI_end : mWs (me_D E, me_I E, me_Z E, mAdr a54 [q0, q1, q2, q3, q4, q5, q6, q7, q8, q9, q10, q11, q12, q13, q14, q15, q16, q17, q18, q19, q20, q21, q22, q23, q24, q25, q26, q27, q28, q29, q30, q31, q32]) mJ0 = wI a54 ([Value.int 0, Value.int 0, Value.ref q0, Value.ref q1, Value.ref q2, Value.ref q3, Value.ref q4, Value.ref q5, Value.ref q6, Value.ref q7, Value.ref q8, Value.ref q9, Value.ref q10, Value.int 0, Value.int 0, Value.int 0, Value.int 0, Value.int 0, Value.int 0, Value.int 0, Value.int 0, Value.int 0, Value.int 0, Value.int 0, Value.int 0, Value.ref q11, Value.ref q12, Value.int 0, Value.ref q13, Value.ref q14, Value.ref q15, Value.ref q16, Value.int 0, Value.int 0, Value.ref q17, Value.ref q18, Value.ref q19, Value.int 0, Value.ref q20, Value.ref q21, Value.ref q22, Value.ref q23, Value.int 0, Value.ref q24, Value.ref q25, Value.ref q26, Value.int 0, Value.ref q27, Value.ref q28, Value.ref q29, Value.ref q30, Value.ref q31, Value.ref q32, Value.int 0], [cI E q0 4 fI_2, cI E q1 4 fI_3, cI E q2 4 fI_4, cI E q3 4 fI_5, cI E q4 8 fI_6, cI E q5 20 fI_7, cI E q6 20 fI_8, cI E q7 8 fI_9, cI E q8 8 fI_10, cI E q9 480 fI_11, cI E q10 400 fI_12, cI E q11 144 fI_25, cI E q12 16 fI_26, cZ E q13 65536 fI_28, cI E q14 65536 fI_29, cI E q15 16 fI_30, cI E q16 16 fI_31, cI E q17 40 fI_34, cI E q18 40 fI_35, cI E q19 40 fI_36, cI E q20 40 fI_38, cI E q21 40 fI_39, cI E q22 40 fI_40, cI E q23 40 fI_41, cI E q24 40 fI_43, cI E q25 40 fI_44, cI E q26 40 fI_45, cI E q27 10 fI_47, cI E q28 10 fI_48, cI E q29 10 fI_49, cI E q30 10 fI_50, cI E q31 10 fI_51, cI E q32 16 fI_52]) := by
  unfold mWs wI
  rw [range54, keys33]
  show ((a54, Sum.inr (0, [mFld (mAdr a54 [q0, q1, q2, q3, q4, q5, q6, q7, q8, q9, q10, q11, q12, q13, q14, q15, q16, q17, q18, q19, q20, q21, q22, q23, q24, q25, q26, q27, q28, q29, q30, q31, q32]) mJ0 0, mFld (mAdr a54 [q0, q1, q2, q3, q4, q5, q6, q7, q8, q9, q10, q11, q12, q13, q14, q15, q16, q17, q18, q19, q20, q21, q22, q23, q24, q25, q26, q27, q28, q29, q30, q31, q32]) mJ0 1, mFld (mAdr a54 [q0, q1, q2, q3, q4, q5, q6, q7, q8, q9, q10, q11, q12, q13, q14, q15, q16, q17, q18, q19, q20, q21, q22, q23, q24, q25, q26, q27, q28, q29, q30, q31, q32]) mJ0 2, mFld (mAdr a54 [q0, q1, q2, q3, q4, q5, q6, q7, q8, q9, q10, q11, q12, q13, q14, q15, q16, q17, q18, q19, q20, q21, q22, q23, q24, q25, q26, q27, q28, q29, q30, q31, q32]) mJ0 3, mFld (mAdr a54 [q0, q1, q2, q3, q4, q5, q6, q7, q8, q9, q10, q11, q12, q13, q14, q15, q16, q17, q18, q19, q20, q21, q22, q23, q24, q25, q26, q27, q28, q29, q30, q31, q32]) mJ0 4, mFld (mAdr a54 [q0, q1, q2, q3, q4, q5, q6, q7, q8, q9, q10, q11, q12, q13, q14, q15, q16, q17, q18, q19, q20, q21, q22, q23, q24, q25, q26, q27, q28, q29, q30, q31, q32]) mJ0 5, mFld (mAdr a54 [q0, q1, q2, q3, q4, q5, q6, q7, q8, q9, q10, q11, q12, q13, q14, q15, q16, q17, q18, q19, q20, q21, q22, q23, q24, q25, q26, q27, q28, q29, q30, q31, q32]) mJ0 6, mFld (mAdr a54 [q0, q1, q2, q3, q4, q5, q6, q7, q8, q9, q10, q11, q12, q13, q14, q15, q16, q17, q18, q19, q20, q21, q22, q23, q24, q25, q26, q27, q28, q29, q30, q31, q32]) mJ0 7, mFld (mAdr a54 [q0, q1, q2, q3, q4, q5, q6, q7, q8, q9, q10, q11, q12, q13, q14, q15, q16, q17, q18, q19, q20, q21, q22, q23, q24, q25, q26, q27, q28, q29, q30, q31, q32]) mJ0 8, mFld (mAdr a54 [q0, q1, q2, q3, q4, q5, q6, q7, q8, q9, q10, q11, q12, q13, q14, q15, q16, q17, q18, q19, q20, q21, q22, q23, q24, q25, q26, q27, q28, q29, q30, q31, q32]) mJ0 9, mFld (mAdr a54 [q0, q1, q2, q3, q4, q5, q6, q7, q8, q9, q10, q11, q12, q13, q14, q15, q16, q17, q18, q19, q20, q21, q22, q23, q24, q25, q26, q27, q28, q29, q30, q31, q32]) mJ0 10, mFld (mAdr a54 [q0, q1, q2, q3, q4, q5, q6, q7, q8, q9, q10, q11, q12, q13, q14, q15, q16, q17, q18, q19, q20, q21, q22, q23, q24, q25, q26, q27, q28, q29, q30, q31, q32]) mJ0 11, mFld (mAdr a54 [q0, q1, q2, q3, q4, q5, q6, q7, q8, q9, q10, q11, q12, q13, q14, q15, q16, q17, q18, q19, q20, q21, q22, q23, q24, q25, q26, q27, q28, q29, q30, q31, q32]) mJ0 12, mFld (mAdr a54 [q0, q1, q2, q3, q4, q5, q6, q7, q8, q9, q10, q11, q12, q13, q14, q15, q16, q17, q18, q19, q20, q21, q22, q23, q24, q25, q26, q27, q28, q29, q30, q31, q32]) mJ0 13, mFld (mAdr a54 [q0, q1, q2, q3, q4, q5, q6, q7, q8, q9, q10, q11, q12, q13, q14, q15, q16, q17, q18, q19, q20, q21, q22, q23, q24, q25, q26, q27, q28, q29, q30, q31, q32]) mJ0 14, mFld (mAdr a54 [q0, q1, q2, q3, q4, q5, q6, q7, q8, q9, q10, q11, q12, q13, q14, q15, q16, q17, q18, q19, q20, q21, q22, q23, q24, q25, q26, q27, q28, q29, q30, q31, q32]) mJ0 15, mFld (mAdr a54 [q0, q1, q2, q3, q4, q5, q6, q7, q8, q9, q10, q11, q12, q13, q14, q15, q16, q17, q18, q19, q20, q21, q22, q23, q24, q25, q26, q27, q28, q29, q30, q31, q32]) mJ0 16, mFld (mAdr a54 [q0, q1, q2, q3, q4, q5, q6, q7, q8, q9, q10, q11, q12, q13, q14, q15, q16, q17, q18, q19, q20, q21, q22, q23, q24, q25, q26, q27, q28, q29, q30, q31, q32]) mJ0 17, mFld (mAdr a54 [q0, q1, q2, q3, q4, q5, q6, q7, q8, q9, q10, q11, q12, q13, q14, q15, q16, q17, q18, q19, q20, q21, q22, q23, q24, q25, q26, q27, q28, q29, q30, q31, q32]) mJ0 18, mFld (mAdr a54 [q0, q1, q2, q3, q4, q5, q6, q7, q8, q9, q10, q11, q12, q13, q14, q15, q16, q17, q18, q19, q20, q21, q22, q23, q24, q25, q26, q27, q28, q29, q30, q31, q32]) mJ0 19, mFld (mAdr a54 [q0, q1, q2, q3, q4, q5, q6, q7, q8, q9, q10, q11, q12, q13, q14, q15, q16, q17, q18, q19, q20, q21, q22, q23, q24, q25, q26, q27, q28, q29, q30, q31, q32]) mJ0 20, mFld (mAdr a54 [q0, q1, q2, q3, q4, q5, q6, q7, q8, q9, q10, q11, q12, q13, q14, q15, q16, q17, q18, q19, q20, q21, q22, q23, q24, q25, q26, q27, q28, q29, q30, q31, q32]) mJ0 21, mFld (mAdr a54 [q0, q1, q2, q3, q4, q5, q6, q7, q8, q9, q10, q11, q12, q13, q14, q15, q16, q17, q18, q19, q20, q21, q22, q23, q24, q25, q26, q27, q28, q29, q30, q31, q32]) mJ0 22, mFld (mAdr a54 [q0, q1, q2, q3, q4, q5, q6, q7, q8, q9, q10, q11, q12, q13, q14, q15, q16, q17, q18, q19, q20, q21, q22, q23, q24, q25, q26, q27, q28, q29, q30, q31, q32]) mJ0 23, mFld (mAdr a54 [q0, q1, q2, q3, q4, q5, q6, q7, q8, q9, q10, q11, q12, q13, q14, q15, q16, q17, q18, q19, q20, q21, q22, q23, q24, q25, q26, q27, q28, q29, q30, q31, q32]) mJ0 24, mFld (mAdr a54 [q0, q1, q2, q3, q4, q5, q6, q7, q8, q9, q10, q11, q12, q13, q14, q15, q16, q17, q18, q19, q20, q21, q22, q23, q24, q25, q26, q27, q28, q29, q30, q31, q32]) mJ0 25, mFld (mAdr a54 [q0, q1, q2, q3, q4, q5, q6, q7, q8, q9, q10, q11, q12, q13, q14, q15, q16, q17, q18, q19, q20, q21, q22, q23, q24, q25, q26, q27, q28, q29, q30, q31, q32]) mJ0 26, mFld (mAdr a54 [q0, q1, q2, q3, q4, q5, q6, q7, q8, q9, q10, q11, q12, q13, q14, q15, q16, q17, q18, q19, q20, q21, q22, q23, q24, q25, q26, q27, q28, q29, q30, q31, q32]) mJ0 27, mFld (mAdr a54 [q0, q1, q2, q3, q4, q5, q6, q7, q8, q9, q10, q11, q12, q13, q14, q15, q16, q17, q18, q19, q20, q21, q22, q23, q24, q25, q26, q27, q28, q29, q30, q31, q32]) mJ0 28, mFld (mAdr a54 [q0, q1, q2, q3, q4, q5, q6, q7, q8, q9, q10, q11, q12, q13, q14, q15, q16, q17, q18, q19, q20, q21, q22, q23, q24, q25, q26, q27, q28, q29, q30, q31, q32]) mJ0 29, mFld (mAdr a54 [q0, q1, q2, q3, q4, q5, q6, q7, q8, q9, q10, q11, q12, q13, q14, q15, q16, q17, q18, q19, q20, q21, q22, q23, q24, q25, q26, q27, q28, q29, q30, q31, q32]) mJ0 30, mFld (mAdr a54 [q0, q1, q2, q3, q4, q5, q6, q7, q8, q9, q10, q11, q12, q13, q14, q15, q16, q17, q18, q19, q20, q21, q22, q23, q24, q25, q26, q27, q28, q29, q30, q31, q32]) mJ0 31, mFld (mAdr a54 [q0, q1, q2, q3, q4, q5, q6, q7, q8, q9, q10, q11, q12, q13, q14, q15, q16, q17, q18, q19, q20, q21, q22, q23, q24, q25, q26, q27, q28, q29, q30, q31, q32]) mJ0 32, mFld (mAdr a54 [q0, q1, q2, q3, q4, q5, q6, q7, q8, q9, q10, q11, q12, q13, q14, q15, q16, q17, q18, q19, q20, q21, q22, q23, q24, q25, q26, q27, q28, q29, q30, q31, q32]) mJ0 33, mFld (mAdr a54 [q0, q1, q2, q3, q4, q5, q6, q7, q8, q9, q10, q11, q12, q13, q14, q15, q16, q17, q18, q19, q20, q21, q22, q23, q24, q25, q26, q27, q28, q29, q30, q31, q32]) mJ0 34, mFld (mAdr a54 [q0, q1, q2, q3, q4, q5, q6, q7, q8, q9, q10, q11, q12, q13, q14, q15, q16, q17, q18, q19, q20, q21, q22, q23, q24, q25, q26, q27, q28, q29, q30, q31, q32]) mJ0 35, mFld (mAdr a54 [q0, q1, q2, q3, q4, q5, q6, q7, q8, q9, q10, q11, q12, q13, q14, q15, q16, q17, q18, q19, q20, q21, q22, q23, q24, q25, q26, q27, q28, q29, q30, q31, q32]) mJ0 36, mFld (mAdr a54 [q0, q1, q2, q3, q4, q5, q6, q7, q8, q9, q10, q11, q12, q13, q14, q15, q16, q17, q18, q19, q20, q21, q22, q23, q24, q25, q26, q27, q28, q29, q30, q31, q32]) mJ0 37, mFld (mAdr a54 [q0, q1, q2, q3, q4, q5, q6, q7, q8, q9, q10, q11, q12, q13, q14, q15, q16, q17, q18, q19, q20, q21, q22, q23, q24, q25, q26, q27, q28, q29, q30, q31, q32]) mJ0 38, mFld (mAdr a54 [q0, q1, q2, q3, q4, q5, q6, q7, q8, q9, q10, q11, q12, q13, q14, q15, q16, q17, q18, q19, q20, q21, q22, q23, q24, q25, q26, q27, q28, q29, q30, q31, q32]) mJ0 39, mFld (mAdr a54 [q0, q1, q2, q3, q4, q5, q6, q7, q8, q9, q10, q11, q12, q13, q14, q15, q16, q17, q18, q19, q20, q21, q22, q23, q24, q25, q26, q27, q28, q29, q30, q31, q32]) mJ0 40, mFld (mAdr a54 [q0, q1, q2, q3, q4, q5, q6, q7, q8, q9, q10, q11, q12, q13, q14, q15, q16, q17, q18, q19, q20, q21, q22, q23, q24, q25, q26, q27, q28, q29, q30, q31, q32]) mJ0 41, mFld (mAdr a54 [q0, q1, q2, q3, q4, q5, q6, q7, q8, q9, q10, q11, q12, q13, q14, q15, q16, q17, q18, q19, q20, q21, q22, q23, q24, q25, q26, q27, q28, q29, q30, q31, q32]) mJ0 42, mFld (mAdr a54 [q0, q1, q2, q3, q4, q5, q6, q7, q8, q9, q10, q11, q12, q13, q14, q15, q16, q17, q18, q19, q20, q21, q22, q23, q24, q25, q26, q27, q28, q29, q30, q31, q32]) mJ0 43, mFld (mAdr a54 [q0, q1, q2, q3, q4, q5, q6, q7, q8, q9, q10, q11, q12, q13, q14, q15, q16, q17, q18, q19, q20, q21, q22, q23, q24, q25, q26, q27, q28, q29, q30, q31, q32]) mJ0 44, mFld (mAdr a54 [q0, q1, q2, q3, q4, q5, q6, q7, q8, q9, q10, q11, q12, q13, q14, q15, q16, q17, q18, q19, q20, q21, q22, q23, q24, q25, q26, q27, q28, q29, q30, q31, q32]) mJ0 45, mFld (mAdr a54 [q0, q1, q2, q3, q4, q5, q6, q7, q8, q9, q10, q11, q12, q13, q14, q15, q16, q17, q18, q19, q20, q21, q22, q23, q24, q25, q26, q27, q28, q29, q30, q31, q32]) mJ0 46, mFld (mAdr a54 [q0, q1, q2, q3, q4, q5, q6, q7, q8, q9, q10, q11, q12, q13, q14, q15, q16, q17, q18, q19, q20, q21, q22, q23, q24, q25, q26, q27, q28, q29, q30, q31, q32]) mJ0 47, mFld (mAdr a54 [q0, q1, q2, q3, q4, q5, q6, q7, q8, q9, q10, q11, q12, q13, q14, q15, q16, q17, q18, q19, q20, q21, q22, q23, q24, q25, q26, q27, q28, q29, q30, q31, q32]) mJ0 48, mFld (mAdr a54 [q0, q1, q2, q3, q4, q5, q6, q7, q8, q9, q10, q11, q12, q13, q14, q15, q16, q17, q18, q19, q20, q21, q22, q23, q24, q25, q26, q27, q28, q29, q30, q31, q32]) mJ0 49, mFld (mAdr a54 [q0, q1, q2, q3, q4, q5, q6, q7, q8, q9, q10, q11, q12, q13, q14, q15, q16, q17, q18, q19, q20, q21, q22, q23, q24, q25, q26, q27, q28, q29, q30, q31, q32]) mJ0 50, mFld (mAdr a54 [q0, q1, q2, q3, q4, q5, q6, q7, q8, q9, q10, q11, q12, q13, q14, q15, q16, q17, q18, q19, q20, q21, q22, q23, q24, q25, q26, q27, q28, q29, q30, q31, q32]) mJ0 51, mFld (mAdr a54 [q0, q1, q2, q3, q4, q5, q6, q7, q8, q9, q10, q11, q12, q13, q14, q15, q16, q17, q18, q19, q20, q21, q22, q23, q24, q25, q26, q27, q28, q29, q30, q31, q32]) mJ0 52, mFld (mAdr a54 [q0, q1, q2, q3, q4, q5, q6, q7, q8, q9, q10, q11, q12, q13, q14, q15, q16, q17, q18, q19, q20, q21, q22, q23, q24, q25, q26, q27, q28, q29, q30, q31, q32]) mJ0 53])) :: _ : va_W) = _
  simp only [fE_0, fE_1, fE_2, fE_3, fE_4, fE_5, fE_6, fE_7, fE_8, fE_9, fE_10, fE_11, fE_12, fE_13, fE_14, fE_15, fE_16, fE_17, fE_18, fE_19, fE_20, fE_21, fE_22, fE_23, fE_24, fE_25, fE_26, fE_27, fE_28, fE_29, fE_30, fE_31, fE_32, fE_33, fE_34, fE_35, fE_36, fE_37, fE_38, fE_39, fE_40, fE_41, fE_42, fE_43, fE_44, fE_45, fE_46, fE_47, fE_48, fE_49, fE_50, fE_51, fE_52, fE_53, cE_2, cE_3, cE_4, cE_5, cE_6, cE_7, cE_8, cE_9, cE_10, cE_11, cE_12, cE_25, cE_26, cE_28, cE_29, cE_30, cE_31, cE_34, cE_35, cE_36, cE_38, cE_39, cE_40, cE_41, cE_43, cE_44, cE_45, cE_47, cE_48, cE_49, cE_50, cE_51, cE_52]
end ME
theorem mI_post {E : ME} {a54 sz : Nat} {qs : List Nat} {w : WI} {H : Heap} (h : okI E a54 (aI a54 sz) w H) (hw : mWs (me_D E, me_I E, me_Z E, mAdr a54 qs) mJ0 = wI a54 w) : okM (me_D E, me_I E, me_Z E, mAdr a54 qs) mJ0 H ∧ mInj (me_D E, me_I E, me_Z E, mAdr a54 qs) ∧ ∀ k ∈ mKeys, sz ≤ mAdr a54 qs k := by
  unfold okI at h
  rw [← hw] at h
  have hadr : ∀ (i k : Nat), (54 :: mKeys)[i]? = some k → ∃ q, (mWs (me_D E, me_I E, me_Z E, mAdr a54 qs) mJ0)[i]? = some q ∧ q.1 = mAdr a54 qs k := by
    intro i k hi
    cases i with
    | zero =>
      cases hi
      exact ⟨_, mWs_0, rfl⟩
    | succ i => exact ⟨_, mWs_k hi, rfl⟩
  have hI : mInj (me_D E, me_I E, me_Z E, mAdr a54 qs) := by
    intro i j hi hj e
    obtain ⟨x, hx⟩ := List.getElem?_of_mem hi
    obtain ⟨y, hy⟩ := List.getElem?_of_mem hj
    obtain ⟨p, hp, hp2⟩ := hadr x i hx
    obtain ⟨q, hq, hq2⟩ := hadr y j hy
    have hxy : x = y := h.2.1 x y p q hp hq (hp2.trans (e.trans hq2.symm))
    subst hxy
    exact Option.some.inj (hx.symm.trans hy)
  refine ⟨h.1, hI, fun k hk => ?_⟩
  obtain ⟨x, hx⟩ := List.getElem?_of_mem (List.mem_cons_of_mem 54 hk)
  obtain ⟨p, hp, hp2⟩ := hadr x k hx
  rcases h.2.2 x p hp with z | z
  · exfalso
    have hk54 : k = 54 := hI k 54 (List.mem_cons_of_mem _ hk) List.mem_cons_self (hp2.symm.trans z)
    subst hk54
    revert hk
    decide
  · rw [← hp2]
    exact z
set_option maxRecDepth 100000 in
set_option maxHeartbeats 4000000 in
theorem mm_init (l : Launch) (E : ME) (a54 sz : Nat) : Met l yX3_init (ws_ yX3_init cX3_init 1 none) ({ frames := 1, cells := 33, slots := 132690, locals := 34 } : Room) (va_Pc [.ref a54] (BI0 E a54 sz)) (va_Qv (fun a : Nat → Nat => a 54 = a54) (BI1 E sz) (aI a54 sz)) 33 132690 (aI a54 sz) := by
  refine met_gw (rm := ({ frames := 1, cells := 33, slots := 132690, locals := 34 } : Room)) (okI E a54 (aI a54 sz)) ([Value.int 0, Value.int 0, Value.null, Value.null, Value.null, Value.null, Value.null, Value.null, Value.null, Value.null, Value.null, Value.null, Value.null, Value.int 0, Value.int 0, Value.int 0, Value.int 0, Value.int 0, Value.int 0, Value.int 0, Value.int 0, Value.int 0, Value.int 0, Value.int 0, Value.int 0, Value.null, Value.null, Value.int 0, Value.null, Value.null, Value.null, Value.null, Value.int 0, Value.int 0, Value.null, Value.null, Value.null, Value.int 0, Value.null, Value.null, Value.null, Value.null, Value.int 0, Value.null, Value.null, Value.null, Value.int 0, Value.null, Value.null, Value.null, Value.null, Value.null, Value.null, Value.int 0], []) (A := fun _ => aI a54 sz) (L0 := [some (.ref a54)]) (by decide) (by simp [lg_sl, Value.category]) (by rfl) (fun U h => ⟨h.2.2.1, ?_, ?_⟩) (fun C hC hl _ hB hnm hA hQ _ _ => ?_)
  · intro i j p q hi hj _
    have := (List.getElem?_eq_some_iff.mp hi).1
    have := (List.getElem?_eq_some_iff.mp hj).1
    simp [wI] at *
    omega
  · intro k q hq
    have hk := (List.getElem?_eq_some_iff.mp hq).1
    have hk0 : k = 0 := by simp [wI] at hk; omega
    subst hk0
    cases hq
    exact Or.inl rfl
  have hM : IOk E a54 C := ⟨hB.2.2.2, fun q hq => by rw [hA]; exact Or.inr (by rw [← hB.1]; exact hq)⟩
  have hini : (cx_h C).name = "<init>" := hnm
  rw [show okI E a54 (aI a54 sz) = okI E a54 (cx_A C) by rw [hA]]
  show GI E a54 C _ 33 132690 0 [some (.ref a54)] []
  refine g_aload_n hC dX3_init_0 rfl ?_
  refine gI_oinit hC dX3_init_1 q1501 q115 q116 (by decide) (by decide) ?_
  refine bI_2 hC hM hini rfl 32 132686 rfl (by decide) (fun q0 => ?_)
  show GI E a54 C ([Value.int 0, Value.int 0, Value.ref q0, Value.null, Value.null, Value.null, Value.null, Value.null, Value.null, Value.null, Value.null, Value.null, Value.null, Value.int 0, Value.int 0, Value.int 0, Value.int 0, Value.int 0, Value.int 0, Value.int 0, Value.int 0, Value.int 0, Value.int 0, Value.int 0, Value.int 0, Value.null, Value.null, Value.int 0, Value.null, Value.null, Value.null, Value.null, Value.int 0, Value.int 0, Value.null, Value.null, Value.null, Value.int 0, Value.null, Value.null, Value.null, Value.null, Value.int 0, Value.null, Value.null, Value.null, Value.int 0, Value.null, Value.null, Value.null, Value.null, Value.null, Value.null, Value.int 0], [cI E q0 4 fI_2]) 32 132686 27 [some (.ref a54)] []
  refine bI_3 hC hM hini rfl 31 132682 rfl (by decide) (fun q1 => ?_)
  show GI E a54 C ([Value.int 0, Value.int 0, Value.ref q0, Value.ref q1, Value.null, Value.null, Value.null, Value.null, Value.null, Value.null, Value.null, Value.null, Value.null, Value.int 0, Value.int 0, Value.int 0, Value.int 0, Value.int 0, Value.int 0, Value.int 0, Value.int 0, Value.int 0, Value.int 0, Value.int 0, Value.int 0, Value.null, Value.null, Value.int 0, Value.null, Value.null, Value.null, Value.null, Value.int 0, Value.int 0, Value.null, Value.null, Value.null, Value.int 0, Value.null, Value.null, Value.null, Value.null, Value.int 0, Value.null, Value.null, Value.null, Value.int 0, Value.null, Value.null, Value.null, Value.null, Value.null, Value.null, Value.int 0], [cI E q0 4 fI_2, cI E q1 4 fI_3]) 31 132682 54 [some (.ref a54)] []
  refine bI_4 hC hM hini rfl 30 132678 rfl (by decide) (fun q2 => ?_)
  show GI E a54 C ([Value.int 0, Value.int 0, Value.ref q0, Value.ref q1, Value.ref q2, Value.null, Value.null, Value.null, Value.null, Value.null, Value.null, Value.null, Value.null, Value.int 0, Value.int 0, Value.int 0, Value.int 0, Value.int 0, Value.int 0, Value.int 0, Value.int 0, Value.int 0, Value.int 0, Value.int 0, Value.int 0, Value.null, Value.null, Value.int 0, Value.null, Value.null, Value.null, Value.null, Value.int 0, Value.int 0, Value.null, Value.null, Value.null, Value.int 0, Value.null, Value.null, Value.null, Value.null, Value.int 0, Value.null, Value.null, Value.null, Value.int 0, Value.null, Value.null, Value.null, Value.null, Value.null, Value.null, Value.int 0], [cI E q0 4 fI_2, cI E q1 4 fI_3, cI E q2 4 fI_4]) 30 132678 81 [some (.ref a54)] []
  refine bI_5 hC hM hini rfl 29 132674 rfl (by decide) (fun q3 => ?_)
  show GI E a54 C ([Value.int 0, Value.int 0, Value.ref q0, Value.ref q1, Value.ref q2, Value.ref q3, Value.null, Value.null, Value.null, Value.null, Value.null, Value.null, Value.null, Value.int 0, Value.int 0, Value.int 0, Value.int 0, Value.int 0, Value.int 0, Value.int 0, Value.int 0, Value.int 0, Value.int 0, Value.int 0, Value.int 0, Value.null, Value.null, Value.int 0, Value.null, Value.null, Value.null, Value.null, Value.int 0, Value.int 0, Value.null, Value.null, Value.null, Value.int 0, Value.null, Value.null, Value.null, Value.null, Value.int 0, Value.null, Value.null, Value.null, Value.int 0, Value.null, Value.null, Value.null, Value.null, Value.null, Value.null, Value.int 0], [cI E q0 4 fI_2, cI E q1 4 fI_3, cI E q2 4 fI_4, cI E q3 4 fI_5]) 29 132674 108 [some (.ref a54)] []
  refine bI_6 hC hM hini rfl 28 132666 rfl (by decide) (fun q4 => ?_)
  show GI E a54 C ([Value.int 0, Value.int 0, Value.ref q0, Value.ref q1, Value.ref q2, Value.ref q3, Value.ref q4, Value.null, Value.null, Value.null, Value.null, Value.null, Value.null, Value.int 0, Value.int 0, Value.int 0, Value.int 0, Value.int 0, Value.int 0, Value.int 0, Value.int 0, Value.int 0, Value.int 0, Value.int 0, Value.int 0, Value.null, Value.null, Value.int 0, Value.null, Value.null, Value.null, Value.null, Value.int 0, Value.int 0, Value.null, Value.null, Value.null, Value.int 0, Value.null, Value.null, Value.null, Value.null, Value.int 0, Value.null, Value.null, Value.null, Value.int 0, Value.null, Value.null, Value.null, Value.null, Value.null, Value.null, Value.int 0], [cI E q0 4 fI_2, cI E q1 4 fI_3, cI E q2 4 fI_4, cI E q3 4 fI_5, cI E q4 8 fI_6]) 28 132666 158 [some (.ref a54)] []
  refine bI_7 hC hM hini rfl 27 132646 rfl (by decide) (fun q5 => ?_)
  show GI E a54 C ([Value.int 0, Value.int 0, Value.ref q0, Value.ref q1, Value.ref q2, Value.ref q3, Value.ref q4, Value.ref q5, Value.null, Value.null, Value.null, Value.null, Value.null, Value.int 0, Value.int 0, Value.int 0, Value.int 0, Value.int 0, Value.int 0, Value.int 0, Value.int 0, Value.int 0, Value.int 0, Value.int 0, Value.int 0, Value.null, Value.null, Value.int 0, Value.null, Value.null, Value.null, Value.null, Value.int 0, Value.int 0, Value.null, Value.null, Value.null, Value.int 0, Value.null, Value.null, Value.null, Value.null, Value.int 0, Value.null, Value.null, Value.null, Value.int 0, Value.null, Value.null, Value.null, Value.null, Value.null, Value.null, Value.int 0], [cI E q0 4 fI_2, cI E q1 4 fI_3, cI E q2 4 fI_4, cI E q3 4 fI_5, cI E q4 8 fI_6, cI E q5 20 fI_7]) 27 132646 280 [some (.ref a54)] []
  refine bI_8 hC hM hini rfl 26 132626 rfl (by decide) (fun q6 => ?_)
  show GI E a54 C ([Value.int 0, Value.int 0, Value.ref q0, Value.ref q1, Value.ref q2, Value.ref q3, Value.ref q4, Value.ref q5, Value.ref q6, Value.null, Value.null, Value.null, Value.null, Value.int 0, Value.int 0, Value.int 0, Value.int 0, Value.int 0, Value.int 0, Value.int 0, Value.int 0, Value.int 0, Value.int 0, Value.int 0, Value.int 0, Value.null, Value.null, Value.int 0, Value.null, Value.null, Value.null, Value.null, Value.int 0, Value.int 0, Value.null, Value.null, Value.null, Value.int 0, Value.null, Value.null, Value.null, Value.null, Value.int 0, Value.null, Value.null, Value.null, Value.int 0, Value.null, Value.null, Value.null, Value.null, Value.null, Value.null, Value.int 0], [cI E q0 4 fI_2, cI E q1 4 fI_3, cI E q2 4 fI_4, cI E q3 4 fI_5, cI E q4 8 fI_6, cI E q5 20 fI_7, cI E q6 20 fI_8]) 26 132626 382 [some (.ref a54)] []
  refine bI_9 hC hM hini rfl 25 132618 rfl (by decide) (fun q7 => ?_)
  show GI E a54 C ([Value.int 0, Value.int 0, Value.ref q0, Value.ref q1, Value.ref q2, Value.ref q3, Value.ref q4, Value.ref q5, Value.ref q6, Value.ref q7, Value.null, Value.null, Value.null, Value.int 0, Value.int 0, Value.int 0, Value.int 0, Value.int 0, Value.int 0, Value.int 0, Value.int 0, Value.int 0, Value.int 0, Value.int 0, Value.int 0, Value.null, Value.null, Value.int 0, Value.null, Value.null, Value.null, Value.null, Value.int 0, Value.int 0, Value.null, Value.null, Value.null, Value.int 0, Value.null, Value.null, Value.null, Value.null, Value.int 0, Value.null, Value.null, Value.null, Value.int 0, Value.null, Value.null, Value.null, Value.null, Value.null, Value.null, Value.int 0], [cI E q0 4 fI_2, cI E q1 4 fI_3, cI E q2 4 fI_4, cI E q3 4 fI_5, cI E q4 8 fI_6, cI E q5 20 fI_7, cI E q6 20 fI_8, cI E q7 8 fI_9]) 25 132618 424 [some (.ref a54)] []
  refine bI_10 hC hM hini rfl 24 132610 rfl (by decide) (fun q8 => ?_)
  show GI E a54 C ([Value.int 0, Value.int 0, Value.ref q0, Value.ref q1, Value.ref q2, Value.ref q3, Value.ref q4, Value.ref q5, Value.ref q6, Value.ref q7, Value.ref q8, Value.null, Value.null, Value.int 0, Value.int 0, Value.int 0, Value.int 0, Value.int 0, Value.int 0, Value.int 0, Value.int 0, Value.int 0, Value.int 0, Value.int 0, Value.int 0, Value.null, Value.null, Value.int 0, Value.null, Value.null, Value.null, Value.null, Value.int 0, Value.int 0, Value.null, Value.null, Value.null, Value.int 0, Value.null, Value.null, Value.null, Value.null, Value.int 0, Value.null, Value.null, Value.null, Value.int 0, Value.null, Value.null, Value.null, Value.null, Value.null, Value.null, Value.int 0], [cI E q0 4 fI_2, cI E q1 4 fI_3, cI E q2 4 fI_4, cI E q3 4 fI_5, cI E q4 8 fI_6, cI E q5 20 fI_7, cI E q6 20 fI_8, cI E q7 8 fI_9, cI E q8 8 fI_10]) 24 132610 432 [some (.ref a54)] []
  refine bI_11 hC hM hini rfl 23 132130 rfl (by decide) (fun q9 => ?_)
  show GI E a54 C ([Value.int 0, Value.int 0, Value.ref q0, Value.ref q1, Value.ref q2, Value.ref q3, Value.ref q4, Value.ref q5, Value.ref q6, Value.ref q7, Value.ref q8, Value.ref q9, Value.null, Value.int 0, Value.int 0, Value.int 0, Value.int 0, Value.int 0, Value.int 0, Value.int 0, Value.int 0, Value.int 0, Value.int 0, Value.int 0, Value.int 0, Value.null, Value.null, Value.int 0, Value.null, Value.null, Value.null, Value.null, Value.int 0, Value.int 0, Value.null, Value.null, Value.null, Value.int 0, Value.null, Value.null, Value.null, Value.null, Value.int 0, Value.null, Value.null, Value.null, Value.int 0, Value.null, Value.null, Value.null, Value.null, Value.null, Value.null, Value.int 0], [cI E q0 4 fI_2, cI E q1 4 fI_3, cI E q2 4 fI_4, cI E q3 4 fI_5, cI E q4 8 fI_6, cI E q5 20 fI_7, cI E q6 20 fI_8, cI E q7 8 fI_9, cI E q8 8 fI_10, cI E q9 480 fI_11]) 23 132130 441 [some (.ref a54)] []
  refine bI_12 hC hM hini rfl 22 131730 rfl (by decide) (fun q10 => ?_)
  show GI E a54 C ([Value.int 0, Value.int 0, Value.ref q0, Value.ref q1, Value.ref q2, Value.ref q3, Value.ref q4, Value.ref q5, Value.ref q6, Value.ref q7, Value.ref q8, Value.ref q9, Value.ref q10, Value.int 0, Value.int 0, Value.int 0, Value.int 0, Value.int 0, Value.int 0, Value.int 0, Value.int 0, Value.int 0, Value.int 0, Value.int 0, Value.int 0, Value.null, Value.null, Value.int 0, Value.null, Value.null, Value.null, Value.null, Value.int 0, Value.int 0, Value.null, Value.null, Value.null, Value.int 0, Value.null, Value.null, Value.null, Value.null, Value.int 0, Value.null, Value.null, Value.null, Value.int 0, Value.null, Value.null, Value.null, Value.null, Value.null, Value.null, Value.int 0], [cI E q0 4 fI_2, cI E q1 4 fI_3, cI E q2 4 fI_4, cI E q3 4 fI_5, cI E q4 8 fI_6, cI E q5 20 fI_7, cI E q6 20 fI_8, cI E q7 8 fI_9, cI E q8 8 fI_10, cI E q9 480 fI_11, cI E q10 400 fI_12]) 22 131730 450 [some (.ref a54)] []
  refine bI_25 hC hM hini rfl 21 131586 rfl (by decide) (fun q11 => ?_)
  show GI E a54 C ([Value.int 0, Value.int 0, Value.ref q0, Value.ref q1, Value.ref q2, Value.ref q3, Value.ref q4, Value.ref q5, Value.ref q6, Value.ref q7, Value.ref q8, Value.ref q9, Value.ref q10, Value.int 0, Value.int 0, Value.int 0, Value.int 0, Value.int 0, Value.int 0, Value.int 0, Value.int 0, Value.int 0, Value.int 0, Value.int 0, Value.int 0, Value.ref q11, Value.null, Value.int 0, Value.null, Value.null, Value.null, Value.null, Value.int 0, Value.int 0, Value.null, Value.null, Value.null, Value.int 0, Value.null, Value.null, Value.null, Value.null, Value.int 0, Value.null, Value.null, Value.null, Value.int 0, Value.null, Value.null, Value.null, Value.null, Value.null, Value.null, Value.int 0], [cI E q0 4 fI_2, cI E q1 4 fI_3, cI E q2 4 fI_4, cI E q3 4 fI_5, cI E q4 8 fI_6, cI E q5 20 fI_7, cI E q6 20 fI_8, cI E q7 8 fI_9, cI E q8 8 fI_10, cI E q9 480 fI_11, cI E q10 400 fI_12, cI E q11 144 fI_25]) 21 131586 459 [some (.ref a54)] []
  refine bI_26 hC hM hini rfl 20 131570 rfl (by decide) (fun q12 => ?_)
  show GI E a54 C ([Value.int 0, Value.int 0, Value.ref q0, Value.ref q1, Value.ref q2, Value.ref q3, Value.ref q4, Value.ref q5, Value.ref q6, Value.ref q7, Value.ref q8, Value.ref q9, Value.ref q10, Value.int 0, Value.int 0, Value.int 0, Value.int 0, Value.int 0, Value.int 0, Value.int 0, Value.int 0, Value.int 0, Value.int 0, Value.int 0, Value.int 0, Value.ref q11, Value.ref q12, Value.int 0, Value.null, Value.null, Value.null, Value.null, Value.int 0, Value.int 0, Value.null, Value.null, Value.null, Value.int 0, Value.null, Value.null, Value.null, Value.null, Value.int 0, Value.null, Value.null, Value.null, Value.int 0, Value.null, Value.null, Value.null, Value.null, Value.null, Value.null, Value.int 0], [cI E q0 4 fI_2, cI E q1 4 fI_3, cI E q2 4 fI_4, cI E q3 4 fI_5, cI E q4 8 fI_6, cI E q5 20 fI_7, cI E q6 20 fI_8, cI E q7 8 fI_9, cI E q8 8 fI_10, cI E q9 480 fI_11, cI E q10 400 fI_12, cI E q11 144 fI_25, cI E q12 16 fI_26]) 20 131570 467 [some (.ref a54)] []
  refine bI_28 hC hM hini rfl 19 66034 rfl (by decide) (fun q13 => ?_)
  show GI E a54 C ([Value.int 0, Value.int 0, Value.ref q0, Value.ref q1, Value.ref q2, Value.ref q3, Value.ref q4, Value.ref q5, Value.ref q6, Value.ref q7, Value.ref q8, Value.ref q9, Value.ref q10, Value.int 0, Value.int 0, Value.int 0, Value.int 0, Value.int 0, Value.int 0, Value.int 0, Value.int 0, Value.int 0, Value.int 0, Value.int 0, Value.int 0, Value.ref q11, Value.ref q12, Value.int 0, Value.ref q13, Value.null, Value.null, Value.null, Value.int 0, Value.int 0, Value.null, Value.null, Value.null, Value.int 0, Value.null, Value.null, Value.null, Value.null, Value.int 0, Value.null, Value.null, Value.null, Value.int 0, Value.null, Value.null, Value.null, Value.null, Value.null, Value.null, Value.int 0], [cI E q0 4 fI_2, cI E q1 4 fI_3, cI E q2 4 fI_4, cI E q3 4 fI_5, cI E q4 8 fI_6, cI E q5 20 fI_7, cI E q6 20 fI_8, cI E q7 8 fI_9, cI E q8 8 fI_10, cI E q9 480 fI_11, cI E q10 400 fI_12, cI E q11 144 fI_25, cI E q12 16 fI_26, cZ E q13 65536 fI_28]) 19 66034 475 [some (.ref a54)] []
  refine bI_29 hC hM hini rfl 18 498 rfl (by decide) (fun q14 => ?_)
  show GI E a54 C ([Value.int 0, Value.int 0, Value.ref q0, Value.ref q1, Value.ref q2, Value.ref q3, Value.ref q4, Value.ref q5, Value.ref q6, Value.ref q7, Value.ref q8, Value.ref q9, Value.ref q10, Value.int 0, Value.int 0, Value.int 0, Value.int 0, Value.int 0, Value.int 0, Value.int 0, Value.int 0, Value.int 0, Value.int 0, Value.int 0, Value.int 0, Value.ref q11, Value.ref q12, Value.int 0, Value.ref q13, Value.ref q14, Value.null, Value.null, Value.int 0, Value.int 0, Value.null, Value.null, Value.null, Value.int 0, Value.null, Value.null, Value.null, Value.null, Value.int 0, Value.null, Value.null, Value.null, Value.int 0, Value.null, Value.null, Value.null, Value.null, Value.null, Value.null, Value.int 0], [cI E q0 4 fI_2, cI E q1 4 fI_3, cI E q2 4 fI_4, cI E q3 4 fI_5, cI E q4 8 fI_6, cI E q5 20 fI_7, cI E q6 20 fI_8, cI E q7 8 fI_9, cI E q8 8 fI_10, cI E q9 480 fI_11, cI E q10 400 fI_12, cI E q11 144 fI_25, cI E q12 16 fI_26, cZ E q13 65536 fI_28, cI E q14 65536 fI_29]) 18 498 483 [some (.ref a54)] []
  refine bI_30 hC hM hini rfl 17 482 rfl (by decide) (fun q15 => ?_)
  show GI E a54 C ([Value.int 0, Value.int 0, Value.ref q0, Value.ref q1, Value.ref q2, Value.ref q3, Value.ref q4, Value.ref q5, Value.ref q6, Value.ref q7, Value.ref q8, Value.ref q9, Value.ref q10, Value.int 0, Value.int 0, Value.int 0, Value.int 0, Value.int 0, Value.int 0, Value.int 0, Value.int 0, Value.int 0, Value.int 0, Value.int 0, Value.int 0, Value.ref q11, Value.ref q12, Value.int 0, Value.ref q13, Value.ref q14, Value.ref q15, Value.null, Value.int 0, Value.int 0, Value.null, Value.null, Value.null, Value.int 0, Value.null, Value.null, Value.null, Value.null, Value.int 0, Value.null, Value.null, Value.null, Value.int 0, Value.null, Value.null, Value.null, Value.null, Value.null, Value.null, Value.int 0], [cI E q0 4 fI_2, cI E q1 4 fI_3, cI E q2 4 fI_4, cI E q3 4 fI_5, cI E q4 8 fI_6, cI E q5 20 fI_7, cI E q6 20 fI_8, cI E q7 8 fI_9, cI E q8 8 fI_10, cI E q9 480 fI_11, cI E q10 400 fI_12, cI E q11 144 fI_25, cI E q12 16 fI_26, cZ E q13 65536 fI_28, cI E q14 65536 fI_29, cI E q15 16 fI_30]) 17 482 491 [some (.ref a54)] []
  refine bI_31 hC hM hini rfl 16 466 rfl (by decide) (fun q16 => ?_)
  show GI E a54 C ([Value.int 0, Value.int 0, Value.ref q0, Value.ref q1, Value.ref q2, Value.ref q3, Value.ref q4, Value.ref q5, Value.ref q6, Value.ref q7, Value.ref q8, Value.ref q9, Value.ref q10, Value.int 0, Value.int 0, Value.int 0, Value.int 0, Value.int 0, Value.int 0, Value.int 0, Value.int 0, Value.int 0, Value.int 0, Value.int 0, Value.int 0, Value.ref q11, Value.ref q12, Value.int 0, Value.ref q13, Value.ref q14, Value.ref q15, Value.ref q16, Value.int 0, Value.int 0, Value.null, Value.null, Value.null, Value.int 0, Value.null, Value.null, Value.null, Value.null, Value.int 0, Value.null, Value.null, Value.null, Value.int 0, Value.null, Value.null, Value.null, Value.null, Value.null, Value.null, Value.int 0], [cI E q0 4 fI_2, cI E q1 4 fI_3, cI E q2 4 fI_4, cI E q3 4 fI_5, cI E q4 8 fI_6, cI E q5 20 fI_7, cI E q6 20 fI_8, cI E q7 8 fI_9, cI E q8 8 fI_10, cI E q9 480 fI_11, cI E q10 400 fI_12, cI E q11 144 fI_25, cI E q12 16 fI_26, cZ E q13 65536 fI_28, cI E q14 65536 fI_29, cI E q15 16 fI_30, cI E q16 16 fI_31]) 16 466 499 [some (.ref a54)] []
  refine bI_34 hC hM hini rfl 15 426 rfl (by decide) (fun q17 => ?_)
  show GI E a54 C ([Value.int 0, Value.int 0, Value.ref q0, Value.ref q1, Value.ref q2, Value.ref q3, Value.ref q4, Value.ref q5, Value.ref q6, Value.ref q7, Value.ref q8, Value.ref q9, Value.ref q10, Value.int 0, Value.int 0, Value.int 0, Value.int 0, Value.int 0, Value.int 0, Value.int 0, Value.int 0, Value.int 0, Value.int 0, Value.int 0, Value.int 0, Value.ref q11, Value.ref q12, Value.int 0, Value.ref q13, Value.ref q14, Value.ref q15, Value.ref q16, Value.int 0, Value.int 0, Value.ref q17, Value.null, Value.null, Value.int 0, Value.null, Value.null, Value.null, Value.null, Value.int 0, Value.null, Value.null, Value.null, Value.int 0, Value.null, Value.null, Value.null, Value.null, Value.null, Value.null, Value.int 0], [cI E q0 4 fI_2, cI E q1 4 fI_3, cI E q2 4 fI_4, cI E q3 4 fI_5, cI E q4 8 fI_6, cI E q5 20 fI_7, cI E q6 20 fI_8, cI E q7 8 fI_9, cI E q8 8 fI_10, cI E q9 480 fI_11, cI E q10 400 fI_12, cI E q11 144 fI_25, cI E q12 16 fI_26, cZ E q13 65536 fI_28, cI E q14 65536 fI_29, cI E q15 16 fI_30, cI E q16 16 fI_31, cI E q17 40 fI_34]) 15 426 507 [some (.ref a54)] []
  refine bI_35 hC hM hini rfl 14 386 rfl (by decide) (fun q18 => ?_)
  show GI E a54 C ([Value.int 0, Value.int 0, Value.ref q0, Value.ref q1, Value.ref q2, Value.ref q3, Value.ref q4, Value.ref q5, Value.ref q6, Value.ref q7, Value.ref q8, Value.ref q9, Value.ref q10, Value.int 0, Value.int 0, Value.int 0, Value.int 0, Value.int 0, Value.int 0, Value.int 0, Value.int 0, Value.int 0, Value.int 0, Value.int 0, Value.int 0, Value.ref q11, Value.ref q12, Value.int 0, Value.ref q13, Value.ref q14, Value.ref q15, Value.ref q16, Value.int 0, Value.int 0, Value.ref q17, Value.ref q18, Value.null, Value.int 0, Value.null, Value.null, Value.null, Value.null, Value.int 0, Value.null, Value.null, Value.null, Value.int 0, Value.null, Value.null, Value.null, Value.null, Value.null, Value.null, Value.int 0], [cI E q0 4 fI_2, cI E q1 4 fI_3, cI E q2 4 fI_4, cI E q3 4 fI_5, cI E q4 8 fI_6, cI E q5 20 fI_7, cI E q6 20 fI_8, cI E q7 8 fI_9, cI E q8 8 fI_10, cI E q9 480 fI_11, cI E q10 400 fI_12, cI E q11 144 fI_25, cI E q12 16 fI_26, cZ E q13 65536 fI_28, cI E q14 65536 fI_29, cI E q15 16 fI_30, cI E q16 16 fI_31, cI E q17 40 fI_34, cI E q18 40 fI_35]) 14 386 515 [some (.ref a54)] []
  refine bI_36 hC hM hini rfl 13 346 rfl (by decide) (fun q19 => ?_)
  show GI E a54 C ([Value.int 0, Value.int 0, Value.ref q0, Value.ref q1, Value.ref q2, Value.ref q3, Value.ref q4, Value.ref q5, Value.ref q6, Value.ref q7, Value.ref q8, Value.ref q9, Value.ref q10, Value.int 0, Value.int 0, Value.int 0, Value.int 0, Value.int 0, Value.int 0, Value.int 0, Value.int 0, Value.int 0, Value.int 0, Value.int 0, Value.int 0, Value.ref q11, Value.ref q12, Value.int 0, Value.ref q13, Value.ref q14, Value.ref q15, Value.ref q16, Value.int 0, Value.int 0, Value.ref q17, Value.ref q18, Value.ref q19, Value.int 0, Value.null, Value.null, Value.null, Value.null, Value.int 0, Value.null, Value.null, Value.null, Value.int 0, Value.null, Value.null, Value.null, Value.null, Value.null, Value.null, Value.int 0], [cI E q0 4 fI_2, cI E q1 4 fI_3, cI E q2 4 fI_4, cI E q3 4 fI_5, cI E q4 8 fI_6, cI E q5 20 fI_7, cI E q6 20 fI_8, cI E q7 8 fI_9, cI E q8 8 fI_10, cI E q9 480 fI_11, cI E q10 400 fI_12, cI E q11 144 fI_25, cI E q12 16 fI_26, cZ E q13 65536 fI_28, cI E q14 65536 fI_29, cI E q15 16 fI_30, cI E q16 16 fI_31, cI E q17 40 fI_34, cI E q18 40 fI_35, cI E q19 40 fI_36]) 13 346 523 [some (.ref a54)] []
  refine bI_38 hC hM hini rfl 12 306 rfl (by decide) (fun q20 => ?_)
  show GI E a54 C ([Value.int 0, Value.int 0, Value.ref q0, Value.ref q1, Value.ref q2, Value.ref q3, Value.ref q4, Value.ref q5, Value.ref q6, Value.ref q7, Value.ref q8, Value.ref q9, Value.ref q10, Value.int 0, Value.int 0, Value.int 0, Value.int 0, Value.int 0, Value.int 0, Value.int 0, Value.int 0, Value.int 0, Value.int 0, Value.int 0, Value.int 0, Value.ref q11, Value.ref q12, Value.int 0, Value.ref q13, Value.ref q14, Value.ref q15, Value.ref q16, Value.int 0, Value.int 0, Value.ref q17, Value.ref q18, Value.ref q19, Value.int 0, Value.ref q20, Value.null, Value.null, Value.null, Value.int 0, Value.null, Value.null, Value.null, Value.int 0, Value.null, Value.null, Value.null, Value.null, Value.null, Value.null, Value.int 0], [cI E q0 4 fI_2, cI E q1 4 fI_3, cI E q2 4 fI_4, cI E q3 4 fI_5, cI E q4 8 fI_6, cI E q5 20 fI_7, cI E q6 20 fI_8, cI E q7 8 fI_9, cI E q8 8 fI_10, cI E q9 480 fI_11, cI E q10 400 fI_12, cI E q11 144 fI_25, cI E q12 16 fI_26, cZ E q13 65536 fI_28, cI E q14 65536 fI_29, cI E q15 16 fI_30, cI E q16 16 fI_31, cI E q17 40 fI_34, cI E q18 40 fI_35, cI E q19 40 fI_36, cI E q20 40 fI_38]) 12 306 531 [some (.ref a54)] []
  refine bI_39 hC hM hini rfl 11 266 rfl (by decide) (fun q21 => ?_)
  show GI E a54 C ([Value.int 0, Value.int 0, Value.ref q0, Value.ref q1, Value.ref q2, Value.ref q3, Value.ref q4, Value.ref q5, Value.ref q6, Value.ref q7, Value.ref q8, Value.ref q9, Value.ref q10, Value.int 0, Value.int 0, Value.int 0, Value.int 0, Value.int 0, Value.int 0, Value.int 0, Value.int 0, Value.int 0, Value.int 0, Value.int 0, Value.int 0, Value.ref q11, Value.ref q12, Value.int 0, Value.ref q13, Value.ref q14, Value.ref q15, Value.ref q16, Value.int 0, Value.int 0, Value.ref q17, Value.ref q18, Value.ref q19, Value.int 0, Value.ref q20, Value.ref q21, Value.null, Value.null, Value.int 0, Value.null, Value.null, Value.null, Value.int 0, Value.null, Value.null, Value.null, Value.null, Value.null, Value.null, Value.int 0], [cI E q0 4 fI_2, cI E q1 4 fI_3, cI E q2 4 fI_4, cI E q3 4 fI_5, cI E q4 8 fI_6, cI E q5 20 fI_7, cI E q6 20 fI_8, cI E q7 8 fI_9, cI E q8 8 fI_10, cI E q9 480 fI_11, cI E q10 400 fI_12, cI E q11 144 fI_25, cI E q12 16 fI_26, cZ E q13 65536 fI_28, cI E q14 65536 fI_29, cI E q15 16 fI_30, cI E q16 16 fI_31, cI E q17 40 fI_34, cI E q18 40 fI_35, cI E q19 40 fI_36, cI E q20 40 fI_38, cI E q21 40 fI_39]) 11 266 539 [some (.ref a54)] []
  refine bI_40 hC hM hini rfl 10 226 rfl (by decide) (fun q22 => ?_)
  show GI E a54 C ([Value.int 0, Value.int 0, Value.ref q0, Value.ref q1, Value.ref q2, Value.ref q3, Value.ref q4, Value.ref q5, Value.ref q6, Value.ref q7, Value.ref q8, Value.ref q9, Value.ref q10, Value.int 0, Value.int 0, Value.int 0, Value.int 0, Value.int 0, Value.int 0, Value.int 0, Value.int 0, Value.int 0, Value.int 0, Value.int 0, Value.int 0, Value.ref q11, Value.ref q12, Value.int 0, Value.ref q13, Value.ref q14, Value.ref q15, Value.ref q16, Value.int 0, Value.int 0, Value.ref q17, Value.ref q18, Value.ref q19, Value.int 0, Value.ref q20, Value.ref q21, Value.ref q22, Value.null, Value.int 0, Value.null, Value.null, Value.null, Value.int 0, Value.null, Value.null, Value.null, Value.null, Value.null, Value.null, Value.int 0], [cI E q0 4 fI_2, cI E q1 4 fI_3, cI E q2 4 fI_4, cI E q3 4 fI_5, cI E q4 8 fI_6, cI E q5 20 fI_7, cI E q6 20 fI_8, cI E q7 8 fI_9, cI E q8 8 fI_10, cI E q9 480 fI_11, cI E q10 400 fI_12, cI E q11 144 fI_25, cI E q12 16 fI_26, cZ E q13 65536 fI_28, cI E q14 65536 fI_29, cI E q15 16 fI_30, cI E q16 16 fI_31, cI E q17 40 fI_34, cI E q18 40 fI_35, cI E q19 40 fI_36, cI E q20 40 fI_38, cI E q21 40 fI_39, cI E q22 40 fI_40]) 10 226 547 [some (.ref a54)] []
  refine bI_41 hC hM hini rfl 9 186 rfl (by decide) (fun q23 => ?_)
  show GI E a54 C ([Value.int 0, Value.int 0, Value.ref q0, Value.ref q1, Value.ref q2, Value.ref q3, Value.ref q4, Value.ref q5, Value.ref q6, Value.ref q7, Value.ref q8, Value.ref q9, Value.ref q10, Value.int 0, Value.int 0, Value.int 0, Value.int 0, Value.int 0, Value.int 0, Value.int 0, Value.int 0, Value.int 0, Value.int 0, Value.int 0, Value.int 0, Value.ref q11, Value.ref q12, Value.int 0, Value.ref q13, Value.ref q14, Value.ref q15, Value.ref q16, Value.int 0, Value.int 0, Value.ref q17, Value.ref q18, Value.ref q19, Value.int 0, Value.ref q20, Value.ref q21, Value.ref q22, Value.ref q23, Value.int 0, Value.null, Value.null, Value.null, Value.int 0, Value.null, Value.null, Value.null, Value.null, Value.null, Value.null, Value.int 0], [cI E q0 4 fI_2, cI E q1 4 fI_3, cI E q2 4 fI_4, cI E q3 4 fI_5, cI E q4 8 fI_6, cI E q5 20 fI_7, cI E q6 20 fI_8, cI E q7 8 fI_9, cI E q8 8 fI_10, cI E q9 480 fI_11, cI E q10 400 fI_12, cI E q11 144 fI_25, cI E q12 16 fI_26, cZ E q13 65536 fI_28, cI E q14 65536 fI_29, cI E q15 16 fI_30, cI E q16 16 fI_31, cI E q17 40 fI_34, cI E q18 40 fI_35, cI E q19 40 fI_36, cI E q20 40 fI_38, cI E q21 40 fI_39, cI E q22 40 fI_40, cI E q23 40 fI_41]) 9 186 555 [some (.ref a54)] []
  refine bI_43 hC hM hini rfl 8 146 rfl (by decide) (fun q24 => ?_)
  show GI E a54 C ([Value.int 0, Value.int 0, Value.ref q0, Value.ref q1, Value.ref q2, Value.ref q3, Value.ref q4, Value.ref q5, Value.ref q6, Value.ref q7, Value.ref q8, Value.ref q9, Value.ref q10, Value.int 0, Value.int 0, Value.int 0, Value.int 0, Value.int 0, Value.int 0, Value.int 0, Value.int 0, Value.int 0, Value.int 0, Value.int 0, Value.int 0, Value.ref q11, Value.ref q12, Value.int 0, Value.ref q13, Value.ref q14, Value.ref q15, Value.ref q16, Value.int 0, Value.int 0, Value.ref q17, Value.ref q18, Value.ref q19, Value.int 0, Value.ref q20, Value.ref q21, Value.ref q22, Value.ref q23, Value.int 0, Value.ref q24, Value.null, Value.null, Value.int 0, Value.null, Value.null, Value.null, Value.null, Value.null, Value.null, Value.int 0], [cI E q0 4 fI_2, cI E q1 4 fI_3, cI E q2 4 fI_4, cI E q3 4 fI_5, cI E q4 8 fI_6, cI E q5 20 fI_7, cI E q6 20 fI_8, cI E q7 8 fI_9, cI E q8 8 fI_10, cI E q9 480 fI_11, cI E q10 400 fI_12, cI E q11 144 fI_25, cI E q12 16 fI_26, cZ E q13 65536 fI_28, cI E q14 65536 fI_29, cI E q15 16 fI_30, cI E q16 16 fI_31, cI E q17 40 fI_34, cI E q18 40 fI_35, cI E q19 40 fI_36, cI E q20 40 fI_38, cI E q21 40 fI_39, cI E q22 40 fI_40, cI E q23 40 fI_41, cI E q24 40 fI_43]) 8 146 563 [some (.ref a54)] []
  refine bI_44 hC hM hini rfl 7 106 rfl (by decide) (fun q25 => ?_)
  show GI E a54 C ([Value.int 0, Value.int 0, Value.ref q0, Value.ref q1, Value.ref q2, Value.ref q3, Value.ref q4, Value.ref q5, Value.ref q6, Value.ref q7, Value.ref q8, Value.ref q9, Value.ref q10, Value.int 0, Value.int 0, Value.int 0, Value.int 0, Value.int 0, Value.int 0, Value.int 0, Value.int 0, Value.int 0, Value.int 0, Value.int 0, Value.int 0, Value.ref q11, Value.ref q12, Value.int 0, Value.ref q13, Value.ref q14, Value.ref q15, Value.ref q16, Value.int 0, Value.int 0, Value.ref q17, Value.ref q18, Value.ref q19, Value.int 0, Value.ref q20, Value.ref q21, Value.ref q22, Value.ref q23, Value.int 0, Value.ref q24, Value.ref q25, Value.null, Value.int 0, Value.null, Value.null, Value.null, Value.null, Value.null, Value.null, Value.int 0], [cI E q0 4 fI_2, cI E q1 4 fI_3, cI E q2 4 fI_4, cI E q3 4 fI_5, cI E q4 8 fI_6, cI E q5 20 fI_7, cI E q6 20 fI_8, cI E q7 8 fI_9, cI E q8 8 fI_10, cI E q9 480 fI_11, cI E q10 400 fI_12, cI E q11 144 fI_25, cI E q12 16 fI_26, cZ E q13 65536 fI_28, cI E q14 65536 fI_29, cI E q15 16 fI_30, cI E q16 16 fI_31, cI E q17 40 fI_34, cI E q18 40 fI_35, cI E q19 40 fI_36, cI E q20 40 fI_38, cI E q21 40 fI_39, cI E q22 40 fI_40, cI E q23 40 fI_41, cI E q24 40 fI_43, cI E q25 40 fI_44]) 7 106 571 [some (.ref a54)] []
  refine bI_45 hC hM hini rfl 6 66 rfl (by decide) (fun q26 => ?_)
  show GI E a54 C ([Value.int 0, Value.int 0, Value.ref q0, Value.ref q1, Value.ref q2, Value.ref q3, Value.ref q4, Value.ref q5, Value.ref q6, Value.ref q7, Value.ref q8, Value.ref q9, Value.ref q10, Value.int 0, Value.int 0, Value.int 0, Value.int 0, Value.int 0, Value.int 0, Value.int 0, Value.int 0, Value.int 0, Value.int 0, Value.int 0, Value.int 0, Value.ref q11, Value.ref q12, Value.int 0, Value.ref q13, Value.ref q14, Value.ref q15, Value.ref q16, Value.int 0, Value.int 0, Value.ref q17, Value.ref q18, Value.ref q19, Value.int 0, Value.ref q20, Value.ref q21, Value.ref q22, Value.ref q23, Value.int 0, Value.ref q24, Value.ref q25, Value.ref q26, Value.int 0, Value.null, Value.null, Value.null, Value.null, Value.null, Value.null, Value.int 0], [cI E q0 4 fI_2, cI E q1 4 fI_3, cI E q2 4 fI_4, cI E q3 4 fI_5, cI E q4 8 fI_6, cI E q5 20 fI_7, cI E q6 20 fI_8, cI E q7 8 fI_9, cI E q8 8 fI_10, cI E q9 480 fI_11, cI E q10 400 fI_12, cI E q11 144 fI_25, cI E q12 16 fI_26, cZ E q13 65536 fI_28, cI E q14 65536 fI_29, cI E q15 16 fI_30, cI E q16 16 fI_31, cI E q17 40 fI_34, cI E q18 40 fI_35, cI E q19 40 fI_36, cI E q20 40 fI_38, cI E q21 40 fI_39, cI E q22 40 fI_40, cI E q23 40 fI_41, cI E q24 40 fI_43, cI E q25 40 fI_44, cI E q26 40 fI_45]) 6 66 579 [some (.ref a54)] []
  refine bI_47 hC hM hini rfl 5 56 rfl (by decide) (fun q27 => ?_)
  show GI E a54 C ([Value.int 0, Value.int 0, Value.ref q0, Value.ref q1, Value.ref q2, Value.ref q3, Value.ref q4, Value.ref q5, Value.ref q6, Value.ref q7, Value.ref q8, Value.ref q9, Value.ref q10, Value.int 0, Value.int 0, Value.int 0, Value.int 0, Value.int 0, Value.int 0, Value.int 0, Value.int 0, Value.int 0, Value.int 0, Value.int 0, Value.int 0, Value.ref q11, Value.ref q12, Value.int 0, Value.ref q13, Value.ref q14, Value.ref q15, Value.ref q16, Value.int 0, Value.int 0, Value.ref q17, Value.ref q18, Value.ref q19, Value.int 0, Value.ref q20, Value.ref q21, Value.ref q22, Value.ref q23, Value.int 0, Value.ref q24, Value.ref q25, Value.ref q26, Value.int 0, Value.ref q27, Value.null, Value.null, Value.null, Value.null, Value.null, Value.int 0], [cI E q0 4 fI_2, cI E q1 4 fI_3, cI E q2 4 fI_4, cI E q3 4 fI_5, cI E q4 8 fI_6, cI E q5 20 fI_7, cI E q6 20 fI_8, cI E q7 8 fI_9, cI E q8 8 fI_10, cI E q9 480 fI_11, cI E q10 400 fI_12, cI E q11 144 fI_25, cI E q12 16 fI_26, cZ E q13 65536 fI_28, cI E q14 65536 fI_29, cI E q15 16 fI_30, cI E q16 16 fI_31, cI E q17 40 fI_34, cI E q18 40 fI_35, cI E q19 40 fI_36, cI E q20 40 fI_38, cI E q21 40 fI_39, cI E q22 40 fI_40, cI E q23 40 fI_41, cI E q24 40 fI_43, cI E q25 40 fI_44, cI E q26 40 fI_45, cI E q27 10 fI_47]) 5 56 587 [some (.ref a54)] []
  refine bI_48 hC hM hini rfl 4 46 rfl (by decide) (fun q28 => ?_)
  show GI E a54 C ([Value.int 0, Value.int 0, Value.ref q0, Value.ref q1, Value.ref q2, Value.ref q3, Value.ref q4, Value.ref q5, Value.ref q6, Value.ref q7, Value.ref q8, Value.ref q9, Value.ref q10, Value.int 0, Value.int 0, Value.int 0, Value.int 0, Value.int 0, Value.int 0, Value.int 0, Value.int 0, Value.int 0, Value.int 0, Value.int 0, Value.int 0, Value.ref q11, Value.ref q12, Value.int 0, Value.ref q13, Value.ref q14, Value.ref q15, Value.ref q16, Value.int 0, Value.int 0, Value.ref q17, Value.ref q18, Value.ref q19, Value.int 0, Value.ref q20, Value.ref q21, Value.ref q22, Value.ref q23, Value.int 0, Value.ref q24, Value.ref q25, Value.ref q26, Value.int 0, Value.ref q27, Value.ref q28, Value.null, Value.null, Value.null, Value.null, Value.int 0], [cI E q0 4 fI_2, cI E q1 4 fI_3, cI E q2 4 fI_4, cI E q3 4 fI_5, cI E q4 8 fI_6, cI E q5 20 fI_7, cI E q6 20 fI_8, cI E q7 8 fI_9, cI E q8 8 fI_10, cI E q9 480 fI_11, cI E q10 400 fI_12, cI E q11 144 fI_25, cI E q12 16 fI_26, cZ E q13 65536 fI_28, cI E q14 65536 fI_29, cI E q15 16 fI_30, cI E q16 16 fI_31, cI E q17 40 fI_34, cI E q18 40 fI_35, cI E q19 40 fI_36, cI E q20 40 fI_38, cI E q21 40 fI_39, cI E q22 40 fI_40, cI E q23 40 fI_41, cI E q24 40 fI_43, cI E q25 40 fI_44, cI E q26 40 fI_45, cI E q27 10 fI_47, cI E q28 10 fI_48]) 4 46 595 [some (.ref a54)] []
  refine bI_49 hC hM hini rfl 3 36 rfl (by decide) (fun q29 => ?_)
  show GI E a54 C ([Value.int 0, Value.int 0, Value.ref q0, Value.ref q1, Value.ref q2, Value.ref q3, Value.ref q4, Value.ref q5, Value.ref q6, Value.ref q7, Value.ref q8, Value.ref q9, Value.ref q10, Value.int 0, Value.int 0, Value.int 0, Value.int 0, Value.int 0, Value.int 0, Value.int 0, Value.int 0, Value.int 0, Value.int 0, Value.int 0, Value.int 0, Value.ref q11, Value.ref q12, Value.int 0, Value.ref q13, Value.ref q14, Value.ref q15, Value.ref q16, Value.int 0, Value.int 0, Value.ref q17, Value.ref q18, Value.ref q19, Value.int 0, Value.ref q20, Value.ref q21, Value.ref q22, Value.ref q23, Value.int 0, Value.ref q24, Value.ref q25, Value.ref q26, Value.int 0, Value.ref q27, Value.ref q28, Value.ref q29, Value.null, Value.null, Value.null, Value.int 0], [cI E q0 4 fI_2, cI E q1 4 fI_3, cI E q2 4 fI_4, cI E q3 4 fI_5, cI E q4 8 fI_6, cI E q5 20 fI_7, cI E q6 20 fI_8, cI E q7 8 fI_9, cI E q8 8 fI_10, cI E q9 480 fI_11, cI E q10 400 fI_12, cI E q11 144 fI_25, cI E q12 16 fI_26, cZ E q13 65536 fI_28, cI E q14 65536 fI_29, cI E q15 16 fI_30, cI E q16 16 fI_31, cI E q17 40 fI_34, cI E q18 40 fI_35, cI E q19 40 fI_36, cI E q20 40 fI_38, cI E q21 40 fI_39, cI E q22 40 fI_40, cI E q23 40 fI_41, cI E q24 40 fI_43, cI E q25 40 fI_44, cI E q26 40 fI_45, cI E q27 10 fI_47, cI E q28 10 fI_48, cI E q29 10 fI_49]) 3 36 603 [some (.ref a54)] []
  refine bI_50 hC hM hini rfl 2 26 rfl (by decide) (fun q30 => ?_)
  show GI E a54 C ([Value.int 0, Value.int 0, Value.ref q0, Value.ref q1, Value.ref q2, Value.ref q3, Value.ref q4, Value.ref q5, Value.ref q6, Value.ref q7, Value.ref q8, Value.ref q9, Value.ref q10, Value.int 0, Value.int 0, Value.int 0, Value.int 0, Value.int 0, Value.int 0, Value.int 0, Value.int 0, Value.int 0, Value.int 0, Value.int 0, Value.int 0, Value.ref q11, Value.ref q12, Value.int 0, Value.ref q13, Value.ref q14, Value.ref q15, Value.ref q16, Value.int 0, Value.int 0, Value.ref q17, Value.ref q18, Value.ref q19, Value.int 0, Value.ref q20, Value.ref q21, Value.ref q22, Value.ref q23, Value.int 0, Value.ref q24, Value.ref q25, Value.ref q26, Value.int 0, Value.ref q27, Value.ref q28, Value.ref q29, Value.ref q30, Value.null, Value.null, Value.int 0], [cI E q0 4 fI_2, cI E q1 4 fI_3, cI E q2 4 fI_4, cI E q3 4 fI_5, cI E q4 8 fI_6, cI E q5 20 fI_7, cI E q6 20 fI_8, cI E q7 8 fI_9, cI E q8 8 fI_10, cI E q9 480 fI_11, cI E q10 400 fI_12, cI E q11 144 fI_25, cI E q12 16 fI_26, cZ E q13 65536 fI_28, cI E q14 65536 fI_29, cI E q15 16 fI_30, cI E q16 16 fI_31, cI E q17 40 fI_34, cI E q18 40 fI_35, cI E q19 40 fI_36, cI E q20 40 fI_38, cI E q21 40 fI_39, cI E q22 40 fI_40, cI E q23 40 fI_41, cI E q24 40 fI_43, cI E q25 40 fI_44, cI E q26 40 fI_45, cI E q27 10 fI_47, cI E q28 10 fI_48, cI E q29 10 fI_49, cI E q30 10 fI_50]) 2 26 611 [some (.ref a54)] []
  refine bI_51 hC hM hini rfl 1 16 rfl (by decide) (fun q31 => ?_)
  show GI E a54 C ([Value.int 0, Value.int 0, Value.ref q0, Value.ref q1, Value.ref q2, Value.ref q3, Value.ref q4, Value.ref q5, Value.ref q6, Value.ref q7, Value.ref q8, Value.ref q9, Value.ref q10, Value.int 0, Value.int 0, Value.int 0, Value.int 0, Value.int 0, Value.int 0, Value.int 0, Value.int 0, Value.int 0, Value.int 0, Value.int 0, Value.int 0, Value.ref q11, Value.ref q12, Value.int 0, Value.ref q13, Value.ref q14, Value.ref q15, Value.ref q16, Value.int 0, Value.int 0, Value.ref q17, Value.ref q18, Value.ref q19, Value.int 0, Value.ref q20, Value.ref q21, Value.ref q22, Value.ref q23, Value.int 0, Value.ref q24, Value.ref q25, Value.ref q26, Value.int 0, Value.ref q27, Value.ref q28, Value.ref q29, Value.ref q30, Value.ref q31, Value.null, Value.int 0], [cI E q0 4 fI_2, cI E q1 4 fI_3, cI E q2 4 fI_4, cI E q3 4 fI_5, cI E q4 8 fI_6, cI E q5 20 fI_7, cI E q6 20 fI_8, cI E q7 8 fI_9, cI E q8 8 fI_10, cI E q9 480 fI_11, cI E q10 400 fI_12, cI E q11 144 fI_25, cI E q12 16 fI_26, cZ E q13 65536 fI_28, cI E q14 65536 fI_29, cI E q15 16 fI_30, cI E q16 16 fI_31, cI E q17 40 fI_34, cI E q18 40 fI_35, cI E q19 40 fI_36, cI E q20 40 fI_38, cI E q21 40 fI_39, cI E q22 40 fI_40, cI E q23 40 fI_41, cI E q24 40 fI_43, cI E q25 40 fI_44, cI E q26 40 fI_45, cI E q27 10 fI_47, cI E q28 10 fI_48, cI E q29 10 fI_49, cI E q30 10 fI_50, cI E q31 10 fI_51]) 1 16 619 [some (.ref a54)] []
  refine bI_52 hC hM hini rfl 0 0 rfl (by decide) (fun q32 => ?_)
  show GI E a54 C ([Value.int 0, Value.int 0, Value.ref q0, Value.ref q1, Value.ref q2, Value.ref q3, Value.ref q4, Value.ref q5, Value.ref q6, Value.ref q7, Value.ref q8, Value.ref q9, Value.ref q10, Value.int 0, Value.int 0, Value.int 0, Value.int 0, Value.int 0, Value.int 0, Value.int 0, Value.int 0, Value.int 0, Value.int 0, Value.int 0, Value.int 0, Value.ref q11, Value.ref q12, Value.int 0, Value.ref q13, Value.ref q14, Value.ref q15, Value.ref q16, Value.int 0, Value.int 0, Value.ref q17, Value.ref q18, Value.ref q19, Value.int 0, Value.ref q20, Value.ref q21, Value.ref q22, Value.ref q23, Value.int 0, Value.ref q24, Value.ref q25, Value.ref q26, Value.int 0, Value.ref q27, Value.ref q28, Value.ref q29, Value.ref q30, Value.ref q31, Value.ref q32, Value.int 0], [cI E q0 4 fI_2, cI E q1 4 fI_3, cI E q2 4 fI_4, cI E q3 4 fI_5, cI E q4 8 fI_6, cI E q5 20 fI_7, cI E q6 20 fI_8, cI E q7 8 fI_9, cI E q8 8 fI_10, cI E q9 480 fI_11, cI E q10 400 fI_12, cI E q11 144 fI_25, cI E q12 16 fI_26, cZ E q13 65536 fI_28, cI E q14 65536 fI_29, cI E q15 16 fI_30, cI E q16 16 fI_31, cI E q17 40 fI_34, cI E q18 40 fI_35, cI E q19 40 fI_36, cI E q20 40 fI_38, cI E q21 40 fI_39, cI E q22 40 fI_40, cI E q23 40 fI_41, cI E q24 40 fI_43, cI E q25 40 fI_44, cI E q26 40 fI_45, cI E q27 10 fI_47, cI E q28 10 fI_48, cI E q29 10 fI_49, cI E q30 10 fI_50, cI E q31 10 fI_51, cI E q32 16 fI_52]) 0 0 627 [some (.ref a54)] []
  refine g_vret hC hQ (fun q z => hA ▸ z) rfl dX3_init_627 (fun H t ho ht hW hF => ⟨⟨mAdr a54 [q0, q1, q2, q3, q4, q5, q6, q7, q8, q9, q10, q11, q12, q13, q14, q15, q16, q17, q18, q19, q20, q21, q22, q23, q24, q25, q26, q27, q28, q29, q30, q31, q32], rfl, rfl, ?_⟩, hA ▸ hF⟩)
  rw [hA] at ho
  have hp := mI_post (qs := [q0, q1, q2, q3, q4, q5, q6, q7, q8, q9, q10, q11, q12, q13, q14, q15, q16, q17, q18, q19, q20, q21, q22, q23, q24, q25, q26, q27, q28, q29, q30, q31, q32]) ho mI_end
  unfold BI1
  rw [ht]
  exact hp
