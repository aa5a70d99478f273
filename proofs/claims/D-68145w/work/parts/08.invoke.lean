set_option maxRecDepth 10000
/-! rows: calls -/
def fx_oI (Q : Int32 → AH → Prop) (E : Nat → AH → Prop) : Outcome → AH → Prop := fun o h => (∃ v, o = .returned (some (.int v)) ∧ Q v h) ∨ ∃ a, o = .threw a ∧ E a h
def fx_oZ (Q : Int32 → AH → Prop) (E : Nat → AH → Prop) : Outcome → AH → Prop := fun o h => (∃ v, o = .returned (some (.int v)) ∧ zb v ∧ Q v h) ∨ ∃ a, o = .threw a ∧ E a h
def fx_oL (Q : Int64 → AH → Prop) (E : Nat → AH → Prop) : Outcome → AH → Prop := fun o h => (∃ v, o = .returned (some (.long v)) ∧ Q v h) ∨ ∃ a, o = .threw a ∧ E a h
def fx_oR (Q : Nat → AH → Prop) (E : Nat → AH → Prop) : Outcome → AH → Prop := fun o h => (∃ v, o = .returned (some (.ref v)) ∧ Q v h) ∨ ∃ a, o = .threw a ∧ E a h
def fx_oV (Q : AH → Prop) (E : Nat → AH → Prop) : Outcome → AH → Prop := fun o h => (o = .returned none ∧ Q h) ∨ ∃ a, o = .threw a ∧ E a h
/-- never -/
def fx_no : Nat → AH → Prop := fun _ _ => False
def fx_nMH (y : MethodName) : Prop := y.cls ≠ "java/lang/invoke/MethodHandle" ∧ y.cls ≠ "java/lang/invoke/VarHandle"
/-- a descriptor with so many parameters -/
abbrev fx_np (y : MethodName) (n : Nat) : Prop := (parseMethodDescriptor y.desc).map (fun d => d.parameters.length) = some n
theorem fx_np.use {y : MethodName} {n : Nat} (h : fx_np y n) {As : List Value} (hn : As.length = n) : ∀ sig, parseMethodDescriptor y.desc = some sig → As.length = sig.parameters.length := fun sig hs => by
  unfold fx_np at h
  rw [hs] at h
  exact hn.trans (Option.some.inj h).symm
section INVS
variable {p : Program} {l : Launch} {e : Env} {R : Room} {s : State} {m : MethodId} {args : Array Value} {below : List Frame} {meth : Method} {c : Code} {T : State} {locs : List Loc} {cells slots : Nat}
variable {D : DD} {y y' x' : MethodName} {cc cc' : ByteArray} {nL kf kw nL' : Nat} {ret ret' : Option FieldType} {hh hh' : List (Nat × Nat × Nat × Nat)} {h0 h : AH} {idx n : Nat} {g : JFrame} {As rest : List Value} {b : Nat} {Cn : String}
theorem fx_selW (C : fx_CX D y cc nL kf kw ret hh h0 p R s m meth c) (hw : Cond.selects Cn x' y' ∈ tables_1) : (Cond.selects Cn x' y').before args s = true := C.tw.at hw rfl rfl
theorem fx_selP (C : fx_CX D y cc nL kf kw ret hh h0 p R s m meth c) (hy : fx_nMH y') (hw1 : Cond.instantiable y'.cls n ∈ tables_1) (hw2 : Cond.privateMethod y' ∈ tables_1) (hw3 : Cond.instanceMethod y' ∈ tables_1) : (Cond.selects y'.cls y' y').before args s = true :=
  k2_selects_private hy (C.tw.at hw1 rfl rfl) (C.tw.at hw2 rfl rfl) (C.tw.at hw3 rfl rfl)
theorem fx_invV (C : fx_CX D y cc nL kf kw ret hh h0 p R s m meth c) (X : Stand p l e R s m args below meth c T locs cells slots) (hw1 : Cond.methodLink y.cls idx y' ∈ tables_1 ∨ ∃ host, Cond.methodLinkNest y.cls idx y' host ∈ tables_1) (hw2 : Cond.instanceMethod y' ∈ tables_1) (hsel : (Cond.selects Cn y' y').before args s = true) (hw3 : fx_hd y' cc' nL' ret' hh' ∈ tables_1) (hy : fx_nMH y')
    (hcb : ∃ cell : Cell, T.heap[b]? = some cell ∧ cell.vm.isStatics = false ∧ s.vm.findClass Cn = some cell.cls) (hg : g.method = m) (hnp : fx_np y' n) (hn : As.length = n) (hstack : g.stack = As.reverse ++ .ref b :: rest) (hdg : decode cc g.pc = .ok (.invokevirtual idx, 3)) :
    fx_Inv p l e R s m args below meth c T locs cells slots g rest y' (.ref b :: As) 3 := by
  obtain ⟨cellB, hcell, hobj, hcls⟩ := hcb
  have hinst : (Cond.instanceMethod y').before args s = true := C.tw.at hw2 rfl rfl
  have hhd : (fx_hd y' cc' nL' ret' hh').before args s = true := C.tw.at hw3 (by cases hh' <;> rfl) (by cases hh' <;> rfl)
  obtain ⟨mk, methM, hnamed, hmethM, hstM, habM⟩ := Cond.instanceMethod_spec hinst
  obtain ⟨methM', cM, hmethM', -, -, -, -, -, -, hsigM⟩ := fx_hd_spec hnamed hhd
  cases hmethM.symm.trans hmethM'
  obtain ⟨c2, r2, m2, q1, q2, q3, q4, kP, hkP, hkPi⟩ := Cond.selects_spec hsel
  cases hcls.symm.trans q1
  cases (State.methodFound?_of_named hnamed hy).symm.trans q2
  cases hnamed.symm.trans q3
  have hselP : selectMethod e.platform s.vm cellB.cls mk = .method mk := by rw [Launch.admits_selectMethod X.admits]; exact q4
  have hdg' : decode c.code g.pc = .ok (.invokevirtual idx, 3) := by rw [C.by]; exact hdg
  rcases hw1 with hw1 | ⟨host, hw1⟩
  · obtain ⟨vm₁, X₁, hstep₁⟩ := X.invokevirtual C.ex C.ow (C.tw.at hw1 rfl rfl) hnamed hmethM hstM hkP hkPi hy (a := b) (cell := cellB) hcell
      (fun z h => by rw [h] at hobj; cases hobj) hselP hmethM habM hkP hkPi (g := g) hg (argsL := As) (rest := rest) (hnp.use hn _ hsigM) hstack hdg'
    exact ⟨⟨_, hdg'⟩, vm₁, mk, X₁.warmed, X₁, X₁.named hnamed, hstep₁⟩
  · obtain ⟨vm₁, X₁, hstep₁⟩ := X.invokevirtualNest C.ex C.ow (C.tw.at hw1 rfl rfl) hnamed hmethM hstM hkP hkPi hy (a := b) (cell := cellB) hcell
      (fun z h => by rw [h] at hobj; cases hobj) hselP hmethM habM hkP hkPi (g := g) hg (argsL := As) (rest := rest) (hnp.use hn _ hsigM) hstack hdg'
    exact ⟨⟨_, hdg'⟩, vm₁, mk, X₁.warmed, X₁, X₁.named hnamed, hstep₁⟩
theorem fx_invU {owner : String} (C : fx_CX D y cc nL kf kw ret hh h0 p R s m meth c) (X : Stand p l e R s m args below meth c T locs cells slots) (hw1 : Cond.methodLink y.cls idx x' ∈ tables_1) (hws : Cond.sameMethod x'.cls owner x'.name x'.desc ∈ tables_1) (hwd : Cond.declares ⟨owner, x'.name, x'.desc⟩ ∈ tables_1) (hw2 : Cond.instanceMethod y' ∈ tables_1) (hsel : (Cond.selects Cn x' y').before args s = true)
    (howner : owner ≠ "java/lang/invoke/MethodHandle" ∧ owner ≠ "java/lang/invoke/VarHandle") (hcb : ∃ cell : Cell, T.heap[b]? = some cell ∧ cell.vm.isStatics = false ∧ s.vm.findClass Cn = some cell.cls) (hg : g.method = m) (hnp : fx_np x' n) (hn : As.length = n) (hstack : g.stack = As.reverse ++ .ref b :: rest) (hdg : decode cc g.pc = .ok (.invokevirtual idx, 3)) :
    fx_Inv p l e R s m args below meth c T locs cells slots g rest y' (.ref b :: As) 3 := by
  obtain ⟨cellB, hcell, hobj, hcls⟩ := hcb
  have hinst : (Cond.instanceMethod y').before args s = true := C.tw.at hw2 rfl rfl
  have hsame : (Cond.sameMethod x'.cls owner x'.name x'.desc).before args s = true := C.tw.at hws rfl rfl
  obtain ⟨r0, r, hn0, hrm, hstR, hsigR⟩ := va_Decl.abs (s := s) (x := ⟨owner, x'.name, x'.desc⟩) (C.tw.at hwd rfl rfl)
  obtain ⟨cn, ck, r1, hcn, hck, hni, hf, hn1⟩ := Cond.sameMethod_found hsame
  cases hn0.symm.trans hn1
  obtain ⟨mk, methM, hnamed, hmethM, -, habM⟩ := Cond.instanceMethod_spec hinst
  obtain ⟨c2, r2, m2, q1, q2, q3, q4, kP, hkP, hkPi⟩ := Cond.selects_spec hsel
  cases hcls.symm.trans q1
  cases hf.symm.trans q2
  cases hnamed.symm.trans q3
  have hselP : selectMethod e.platform s.vm cellB.cls r0 = .method mk := by rw [Launch.admits_selectMethod X.admits]; exact q4
  have hdg' : decode c.code g.pc = .ok (.invokevirtual idx, 3) := by rw [C.by]; exact hdg
  obtain ⟨vm₁, X₁, hstep₁⟩ := X.invokevirtualUp C.ex C.ow (C.tw.at hw1 rfl rfl) hsame howner hn0 hrm hstR (a := b) (cell := cellB) hcell
    (fun z h => by rw [h] at hobj; cases hobj) hselP hmethM habM hkP hkPi (g := g) hg (argsL := As) (rest := rest) (hnp.use hn _ hsigR) hstack hdg'
  exact ⟨⟨_, hdg'⟩, vm₁, mk, X₁.warmed, X₁, X₁.named hnamed, hstep₁⟩
theorem fx_invS (C : fx_CX D y cc nL kf kw ret hh h0 p R s m meth c) (X : Stand p l e R s m args below meth c T locs cells slots) (hw1 : Cond.methodLink y.cls idx y' ∈ tables_1 ∨ ∃ host, Cond.methodLinkNest y.cls idx y' host ∈ tables_1) (hw2 : Cond.static y' ∈ tables_1) (hw4 : Cond.initialized y'.cls ∈ tables_1) (hw3 : fx_hd y' cc' nL' ret' hh' ∈ tables_1) (hy : fx_nMH y')
    (hg : g.method = m) (hnp : fx_np y' n) (hn : As.length = n) (hstack : g.stack = As.reverse ++ rest) (hdg : decode cc g.pc = .ok (.invokestatic idx, 3)) :
    fx_Inv p l e R s m args below meth c T locs cells slots g rest y' As 3 := by
  have hhd : (fx_hd y' cc' nL' ret' hh').before args s = true := C.tw.at hw3 (by cases hh' <;> rfl) (by cases hh' <;> rfl)
  obtain ⟨mk, hnamed⟩ : ∃ mk, s.methodNamed? y' = some mk := by
    cases hh' with
    | nil => exact Cond.code_named hhd
    | cons q r => obtain ⟨m', _, _, hn', -⟩ := Cond.codeWith_spec hhd; exact ⟨m', hn'⟩
  obtain ⟨methM, cM, hmethM, -, -, -, -, -, -, hsigM⟩ := fx_hd_spec hnamed hhd
  have hstatic : methM.isStatic = true := Cond.static_spec hnamed hmethM (C.tw.at (A := args) hw2 rfl rfl)
  obtain ⟨kP, hkP, -⟩ := className_of_methodNamed hnamed
  have hinitP : kP.init = .initialized := Cond.initialized_spec (findClass_of_methodNamed hnamed) hkP (C.tw.at (A := args) hw4 rfl rfl)
  have hdg' : decode c.code g.pc = .ok (.invokestatic idx, 3) := by rw [C.by]; exact hdg
  rcases hw1 with hw1 | ⟨host, hw1⟩
  · obtain ⟨vm₁, X₁, hstep₁⟩ := X.invokestatic C.ex C.ow (C.tw.at hw1 rfl rfl) hnamed hmethM hstatic hkP hinitP hy (g := g) hg (argsL := As) (rest := rest) (hnp.use hn _ hsigM) hstack hdg'
    exact ⟨⟨_, hdg'⟩, vm₁, mk, X₁.warmed, X₁, X₁.named hnamed, hstep₁⟩
  · obtain ⟨vm₁, X₁, hstep₁⟩ := X.invokestaticNest C.ex C.ow (C.tw.at hw1 rfl rfl) hnamed hmethM hstatic hkP hinitP hy (g := g) hg (argsL := As) (rest := rest) (hnp.use hn _ hsigM) hstack hdg'
    exact ⟨⟨_, hdg'⟩, vm₁, mk, X₁.warmed, X₁, X₁.named hnamed, hstep₁⟩
theorem fx_invI (C : fx_CX D y cc nL kf kw ret hh h0 p R s m meth c) (X : Stand p l e R s m args below meth c T locs cells slots) (hw1 : Cond.methodLink y.cls idx y' ∈ tables_1 ∨ ∃ host, Cond.methodLinkNest y.cls idx y' host ∈ tables_1) (hw2 : Cond.instanceMethod y' ∈ tables_1) (hw3 : Cond.code y' cc' nL' none ∈ tables_1) (hy : fx_nMH y') (hini : y'.name = "<init>")
    (hg : g.method = m) (hnp : fx_np y' n) (hn : As.length = n) (hstack : g.stack = As.reverse ++ .ref b :: rest) (hdg : decode cc g.pc = .ok (.invokespecial idx, 3)) :
    fx_Inv p l e R s m args below meth c T locs cells slots g rest y' (.ref b :: As) 3 := by
  subst hg
  have hpl : e.platform.magicAccessors = ({} : Platform).magicAccessors := by rw [X.admits.platform]
  have hdg' : decode c.code g.pc = .ok (.invokespecial idx, 3) := by rw [C.by]; exact hdg
  rcases hw1 with hw1 | ⟨host, hw1⟩
  · obtain ⟨mk, methM, cM, kP, vm₁, hnamed, hmethM, hcodeM, -, hlocalsM, -, hkP, -, hW₁, hstep₁⟩ := Steps.initColdArgs (e := e) X.here C.ex X.warmed hpl C.ow hini hy (C.tw.at (A := args) hw1 rfl rfl) (C.tw.at (A := args) hw2 rfl rfl) (C.tw.at (A := args) hw3 rfl rfl) (f := g) rfl (hnp.use hn) hstack hdg'
    have X₁ := X.noted hW₁
    exact ⟨⟨_, hdg'⟩, vm₁, mk, X₁.warmed, X₁, X₁.named hnamed, hstep₁⟩
  · obtain ⟨mk, methM, cM, kP, vm₁, hnamed, hmethM, hcodeM, -, hlocalsM, -, hkP, -, hW₁, hstep₁⟩ := Steps.initColdArgsNest (e := e) X.here C.ex X.warmed hpl C.ow hini hy (C.tw.at (A := args) hw1 rfl rfl) (C.tw.at (A := args) hw2 rfl rfl) (C.tw.at (A := args) hw3 rfl rfl) (f := g) rfl (hnp.use hn) hstack hdg'
    have X₁ := X.noted hW₁
    exact ⟨⟨_, hdg'⟩, vm₁, mk, X₁.warmed, X₁, X₁.named hnamed, hstep₁⟩
theorem fx_invF {count : Nat} (C : fx_CX D y cc nL kf kw ret hh h0 p R s m meth c) (X : Stand p l e R s m args below meth c T locs cells slots) (hw1 : Cond.methodLink y.cls idx x' ∈ tables_1) (hw2 : Cond.instanceMethod y' ∈ tables_1) (hwd : Cond.declares x' ∈ tables_1) (hwi : Cond.interfaceMethod x'.cls x'.cls x'.name x'.desc ∈ tables_1) (hgi : fx_good (Cond.interfaceMethod x'.cls x'.cls x'.name x'.desc) = true) (hwp : Cond.publicMethod y' ∈ tables_1) (hwu : Cond.unhidden Cn x'.name x'.desc ∈ tables_1) (hwc : Cond.castable Cn x'.cls ∈ tables_1) (hws : Cond.selects Cn x' y' ∈ tables_1) (hy : fx_nMH x')
    (hcb : ∃ cell : Cell, T.heap[b]? = some cell ∧ cell.vm.isStatics = false ∧ s.vm.findClass Cn = some cell.cls) (hg : g.method = m) (hnp : fx_np x' n) (hn : As.length = n) (hstack : g.stack = As.reverse ++ .ref b :: rest) (hdg : decode cc g.pc = .ok (.invokeinterface idx count, 5)) :
    fx_Inv p l e R s m args below meth c T locs cells slots g rest y' (.ref b :: As) 5 := by
  obtain ⟨cellB, hcell, hobj, hcls⟩ := hcb
  obtain ⟨kB, hkB, -⟩ := Vm.findClass_spec hcls
  have hinst : (Cond.instanceMethod y').before args s = true := C.tw.at hw2 rfl rfl
  obtain ⟨r0, r, hn0, hrm, hstR, hsigR⟩ := Cond.declares_spec (C.tw.at (A := args) hwd rfl rfl)
  obtain ⟨cL, kL, r1, hcL, hkL, hiL, hfoundL, hn1⟩ := Cond.interfaceMethod_spec (C.tw.at (A := args) hwi hgi rfl)
  cases hn0.symm.trans hn1
  have hr0cls : r0.cls = cL := Option.some.inj ((findClass_of_methodNamed hn0).symm.trans hcL)
  obtain ⟨hnameR, hdescR⟩ := name_of_methodNamed hn0 hrm
  obtain ⟨mk, methM, hnamed, hmethM, -, habM⟩ := Cond.instanceMethod_spec hinst
  obtain ⟨c2, r2, m2, q1, q2, q3, q4, -⟩ := Cond.selects_spec (C.tw.at (A := args) hws rfl rfl)
  cases hcls.symm.trans q1
  cases hfoundL.symm.trans q2
  cases hnamed.symm.trans q3
  have hselP : selectMethod e.platform s.vm cellB.cls r0 = .method mk := by rw [Launch.admits_selectMethod X.admits]; exact q4
  have hpubM : hasFlag methM.accessFlags Acc.public_ = true := Cond.publicMethod_spec hnamed hmethM (C.tw.at (A := args) hwp rfl rfl)
  have hway : ((cellB.cls :: s.vm.superclasses cellB.cls).any fun k => (declaredIn s.vm r.name r.desc k).any fun (_, z) => z.isPrivate || z.isStatic) = false := by
    rw [hnameR, hdescR]; exact Cond.unhidden_spec hcls (C.tw.at (A := args) hwu rfl rfl)
  obtain ⟨c3, t3, w1, w2, w3⟩ := Cond.castable_spec (C.tw.at (A := args) hwc rfl rfl)
  cases hcls.symm.trans w1
  cases hcL.symm.trans w2
  have hdg' : decode c.code g.pc = .ok (.invokeinterface idx count, 5) := by rw [C.by]; exact hdg
  obtain ⟨vm₁, X₁, hstep₁⟩ := X.invokeinterface C.ex C.ow (C.tw.at hw1 rfl rfl) hn0 hrm hstR (by rw [hr0cls]; exact hkL) hiL hy (a := b) (cell := cellB) (kcell := kB) hcell
    (fun z h => by rw [h] at hobj; cases hobj) hkB (by rw [hr0cls]; exact w3) hselP hmethM hway hpubM habM (g := g) hg (argsL := As) (rest := rest) (hnp.use hn _ hsigR) hstack hdg'
  exact ⟨⟨_, hdg'⟩, vm₁, mk, X₁.warmed, X₁, X₁.named hnamed, hstep₁⟩
end INVS
section CALLS
variable {p : Program} {l : Launch} {e : Env} {R : Room} {s : State} {m : MethodId} {args : Array Value} {below : List Frame} {meth : Method} {c : Code} {H : Heap} {locs : List Loc} {cells slots : Nat} {Z : State → Prop}
variable {D : DD} {y y' : MethodName} {cc cc' : ByteArray} {nL kf kw nL' kf' kw' len : Nat} {ret ret' : Option FieldType} {hh hh' : List (Nat × Nat × Nat × Nat)} {h0 h : AH} {QO : Outcome → AH → Prop} {E : Nat → AH → Prop}
variable {pc : Nat} {ls : Array Slot} {rest st av : List Value}
/-- the call is about to be made, from every state with this heap -/
def fx_IV (p : Program) (l : Launch) (e : Env) (R : Room) (s : State) (m : MethodId) (args : Array Value) (below : List Frame) (meth : Method) (c : Code) (H : Heap) (locs : List Loc) (cells slots : Nat) (g : JFrame) (rest : List Value) (y : MethodName) (av : List Value) (len : Nat) : Prop :=
  ∀ T : State, T.heap = H → Stand p l e R s m args below meth c T locs cells slots → fx_Inv p l e R s m args below meth c T locs cells slots g rest y av len
theorem fx_call {Qc : Outcome → AH → Prop} (C : fx_CX D y cc nL kf kw ret hh h0 p R s m meth c) (F : fx_F D h0 h H locs cells slots) (hM : fx_Mt l D y' (fx_hd y' cc' nL' ret' hh') kf' kw' av h Qc) (hm1 : fx_hd y' cc' nL' ret' hh' ∈ tables_1) (hm2 : Cond.initialized y'.cls ∈ tables_1) (hls : ls.size = nL) (hfr : kf' + 1 ≤ kf) (hlo : (rest.map fun v => v.category).sum + (nL' + 11) + kw' ≤ kw)
    (I : fx_IV p l e R s m args below meth c H locs cells slots (F0 m pc ls st) rest y' av len)
    (kr : ∀ (v : Option Value) (h' : AH) (H : Heap) (locs : List Loc) (cells slots : Nat), Qc (.returned v) h' → fx_ext h h' → fx_F D h0 h' H locs cells slots → W p l e R s m args below meth c H locs cells slots Z (F0 m (pc + len) ls (v.toList ++ rest)))
    (kt : ∀ (a : Nat) (h' : AH) (T : State) (locs : List Loc) (cells slots : Nat), Qc (.threw a) h' → fx_ext h h' → fx_F D h0 h' T.heap locs cells slots → Stand p l e R s m args below meth c T locs cells slots → ∃ t, Steps p.tables e below ((T.setTop (F0 m pc ls rest)).pushFrame (.throwing a)) t ∧ Z t) :
    W p l e R s m args below meth c H locs cells slots Z (F0 m pc ls st) := by
  intro T hT X
  subst hT
  obtain ⟨o, h', T', locs', cells', slots', hQ, hx, hF, hS, hr, ht⟩ := fx_invoke (g := F0 m pc ls st) C hM F hm1 hm2 rfl hls hfr (by show 2 * 0 + _ + _ + _ ≤ _; omega) (I T rfl X)
  cases o with
  | returned v =>
    obtain ⟨t, a1, b1⟩ := kr v h' _ _ _ _ hQ hx hF T' rfl hS
    exact ⟨t, hr v rfl t a1, b1⟩
  | threw a =>
    obtain ⟨t, a1, b1⟩ := kt a h' T' _ _ _ hQ hx hF hS
    exact ⟨t, ht a rfl t a1, b1⟩
/-- an exception of the callee's goes on -/
theorem fx_up {a : Nat} {T : State} {h' : AH} (C : fx_CX D y cc nL kf kw ret hh h0 p R s m meth c) (hout : ∀ x ∈ tableOf hh, covers x pc = false) (F : fx_F D h0 h' T.heap locs cells slots) (X : Stand p l e R s m args below meth c T locs cells slots) (hq : QO (.threw a) h') : ∃ t, Steps p.tables e below ((T.setTop (F0 m pc ls rest)).pushFrame (.throwing a)) t ∧ fx_Z D below s h0 QO t :=
  fx_leave C X F (g := F0 m pc ls rest) rfl rfl rfl hout hq
theorem fx_callI {Q : Int32 → AH → Prop} (C : fx_CX D y cc nL kf kw ret hh h0 p R s m meth c) (F : fx_F D h0 h H locs cells slots) (hM : fx_Mt l D y' (fx_hd y' cc' nL' ret' hh') kf' kw' av h (fx_oI Q E)) (hm1 : fx_hd y' cc' nL' ret' hh' ∈ tables_1) (hm2 : Cond.initialized y'.cls ∈ tables_1) (hls : ls.size = nL) (hfr : kf' + 1 ≤ kf) (hlo : (rest.map fun v => v.category).sum + (nL' + 11) + kw' ≤ kw)
    (I : fx_IV p l e R s m args below meth c H locs cells slots (F0 m pc ls st) rest y' av len) (hout : ∀ x ∈ tableOf hh, covers x pc = false) (he : ∀ a h', E a h' → fx_ext h h' → QO (.threw a) h')
    (kr : ∀ (v : Int32) (h' : AH) (H : Heap) (locs : List Loc) (cells slots : Nat), Q v h' → fx_ext h h' → fx_F D h0 h' H locs cells slots → W p l e R s m args below meth c H locs cells slots (fx_Z D below s h0 QO) (F0 m (pc + len) ls (.int v :: rest))) : W p l e R s m args below meth c H locs cells slots (fx_Z D below s h0 QO) (F0 m pc ls st) := by
  refine fx_call C F hM hm1 hm2 hls hfr hlo I (fun v h' H locs cells slots hQ hx hF => ?_) (fun a h' T locs cells slots hQ hx hF hS => ?_)
  · rcases hQ with ⟨w, hw, hQ⟩ | ⟨a, ha, -⟩
    · cases hw; exact kr w h' H locs cells slots hQ hx hF
    · cases ha
  · rcases hQ with ⟨w, hw, hQ⟩ | ⟨a, ha, hE⟩
    · cases hw
    · cases ha; exact fx_up C hout hF hS (he _ _ hE hx)
theorem fx_callZ {Q : Int32 → AH → Prop} (C : fx_CX D y cc nL kf kw ret hh h0 p R s m meth c) (F : fx_F D h0 h H locs cells slots) (hM : fx_Mt l D y' (fx_hd y' cc' nL' ret' hh') kf' kw' av h (fx_oZ Q E)) (hm1 : fx_hd y' cc' nL' ret' hh' ∈ tables_1) (hm2 : Cond.initialized y'.cls ∈ tables_1) (hls : ls.size = nL) (hfr : kf' + 1 ≤ kf) (hlo : (rest.map fun v => v.category).sum + (nL' + 11) + kw' ≤ kw)
    (I : fx_IV p l e R s m args below meth c H locs cells slots (F0 m pc ls st) rest y' av len) (hout : ∀ x ∈ tableOf hh, covers x pc = false) (he : ∀ a h', E a h' → fx_ext h h' → QO (.threw a) h')
    (kr : ∀ (v : Int32) (h' : AH) (H : Heap) (locs : List Loc) (cells slots : Nat), Q v h' → fx_ext h h' → zb v → fx_F D h0 h' H locs cells slots → W p l e R s m args below meth c H locs cells slots (fx_Z D below s h0 QO) (F0 m (pc + len) ls (.int v :: rest))) : W p l e R s m args below meth c H locs cells slots (fx_Z D below s h0 QO) (F0 m pc ls st) := by
  refine fx_call C F hM hm1 hm2 hls hfr hlo I (fun v h' H locs cells slots hQ hx hF => ?_) (fun a h' T locs cells slots hQ hx hF hS => ?_)
  · rcases hQ with ⟨w, hw, hz, hQ⟩ | ⟨a, ha, -⟩
    · cases hw; exact kr w h' H locs cells slots hQ hx hz hF
    · cases ha
  · rcases hQ with ⟨w, hw, hQ⟩ | ⟨a, ha, hE⟩
    · cases hw
    · cases ha; exact fx_up C hout hF hS (he _ _ hE hx)
theorem fx_callL {Q : Int64 → AH → Prop} (C : fx_CX D y cc nL kf kw ret hh h0 p R s m meth c) (F : fx_F D h0 h H locs cells slots) (hM : fx_Mt l D y' (fx_hd y' cc' nL' ret' hh') kf' kw' av h (fx_oL Q E)) (hm1 : fx_hd y' cc' nL' ret' hh' ∈ tables_1) (hm2 : Cond.initialized y'.cls ∈ tables_1) (hls : ls.size = nL) (hfr : kf' + 1 ≤ kf) (hlo : (rest.map fun v => v.category).sum + (nL' + 11) + kw' ≤ kw)
    (I : fx_IV p l e R s m args below meth c H locs cells slots (F0 m pc ls st) rest y' av len) (hout : ∀ x ∈ tableOf hh, covers x pc = false) (he : ∀ a h', E a h' → fx_ext h h' → QO (.threw a) h')
    (kr : ∀ (v : Int64) (h' : AH) (H : Heap) (locs : List Loc) (cells slots : Nat), Q v h' → fx_ext h h' → fx_F D h0 h' H locs cells slots → W p l e R s m args below meth c H locs cells slots (fx_Z D below s h0 QO) (F0 m (pc + len) ls (.long v :: rest))) : W p l e R s m args below meth c H locs cells slots (fx_Z D below s h0 QO) (F0 m pc ls st) := by
  refine fx_call C F hM hm1 hm2 hls hfr hlo I (fun v h' H locs cells slots hQ hx hF => ?_) (fun a h' T locs cells slots hQ hx hF hS => ?_)
  · rcases hQ with ⟨w, hw, hQ⟩ | ⟨a, ha, -⟩
    · cases hw; exact kr w h' H locs cells slots hQ hx hF
    · cases ha
  · rcases hQ with ⟨w, hw, hQ⟩ | ⟨a, ha, hE⟩
    · cases hw
    · cases ha; exact fx_up C hout hF hS (he _ _ hE hx)
theorem fx_callR {Q : Nat → AH → Prop} (C : fx_CX D y cc nL kf kw ret hh h0 p R s m meth c) (F : fx_F D h0 h H locs cells slots) (hM : fx_Mt l D y' (fx_hd y' cc' nL' ret' hh') kf' kw' av h (fx_oR Q E)) (hm1 : fx_hd y' cc' nL' ret' hh' ∈ tables_1) (hm2 : Cond.initialized y'.cls ∈ tables_1) (hls : ls.size = nL) (hfr : kf' + 1 ≤ kf) (hlo : (rest.map fun v => v.category).sum + (nL' + 11) + kw' ≤ kw)
    (I : fx_IV p l e R s m args below meth c H locs cells slots (F0 m pc ls st) rest y' av len) (hout : ∀ x ∈ tableOf hh, covers x pc = false) (he : ∀ a h', E a h' → fx_ext h h' → QO (.threw a) h')
    (kr : ∀ (v : Nat) (h' : AH) (H : Heap) (locs : List Loc) (cells slots : Nat), Q v h' → fx_ext h h' → fx_F D h0 h' H locs cells slots → W p l e R s m args below meth c H locs cells slots (fx_Z D below s h0 QO) (F0 m (pc + len) ls (.ref v :: rest))) : W p l e R s m args below meth c H locs cells slots (fx_Z D below s h0 QO) (F0 m pc ls st) := by
  refine fx_call C F hM hm1 hm2 hls hfr hlo I (fun v h' H locs cells slots hQ hx hF => ?_) (fun a h' T locs cells slots hQ hx hF hS => ?_)
  · rcases hQ with ⟨w, hw, hQ⟩ | ⟨a, ha, -⟩
    · cases hw; exact kr w h' H locs cells slots hQ hx hF
    · cases ha
  · rcases hQ with ⟨w, hw, hQ⟩ | ⟨a, ha, hE⟩
    · cases hw
    · cases ha; exact fx_up C hout hF hS (he _ _ hE hx)
theorem fx_callV {Q : AH → Prop} (C : fx_CX D y cc nL kf kw ret hh h0 p R s m meth c) (F : fx_F D h0 h H locs cells slots) (hM : fx_Mt l D y' (fx_hd y' cc' nL' ret' hh') kf' kw' av h (fx_oV Q E)) (hm1 : fx_hd y' cc' nL' ret' hh' ∈ tables_1) (hm2 : Cond.initialized y'.cls ∈ tables_1) (hls : ls.size = nL) (hfr : kf' + 1 ≤ kf) (hlo : (rest.map fun v => v.category).sum + (nL' + 11) + kw' ≤ kw)
    (I : fx_IV p l e R s m args below meth c H locs cells slots (F0 m pc ls st) rest y' av len) (hout : ∀ x ∈ tableOf hh, covers x pc = false) (he : ∀ a h', E a h' → fx_ext h h' → QO (.threw a) h')
    (kr : ∀ (h' : AH) (H : Heap) (locs : List Loc) (cells slots : Nat), Q h' → fx_ext h h' → fx_F D h0 h' H locs cells slots → W p l e R s m args below meth c H locs cells slots (fx_Z D below s h0 QO) (F0 m (pc + len) ls rest)) : W p l e R s m args below meth c H locs cells slots (fx_Z D below s h0 QO) (F0 m pc ls st) := by
  refine fx_call C F hM hm1 hm2 hls hfr hlo I (fun v h' H locs cells slots hQ hx hF => ?_) (fun a h' T locs cells slots hQ hx hF hS => ?_)
  · rcases hQ with ⟨hw, hQ⟩ | ⟨a, ha, -⟩
    · cases hw; exact kr h' H locs cells slots hQ hx hF
    · cases ha
  · rcases hQ with ⟨hw, hQ⟩ | ⟨a, ha, hE⟩
    · cases hw
    · cases ha; exact fx_up C hout hF hS (he _ _ hE hx)
end CALLS
