set_option maxRecDepth 10000
/-! the constant arrays' static fields -/
def fx_st : List (String × String × String) := [("ChainJudge", "ROOTS", "[J"), ("ChainJudge", "FIRST", "[J"), ("ChainJudge", "AT_NAME", "[B"), ("ChainJudge", "CONSTRAINTS", "[B"), ("ChainJudge", "USAGE", "[B"), ("ChainJudge", "HOSTS", "[B"), ("ChainJudge", "PURPOSES", "[B"), ("ChainJudge", "SERVER", "[B"), ("ChainJudge", "CLIENT", "[B"), ("ChainJudge", "UNKNOWN", "[B"), ("ChainJudge", "KEYED", "[B"), ("java/util/ArrayList", "DEFAULTCAPACITY_EMPTY_ELEMENTDATA", "[Ljava/lang/Object;")]
def fx_hw : List Cond := [.laysStatic Bundle.tN "UNASSIGNED_STACK" Bundle.steD, .laysStatic Bundle.tN "SUPPRESSED_SENTINEL" Bundle.listD, .isRef (.static Bundle.tN "UNASSIGNED_STACK" Bundle.steD), .isRef (.static Bundle.tN "SUPPRESSED_SENTINEL" Bundle.listD)]
/-- classes between which no cast goes -/
def fx_nc : List (String × String) := [("java/lang/IllegalArgumentException", "java/util/NoSuchElementException"), ("java/lang/UnsupportedOperationException", "java/util/NoSuchElementException"), ("java/lang/UnsupportedOperationException", "java/lang/IllegalArgumentException"), ("java/lang/IllegalStateException", "java/util/NoSuchElementException"), ("java/lang/IllegalStateException", "java/lang/IllegalArgumentException"), ("java/lang/IllegalStateException", "java/lang/UnsupportedOperationException"), ("java/lang/IllegalStateException", "java/lang/IndexOutOfBoundsException"), ("java/lang/IndexOutOfBoundsException", "java/util/NoSuchElementException")]
/-- what is known of the state at the law's start -/
def fx_ok (D : DD) : Prop := (∀ ci r, fx_cl[ci]? = some r → u_Kn D.2.2.1 r.1 r.2.1 r.2.2 (D.1 ci) (D.2.1 ci)) ∧ (∀ (i : Nat) (q : String × String × String), fx_st[i]? = some q → va_Z q.1 q.2.1 q.2.2 (.ref (D.2.2.2 i)) (fun a => fx_b D ≤ a) D.2.2.1 D.2.2.1.heap) ∧ (∀ w ∈ fx_hw, w.before #[] D.2.2.1 = true) ∧ (∀ q ∈ fx_nc, va_Nc q.1 q.2 D.2.2.1) ∧ va_Mi "[Ljava/lang/Object;" (D.2.2.2 12) D.2.2.1
def fx_rm (D : DD) (kf kw : Nat) (h : AH) : Room := { frames := kf, cells := fx_top D - hp_z h, slots := 7293034 - hp_s h, locals := kw }
/-- the state holds the flat heap -/
def fx_Rp (D : DD) (h : AH) (U : State) : Prop := fx_ok D ∧ fx_rep D h U.heap ∧ D.2.2.1.vm.Alike U.vm ∧ fx_TW U ∧ hp_z h ≤ fx_top D ∧ hp_s h ≤ 7293034
/-- a method's end -/
def fx_end (D : DD) (s : State) (h0 : AH) (Q : Outcome → AH → Prop) (o : Outcome) (t : State) : Prop := ∃ (h' : AH) (L : List Loc), Q o h' ∧ fx_rep D h' t.heap ∧ fx_ext h0 h' ∧ hp_z h0 ≤ hp_z h' ∧ hp_z h' ≤ fx_top D ∧ hp_s h0 ≤ hp_s h' ∧ hp_s h' ≤ 7293034 ∧ s.WarmedH t.vm ∧ s.sameButNew ({ t with vm := s.vm } : State) L (hp_z h' - hp_z h0) (hp_s h' - hp_s h0) ∧ ∀ q ∈ L, fx_b D ≤ q.base
def fx_Z (D : DD) (below : List Frame) (s : State) (h0 : AH) (Q : Outcome → AH → Prop) : State → Prop := fun t => ∃ o, t.status = .running ∧ Ended t below o ∧ fx_end D s h0 Q o t
/-- a method's code, with its table of handlers -/
def fx_hd (y : MethodName) (cc : ByteArray) (nL : Nat) (ret : Option FieldType) (hh : List (Nat × Nat × Nat × Nat)) : Cond := match hh with
  | [] => .code y cc nL ret
  | hh => .codeWith y cc nL ret hh
theorem fx_hd_spec {s : State} {a : Array Value} {y : MethodName} {cc : ByteArray} {nL : Nat} {ret : Option FieldType} {hh : List (Nat × Nat × Nat × Nat)} {m : MethodId} (hn : s.methodNamed? y = some m) (h : (fx_hd y cc nL ret hh).before a s = true) :
    ∃ meth c, s.vm.method? m = some meth ∧ meth.code = some c ∧ c.code = cc ∧ c.maxLocals = nL ∧ meth.sig.returnType = ret ∧ meth.locks = false ∧ c.exceptionTable.toList = tableOf hh ∧ parseMethodDescriptor y.desc = some meth.sig := by
  cases hh with
  | nil =>
    obtain ⟨meth, c, h1, h2, h3, h4, h5, h6, h7, h8⟩ := Cond.code_spec hn h
    refine ⟨meth, c, h1, h2, h3, h4, h5, h6, ?_, h8⟩
    have : c.exceptionTable = #[] := by simpa using h7
    rw [this]; rfl
  | cons q r =>
    obtain ⟨m', meth, c, hn', h1, h2, h3, h4, h7, h5, h6, h8⟩ := Cond.codeWith_spec h
    cases hn.symm.trans hn'
    refine ⟨meth, c, h1, h2, h3, h4, h5, h6, ?_, h8⟩
    rw [← h7, table_eq]
/-- the contract of a method at a flat heap -/
def fx_Mt (l : Launch) (D : DD) (y : MethodName) (hd : Cond) (kf kw : Nat) (av : List Value) (h : AH) (Q : Outcome → AH → Prop) : Prop :=
  MetFree l y (headSpec [hd] (fx_rm D kf kw h)) (fun a s => a = av.toArray ∧ fx_Rp D h s) (fun _ _ _ _ _ => True) (fun _ s o t => fx_end D s h Q o t)
/-- within a method's walk -/
def fx_CX (D : DD) (y : MethodName) (cc : ByteArray) (nL kf kw : Nat) (ret : Option FieldType) (hh : List (Nat × Nat × Nat × Nat)) (h0 : AH) (p : Program) (R : Room) (s : State) (m : MethodId) (meth : Method) (c : Code) : Prop :=
  p.tables.exec = Jvm.exec ∧ c.code = cc ∧ c.maxLocals = nL ∧ s.vm.findClass y.cls = some m.cls ∧ meth.locks = false ∧ meth.sig.returnType = ret ∧ c.exceptionTable.toList = tableOf hh ∧ meth.name = y.name ∧ fx_ok D ∧ D.2.2.1.vm.Alike s.vm ∧ fx_TW s ∧ (∀ q, q < fx_b D → s.heap[q]? = D.2.2.1.heap[q]?) ∧ R = fx_rm D kf kw h0
def fx_F (D : DD) (h0 h : AH) (H : Heap) (locs : List Loc) (cells slots : Nat) : Prop := fx_rep D h H ∧ (∀ q ∈ locs, fx_b D ≤ q.base) ∧ hp_z h0 + cells = hp_z h ∧ hp_s h0 + slots = hp_s h ∧ hp_z h ≤ fx_top D ∧ hp_s h ≤ 7293034 ∧ fx_ext h0 h
section CXS
variable {D : DD} {y : MethodName} {cc : ByteArray} {nL kf kw : Nat} {ret : Option FieldType} {hh : List (Nat × Nat × Nat × Nat)} {h0 h : AH} {p : Program} {R : Room} {s : State} {m : MethodId} {meth : Method} {c : Code}
theorem fx_CX.ex (C : fx_CX D y cc nL kf kw ret hh h0 p R s m meth c) : p.tables.exec = Jvm.exec := C.1
theorem fx_CX.by (C : fx_CX D y cc nL kf kw ret hh h0 p R s m meth c) : c.code = cc := C.2.1
theorem fx_CX.ml (C : fx_CX D y cc nL kf kw ret hh h0 p R s m meth c) : c.maxLocals = nL := C.2.2.1
theorem fx_CX.ow (C : fx_CX D y cc nL kf kw ret hh h0 p R s m meth c) : s.vm.findClass y.cls = some m.cls := C.2.2.2.1
theorem fx_CX.lo (C : fx_CX D y cc nL kf kw ret hh h0 p R s m meth c) : meth.locks = false := C.2.2.2.2.1
theorem fx_CX.rt (C : fx_CX D y cc nL kf kw ret hh h0 p R s m meth c) : meth.sig.returnType = ret := C.2.2.2.2.2.1
theorem fx_CX.tb (C : fx_CX D y cc nL kf kw ret hh h0 p R s m meth c) : c.exceptionTable.toList = tableOf hh := C.2.2.2.2.2.2.1
theorem fx_CX.nm (C : fx_CX D y cc nL kf kw ret hh h0 p R s m meth c) : meth.name = y.name := C.2.2.2.2.2.2.2.1
theorem fx_CX.ok (C : fx_CX D y cc nL kf kw ret hh h0 p R s m meth c) : fx_ok D := C.2.2.2.2.2.2.2.2.1
theorem fx_CX.al (C : fx_CX D y cc nL kf kw ret hh h0 p R s m meth c) : D.2.2.1.vm.Alike s.vm := C.2.2.2.2.2.2.2.2.2.1
theorem fx_CX.tw (C : fx_CX D y cc nL kf kw ret hh h0 p R s m meth c) : fx_TW s := C.2.2.2.2.2.2.2.2.2.2.1
theorem fx_CX.rm (C : fx_CX D y cc nL kf kw ret hh h0 p R s m meth c) : R = fx_rm D kf kw h0 := C.2.2.2.2.2.2.2.2.2.2.2.2
theorem fx_CX.hb (C : fx_CX D y cc nL kf kw ret hh h0 p R s m meth c) : ∀ q, q < fx_b D → s.heap[q]? = D.2.2.1.heap[q]? := C.2.2.2.2.2.2.2.2.2.2.2.1
theorem fx_CX.kn (C : fx_CX D y cc nL kf kw ret hh h0 p R s m meth c) {ci : Nat} {r : vw_C} (hr : fx_cl[ci]? = some r) : u_Kn s r.1 r.2.1 r.2.2 (D.1 ci) (D.2.1 ci) := u_Kn_moved C.al (C.ok.1 ci r hr)
end CXS
section OFW
variable {l : Launch}
theorem fx_ofW {D : DD} {y : MethodName} {cc : ByteArray} {nL kf kw : Nat} {ret : Option FieldType} {hh : List (Nat × Nat × Nat × Nat)} {h : AH} {av : List Value} {Q : Outcome → AH → Prop} (hy : plainFor y = true)
    (body : ∀ (p : Program) (e : Env) (s : State) (m : MethodId) (below : List Frame) (meth : Method) (c : Code), fx_CX D y cc nL kf kw ret hh h p (fx_rm D kf kw h) s m meth c → fx_F D h h s.heap [] 0 0 →
      W p l e (fx_rm D kf kw h) s m av.toArray below meth c s.heap [] 0 0 (fx_Z D below s h Q) (entryFrame m av.toArray nL)) : fx_Mt l D y (fx_hd y cc nL ret hh) kf kw av h Q := by
  refine MetFree.of_bodySF (code := cc) (maxLocals := nL) (ret := ret) hy ?_ ?_
  · intro args s m hp hn
    obtain ⟨meth, c, h1, h2, h3, h4, h5, h6, -, -⟩ := fx_hd_spec hn (atoms_spec (ws := [fx_hd y cc nL ret hh]) hp _ List.mem_cons_self)
    exact ⟨meth, c, h1, h2, h3, h4, h5, h6⟩
  · intro p e s m args below meth c s₁ B hml hP _
    obtain ⟨rfl, hok, hrep, hal, htw, hz, hs⟩ := hP
    have hh0 : s₁.heap = s.heap := by rw [B.state]; rfl
    have htb : c.exceptionTable.toList = tableOf hh := by
      obtain ⟨meth', c', h1, h2, h3, h4, h5, h6, h7, -⟩ := fx_hd_spec B.named (atoms_spec (ws := [fx_hd y cc nL ret hh]) B.pre _ List.mem_cons_self)
      cases B.method.symm.trans h1
      cases (Stand.of_body B).code.symm.trans h2
      exact h7
    have K := body p e s m below meth c ⟨B.exec, B.bytes, hml, findClass_of_methodNamed B.named, B.notSynchronized, B.returns, htb, (name_of_methodNamed B.named B.method).1, hok, hal, htw, hrep.2.2.1, rfl⟩ ⟨hrep, (fun _ h => absurd h (List.not_mem_nil)), rfl, rfl, hz, hs, fx_ext.rf⟩
    obtain ⟨t, a1, o, b1, b2, b3⟩ := K s₁ hh0 (Stand.of_body B)
    exact ⟨t, o, a1, b1, b2, b3⟩
end OFW
section INV
variable {p : Program} {l : Launch} {e : Env} {R : Room} {s : State} {m : MethodId} {args : Array Value} {below : List Frame} {meth : Method} {c : Code} {T : State} {locs : List Loc} {cells slots : Nat}
/-- the machine is about to invoke y with the values av -/
def fx_Inv (p : Program) (l : Launch) (e : Env) (R : Room) (s : State) (m : MethodId) (args : Array Value) (below : List Frame) (meth : Method) (c : Code) (T : State) (locs : List Loc) (cells slots : Nat) (g : JFrame) (rest : List Value) (y : MethodName) (av : List Value) (len : Nat) : Prop :=
  (∃ ig, decode c.code g.pc = .ok (ig, len)) ∧ ∃ (vm₁ : Vm) (mk : MethodId), s.WarmedH vm₁ ∧ Stand p l e R s m args below meth c (T.setVm vm₁) locs cells slots ∧ (T.setVm vm₁).methodNamed? y = some mk ∧
    ∀ target, (∀ acts, Steps p.tables e below (doInvoke e ((T.setVm vm₁).setTop { g with stack := rest }) acts mk av.toArray).1 target) → Steps p.tables e below (T.setTop g) target
theorem fx_invoke {D : DD} {y0 y : MethodName} {cc cc' : ByteArray} {nL nL' kf kf' kw kw' len : Nat} {ret ret' : Option FieldType} {hh hh' : List (Nat × Nat × Nat × Nat)} {h0 h : AH} {av rest : List Value} {g : JFrame} {Q : Outcome → AH → Prop}
    (C : fx_CX D y0 cc nL kf kw ret hh h0 p R s m meth c) (hM : fx_Mt l D y (fx_hd y cc' nL' ret' hh') kf' kw' av h Q) (F : fx_F D h0 h T.heap locs cells slots)
    (hm1 : fx_hd y cc' nL' ret' hh' ∈ tables_1) (hm2 : Cond.initialized y.cls ∈ tables_1) (hg : g.method = m) (hsize : g.locals.size = nL) (hfr : kf' + 1 ≤ kf) (hlo : 2 * g.monitorRoom + (rest.map fun v => v.category).sum + (nL' + 11) + kw' ≤ kw)
    (I : fx_Inv p l e R s m args below meth c T locs cells slots g rest y av len) :
    ∃ (o : Outcome) (h' : AH) (T' : State) (locs' : List Loc) (cells' slots' : Nat), Q o h' ∧ fx_ext h h' ∧ fx_F D h0 h' T'.heap locs' cells' slots' ∧ Stand p l e R s m args below meth c T' locs' cells' slots' ∧
      (∀ v, o = .returned v → ∀ target, Steps p.tables e below (T'.setTop { g with pc := g.pc + len, stack := v.toList ++ rest }) target → Steps p.tables e below (T.setTop g) target) ∧
      (∀ a, o = .threw a → ∀ target, Steps p.tables e below ((T'.setTop { g with stack := rest }).pushFrame (.throwing a)) target → Steps p.tables e below (T.setTop g) target) := by
  obtain ⟨⟨ig, hdg⟩, vm₁, mk, hW1, X, hn, hst⟩ := I
  obtain ⟨Fr, Fl, Fc, Fs, Ft, Fts, Fe⟩ := F
  generalize hU : T.setVm vm₁ = U at X hn hst
  have hUh : U.heap = T.heap := by rw [← hU]; rfl
  have htwU : fx_TW U := C.tw.warm X.warmed
  have hhd : (fx_hd y cc' nL' ret' hh').before av.toArray U = true := htwU.at hm1 (by cases hh' <;> rfl) (by cases hh' <;> rfl)
  have hini : (Cond.initialized y.cls).before av.toArray U = true := htwU.at hm2 rfl rfl
  obtain ⟨methY, cY, hmY, hcY, -, hlY, -, -, -, -⟩ := fx_hd_spec hn hhd
  obtain ⟨kY, hkY, -⟩ := className_of_methodNamed hn
  have hinitY : kY.init = .initialized := Cond.initialized_spec (findClass_of_methodNamed hn) hkY hini
  generalize hg1 : ({ g with stack := rest } : JFrame) = g1 at hst
  have hg1m : g1.method = m := by rw [← hg1]; exact hg
  have hAt : At U g1.method c below := by rw [hg1m]; exact X.here
  have hdg1 : decode c.code g1.pc = .ok (ig, len) := by rw [← hg1]; exact hdg
  have hR := C.rm
  have happ : (headSpec [fx_hd y cc' nL' ret' hh'] (fx_rm D kf' kw' h)).appliesLoose y e.platform (U.calling g1 mk av.toArray) = true := by
    refine Spec.appliesLoose_calling (g := g1) hAt hdg1 hn hkY hinitY (X.room_calling (g := g1) (R' := fx_rm D kf' kw' h) (by rw [← hg1]; exact hsize.trans C.ml.symm) hmY hcY ?_ ?_ ?_ ?_) (atoms_intro fun w hw => ?_)
    · rw [hR]; exact hfr
    · rw [hlY, hR, ← hg1]; exact hlo
    · rw [hR]
      show cells + (fx_top D - hp_z h) ≤ fx_top D - hp_z h0
      omega
    · rw [hR]
      show slots + (7293034 - hp_s h) ≤ 7293034 - hp_s h0
      omega
    · rcases List.mem_cons.mp hw with rfl | hw
      · exact hhd
      · cases hw
  obtain ⟨mid, hmid⟩ := hAt.above
  have hfr1 : (U.setTop g1).frames = (.java g1 :: mid) ++ below := by rw [State.frames_setTop' g1 hAt.top, hmid]; rfl
  have hPst : fx_Rp D h (U.calling g1 mk av.toArray) := ⟨C.ok, by
    show fx_rep D h (U.calling g1 mk av.toArray).heap
    have : (U.calling g1 mk av.toArray).heap = T.heap := by rw [← hUh]; rfl
    rw [this]; exact Fr, C.al.trans X.warmed.alike, htwU.calling g1 mk av.toArray, Ft, Fts⟩
  obtain ⟨o, s₂, hsteps, -, hend, hq⟩ := Steps.callFree hM p X.admits X.cas X.clock (acts := []) hfr1 happ ⟨rfl, hPst⟩ trivial
  have hq' : fx_end D (U.calling g1 mk av.toArray) h Q o s₂ := hq
  rw [State.frames_setTop' g1 hAt.top] at hend
  obtain ⟨h', L, hQ, hrep, hext, hz1, hz2, hs1, hs2, hW₂, hsbn, hL⟩ := hq'
  obtain ⟨e2, q2, q3, q4, q5, q6⟩ := id hsbn
  have e3 : s₂ = ({ (U.calling g1 mk av.toArray).setFrames s₂.frames with heap := s₂.heap, slotsUsed := s₂.slotsUsed } : State).setVm s₂.vm := by
    have : s₂ = ({ s₂ with vm := (U.calling g1 mk av.toArray).vm } : State).setVm s₂.vm := rfl
    rw [e2] at this
    exact this
  have hW' : U.WarmedH s₂.vm := hW₂
  obtain ⟨g₀, hg0⟩ := Option.isSome_iff_exists.mp hAt.top
  obtain ⟨r, hr⟩ := State.topJava?_eq_some.mp hg0
  have hr' : (({ U with heap := s₂.heap, slotsUsed := s₂.slotsUsed } : State).setVm s₂.vm).frames = .java g₀ :: r := hr
  have hsame : U.sameButNew ({ U with heap := s₂.heap, slotsUsed := s₂.slotsUsed } : State) L (hp_z h' - hp_z h) (hp_s h' - hp_s h) := by
    refine ⟨?_, q2, q3, q4, q5, q6⟩
    obtain ⟨t, ht, -⟩ := State.frames_cons hr
    show ({ U with heap := s₂.heap, slotsUsed := s₂.slotsUsed } : State) = { U.setFrames U.frames with heap := s₂.heap, slotsUsed := s₂.slotsUsed }
    rw [State.setFrames_self ht]
  have hXm : At U m c below := X.here
  refine ⟨o, h', (({ U with heap := s₂.heap, slotsUsed := s₂.slotsUsed } : State).setVm s₂.vm), locs ++ L, cells + (hp_z h' - hp_z h), slots + (hp_s h' - hp_s h), hQ, hext, ⟨hrep, fun q hq => ?_, by omega, by omega, hz2, hs2, Fe.tr hext⟩,
    ⟨X.admits, X.cas, X.clock, X.frames, X.room, X.hears, X.method, X.code, (hXm.setHeapUsed s₂.heap s₂.slotsUsed).setVm hW'.alike, X.tail, State.WarmedH.trans X.warmed hW', X.limits, X.bytes, X.same.trans (hsame.setVm s.vm)⟩, ?_, ?_⟩
  · rcases List.mem_append.mp hq with h1 | h1
    · exact Fl q h1
    · exact hL q h1
  · rintro v rfl target htg
    obtain ⟨c₂, i₂, len₂, hc₂, hd₂, hf₂⟩ := hend
    have hcc : c₂ = c := by
      have h1 : s₂.code? g1.method = U.code? g1.method := by
        rw [State.code?_eq, State.code?_eq, hW'.alike.method?]
      exact Option.some.inj (hc₂.symm.trans (h1.trans hAt.code))
    subst hcc
    have hlen : len₂ = len := by rw [hdg1] at hd₂; cases hd₂; rfl
    subst hlen
    have hs₂ : s₂ = (({ U with heap := s₂.heap, slotsUsed := s₂.slotsUsed } : State).setVm s₂.vm).setTop { g1 with pc := g1.pc + len₂, stack := v.toList ++ g1.stack } := by
      refine e3.trans ?_
      rw [hf₂, State.calling_eq hAt.top, State.setFrames_setFrames, State.setTop_of_frames _ hr', hr]
      rfl
    refine hst _ fun acts => ?_
    rw [doInvoke_state]
    refine hsteps.trans ?_
    rw [hs₂, ← hg1]
    exact htg
  · rintro a rfl target htg
    have hf₂ : s₂.frames = .throwing a :: .java g1 :: U.frames.tail := hend
    have hs₂ : s₂ = ((({ U with heap := s₂.heap, slotsUsed := s₂.slotsUsed } : State).setVm s₂.vm).setTop g1).pushFrame (.throwing a) := by
      refine e3.trans ?_
      rw [hf₂, State.calling_eq hAt.top, State.setFrames_setFrames, State.pushFrame, State.frames_setTop _ hr', State.setTop_of_frames _ hr', State.setFrames_setFrames, hr]
      rfl
    refine hst _ fun acts => ?_
    rw [doInvoke_state]
    refine hsteps.trans ?_
    rw [hs₂, ← hg1]
    rw [← hg1] at htg
    exact htg
end INV
