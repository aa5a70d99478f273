set_option maxRecDepth 10000
/-! rows: exceptions are made, thrown on, caught -/
theorem fx_ls_moved {A B : Array Value} {u U : State} {C n d : String} (hvm : u.vm.Alike U.vm) (hh : ∀ q, q < u.heap.size → U.heap[q]? = u.heap[q]?) (h : (Cond.laysStatic C n d).before A u = true) : (Cond.laysStatic C n d).before B U = true := by
  obtain ⟨c, k, i, f, a, cell, h1, h2, h3, h4, h5, h6, h7, h8, h9⟩ := Cond.laysStatic_spec h
  obtain ⟨k', hi', he⟩ := State.fieldFound?_setVm (s := u) hvm h2
  have hi2 : U.fieldFound? C n d = some (c, k', i, f) := by simpa only [State.fieldFound?, State.vm_setVm] using hi'
  have hc : U.vm.findClass C = some c := by rw [hvm.findClass]; exact h1
  have ha : k'.statics = some a := by rw [he]; exact h4
  have ht : k'.staticTypes[f.slot]? = some f.type := by rw [he]; exact h9
  have hcell : U.heap[a]? = some cell := by rw [hh a (Array.getElem?_eq_some_iff.mp h5).1]; exact h5
  simp [Cond.before, Cond.holds, Cond.value, hc, hi2, ha, hcell, h3, h6, h7, h8, ht]
theorem fx_ir_moved {A B : Array Value} {u U : State} {C n d : String} (hvm : u.vm.Alike U.vm) (hh : ∀ q, q < u.heap.size → U.heap[q]? = u.heap[q]?) (hl : (Cond.laysStatic C n d).before A u = true) (h : (Cond.isRef (.static C n d)).before A u = true) : (Cond.isRef (.static C n d)).before B U = true := by
  obtain ⟨c, k, i, f, a, cell, h1, h2, h3, h4, h5, h6, h7, h8, h9⟩ := Cond.laysStatic_spec hl
  obtain ⟨k', hi', he⟩ := State.fieldFound?_setVm (s := u) hvm h2
  have hi2 : U.fieldFound? C n d = some (c, k', i, f) := by simpa only [State.fieldFound?, State.vm_setVm] using hi'
  have ha : k'.statics = some a := by rw [he]; exact h4
  have hcell : U.heap[a]? = some cell := by rw [hh a (Array.getElem?_eq_some_iff.mp h5).1]; exact h5
  have e1 : (Term.static C n d).eval A u none [] u = cell.slots[f.slot]? := by simp [Term.eval, State.fieldNamed?, h2, h3, h4, h5, h6]
  have e2 : (Term.static C n d).eval B U none [] U = cell.slots[f.slot]? := by simp [Term.eval, State.fieldNamed?, hi2, h3, ha, hcell, h6]
  simp only [Cond.before, Cond.holds, Cond.value] at h ⊢
  rw [e1] at h
  rw [e2]
  exact h
section EXC
variable {p : Program} {l : Launch} {e : Env} {R : Room} {s : State} {m : MethodId} {args : Array Value} {below : List Frame} {meth : Method} {c : Code} {H : Heap} {locs : List Loc} {cells slots : Nat} {Z : State → Prop}
variable {D : DD} {y : MethodName} {cc : ByteArray} {nL kf kw : Nat} {ret : Option FieldType} {hh : List (Nat × Nat × Nat × Nat)} {h0 h : AH} {Q : Outcome → AH → Prop}
variable {pc : Nat} {ls : Array Slot} {rest : List Value} {a idx ic ci : Nat}
theorem fx_CX.hw (C : fx_CX D y cc nL kf kw ret hh h0 p R s m meth c) : ∀ w ∈ fx_hw, w.before args s = true := by
  intro w hw
  have h1 := C.ok.2.2.1
  have hq : ∀ q, q < D.2.2.1.heap.size → s.heap[q]? = D.2.2.1.heap[q]? := C.hb
  simp only [fx_hw, List.mem_cons, List.not_mem_nil, or_false] at hw
  rcases hw with rfl | rfl | rfl | rfl
  · exact fx_ls_moved C.al hq (h1 _ (by simp [fx_hw]))
  · exact fx_ls_moved C.al hq (h1 _ (by simp [fx_hw]))
  · exact fx_ir_moved C.al hq (h1 (.laysStatic Bundle.tN "UNASSIGNED_STACK" Bundle.steD) (by simp [fx_hw])) (h1 _ (by simp [fx_hw]))
  · exact fx_ir_moved C.al hq (h1 (.laysStatic Bundle.tN "SUPPRESSED_SENTINEL" Bundle.listD) (by simp [fx_hw])) (h1 _ (by simp [fx_hw]))
/-- the words that the making of an exception wants, out of the tables -/
def fx_eW (own : String) (ic : Nat) (X : String) (names : List String) : Prop := ∀ a ∈ Bundle.ownAtoms0 own ic X names, a ∈ fx_hw ∨ (a ∈ tables_1 ∧ fx_good a = true ∧ a.onTables = true)
/-- new X; dup; X.<init>() of an exception -/
theorem fx_exc {r : vw_C} {names : List String} (C : fx_CX D y cc nL kf kw ret hh h0 p R s m meth c) (F : fx_F D h0 h H locs cells slots) (hr : fx_cl[ci]? = some r) (hN : r.2.2 = 0) (hw1 : Cond.classLink y.cls idx r.1 ∈ tables_1) (hw3 : Cond.initialized r.1 ∈ tables_1) (hfit : Bundle.fit r.1 = true) (hfits : ∀ n ∈ names, Bundle.fit n = true) (hE : fx_eW y.cls ic r.1 names) (hs : fx_has h 6) (hls : ls.size = nL)
    (hl : l.flags = flags0)
    (hd0 : decode cc pc = .ok (.new idx, 3)) (hd3 : decode cc (pc + 3) = .ok (.dup, 1)) (hd4 : decode cc (pc + 3 + 1) = .ok (.invokespecial ic, 3)) (hfr : names.length + 3 < kf) (hlo : 1 + (rest.map fun v => v.category).sum + (13 * (names.length + 1) + 41) ≤ kw)
    (k : ∀ (H : Heap) (locs : List Loc) (cells slots : Nat), fx_F D h0 (up_N h (ci + 1) 0 6) H locs cells slots → W p l e R s m args below meth c H locs cells slots Z (F0 m (pc + 3 + 1 + 3) ls (.ref (hp_z h) :: rest))) : W p l e R s m args below meth c H locs cells slots Z (F0 m pc ls rest) := by
  obtain ⟨hc, hsl⟩ := fx_room C F hs
  obtain ⟨hS, hfc, kX, hkX, hkind⟩ := C.kn hr
  have hat : ∀ a ∈ Bundle.ownAtoms0 y.cls ic r.1 names, a.before args s = true := by
    intro a ha
    rcases hE a ha with h1 | ⟨h1, h2, h3⟩
    · exact C.hw a h1
    · exact C.tw.at h1 h2 h3
  have hw2 : (Cond.instantiable r.1 6).before args s = true := hat _ (by simp [Bundle.ownAtoms0])
  refine W.newcK C.ex C.by C.ow (C.tw.at hw1 rfl rfl) hw2 (C.tw.at hw3 rfl rfl) rfl hd0 hc hsl hfc (h := hp_z h) F.1.1 fun H' kC' hkC' e1 e2 e3 => ?_
  cases hkX.symm.trans hkC'
  have hkk : hp_k (up_N h (ci + 1) 0 6) (hp_z h) = ci + 1 := by simp [hp_k, up_N]
  obtain ⟨hci, hN57⟩ := fx_allN ci r hr
  have born : ∀ (H2 : Heap) (cell : Cell), H2[hp_z h]? = some cell → cell.cls = D.1 ci → cell.vm = .none → fx_cell D (up_N h (ci + 1) 0 6) H2 (hp_z h) := by
    intro H2 cell g1 g2 g3
    refine ⟨fun ci' hk' _ => ?_, fun hk' => ?_⟩
    · rw [hkk] at hk'
      have : ci' = ci := by omega
      subst this
      exact ⟨r, hr, cell, g1, g2, g3, fun j hj => by rw [hN] at hj; omega⟩
    · rw [hkk] at hk'; omega
  have F' : fx_F D h0 (up_N h (ci + 1) 0 6) H' locs (cells + 1) (slots + 6) := F.new hs (by rw [e2, F.1.1]) (fun q hq => e3 q (by rw [← F.1.1]; exact hq)) (born H' _ e1 rfl rfl)
  refine lv_dup C.ex C.by hd3 rfl ?_
  intro W' hW' X
  have hexec := C.ex
  have htr : e.platform.stackTraces = false := Launch.traces_off hl X.admits
  have howns : e.platform.frameOwnsMonitors = true := by rw [X.admits.platform]
  have hfin : e.platform.finalization = false := by rw [X.admits.platform]
  have hpl : e.platform.magicAccessors = ({} : Platform).magicAccessors := by rw [X.admits.platform]
  obtain ⟨T, ZT, L, LZ, Y⟩ := ThrowableC.of_atoms (args := args) howns hfin hpl (fun x hx => hat x (by simp [Bundle.ownAtoms0, hx]))
  obtain ⟨P1, Ps, hlen, L1, hL, hP1m, hlink1, hlink⟩ := Bundle.chain0 (args := args) hpl Y.init0 names r.1 hfit hfits (fun x hx => hat x (by simp [Bundle.ownAtoms0, hx]))
  have hfound : s.vm.findClass r.1 = some P1.m.cls := findClass_of_methodNamed hP1m
  have hcX : D.1 ci = P1.m.cls := Option.some.inj (hfc.symm.trans hfound)
  have hin : ∀ x, x ∈ Bundle.ownAtoms0 y.cls ic r.1 names → x.holds args s none s [] = true := fun x hx => hat x hx
  obtain ⟨c1, kX', hc1, hk, hord, -, -, hn6⟩ := Cond.instantiable_spec (hin (.instantiable r.1 6) (by simp [Bundle.ownAtoms0]))
  cases Option.some.inj (hc1.symm.trans hfc)
  cases Option.some.inj (hkX.symm.trans hk)
  have hsel : ∀ (t : MethodName) (mt : MethodId), s.methodNamed? t = some mt → (t.cls ≠ "java/lang/invoke/MethodHandle" ∧ t.cls ≠ "java/lang/invoke/VarHandle") → (Cond.selects r.1 t t).holds args s none s [] = true → selectMethod e.platform s.vm (D.1 ci) mt = .method mt := by
    intro t mt hn hMH hb
    obtain ⟨c2, r2, m2, q1, q2, q3, q4, -⟩ := Cond.selects_spec hb
    cases Option.some.inj (q1.symm.trans hfc)
    cases Option.some.inj (q2.symm.trans (State.methodFound?_of_named hn hMH))
    cases Option.some.inj (q3.symm.trans hn)
    rw [Launch.admits_selectMethod X.admits]; exact q4
  have hsel0 := hsel Bundle.tFill0 T.fill0 Y.fill0 (by decide) (hin _ (by simp [Bundle.ownAtoms0]))
  have hselF := hsel Bundle.tFill T.fill Y.fill (by decide) (hin _ (by simp [Bundle.ownAtoms0]))
  obtain ⟨cellS, hcS0, hiss⟩ := Y.statics
  obtain ⟨u0, hu0⟩ := Cond.staticRefV Y.unassigned L.unassignedStatic L.statics hcS0 hiss (hin (.isRef (.static Bundle.tN "UNASSIGNED_STACK" Bundle.steD)) (by simp [Bundle.ownAtoms0]))
  obtain ⟨sen, hsen⟩ := Cond.staticRefV Y.sentinel L.sentinelStatic L.statics hcS0 hiss (hin (.isRef (.static Bundle.tN "SUPPRESSED_SENTINEL" Bundle.listD)) (by simp [Bundle.ownAtoms0]))
  obtain ⟨ci198, i198, fB, hk198, hg198, ha198, hsB, -, hnB, htB, hffB⟩ := Cond.ownField (t := .object "java/lang/Object") Y.found L.cls (by decide +kernel) (hin (.fieldLink Bundle.tN 198 Bundle.tN "backtrace" "Ljava/lang/Object;") (by simp [Bundle.ownAtoms0])) (hin (.lays Bundle.tN Bundle.tN "backtrace" "Ljava/lang/Object;") (by simp [Bundle.ownAtoms0])) e.platform hpl
  have hlS : T.aS < fx_b D ∨ fx_b D ≤ T.aS := Nat.lt_or_ge _ _
  have hcellS : W'.heap[T.aS]? = some cellS ∧ T.aS ≠ hp_z h := by
    have hz0 : fx_b D ≤ hp_z h := F.1.2.1
    rcases hlS with hlS | hlS
    · refine ⟨?_, Nat.ne_of_lt (Nat.lt_of_lt_of_le hlS hz0)⟩
      rw [hW', F'.1.2.2.1 _ hlS, ← C.hb _ hlS]; exact hcS0
    · exfalso
      obtain ⟨cA, kA, iA, fA, aA, cellA, g1, g2, g3, g4, g5, g6, -⟩ := Cond.laysStatic_spec (C.ok.2.2.1 (.laysStatic Bundle.tN "UNASSIGNED_STACK" Bundle.steD) (by simp [fx_hw]))
      obtain ⟨k', hi', he'⟩ := State.fieldFound?_setVm (s := D.2.2.1) C.al g2
      have hi2 : s.fieldFound? Bundle.tN "UNASSIGNED_STACK" Bundle.steD = some (cA, k', iA, fA) := by simpa only [State.fieldFound?, State.vm_setVm] using hi'
      have e9 := Option.some.inj (hi2.symm.trans Y.unassigned)
      have e10 : T.kT.statics = some aA := by
        have : k' = T.kT := by simp only [Prod.mk.injEq] at e9; exact e9.2.1
        rw [← this, he']; exact g4
      have e11 : T.aS = aA := Option.some.inj (L.statics.symm.trans e10)
      have e12 : aA < D.2.2.1.heap.size := (Array.getElem?_eq_some_iff.mp g5).1
      rw [e11] at hlS
      exact absurd e12 (Nat.not_lt.mpr hlS)
  have hknownS : cellS.vm ≠ .unknown := by
    intro hu; rw [hu] at hiss; cases hiss
  obtain ⟨iM, hffM⟩ := Y.msg
  obtain ⟨tyC, dC, hdC, hdnC⟩ := Cond.laysAt hfc hkX Y.cause (hin (.lays r.1 Bundle.tN "cause" "Ljava/lang/Throwable;") (by simp [Bundle.ownAtoms0]))
  obtain ⟨tyS, dS, hdS, hdnS⟩ := Cond.laysAt hfc hkX Y.stack (hin (.lays r.1 Bundle.tN "stackTrace" Bundle.steD) (by simp [Bundle.ownAtoms0]))
  obtain ⟨tyP, dP, hdP, hdnP⟩ := Cond.laysAt hfc hkX Y.supp (hin (.lays r.1 Bundle.tN "suppressedExceptions" Bundle.listD) (by simp [Bundle.ownAtoms0]))
  obtain ⟨tyB, dB, hdB, hdnB⟩ := Cond.laysAt hfc hkX hffB (hin (.lays r.1 Bundle.tN "backtrace" "Ljava/lang/Object;") (by simp [Bundle.ownAtoms0]))
  have bC := Cond.laysApart hdB hdC hdnB hdnC (by rw [hnB, Y.causeName]; decide)
  have bS := Cond.laysApart hdB hdS hdnB hdnS (by rw [hnB, Y.stackName]; decide)
  have bP := Cond.laysApart hdB hdP hdnB hdnP (by rw [hnB, Y.suppName]; decide)
  have hskip : SkipFacts T e.platform s (fun u => u) u0 ((preparedCellV T.toThrowableT (freshCell (D.1 ci) kX) (hp_z h) u0 sen).withEntry W'.cur) :=
    ⟨{ ci198 := ci198, i198 := i198, fBack := fB }, ⟨hk198, hg198, ha198, hsB⟩, by
      have := fresh_default (c := D.1 ci) tyB
      rw [htB] at this
      simpa [preparedCellV, Cell.setSlot, Cell.withEntry, Array.getElem?_setIfInBounds, bC, bS, bP, bC.symm, bS.symm, bP.symm, defaultValue] using this, fun _ _ => rfl⟩
  have hdg' : decode c.code (F0 m (pc + 3 + 1) ls (.ref (hp_z h) :: .ref (hp_z h) :: rest)).pc = .ok (.invokespecial ic, 3) := by rw [C.by]; exact hd4
  obtain ⟨tm, methC, cdC, kC, vm₁, hnC, -, -, -, -, -, -, -, hW₁, st1⟩ := Steps.initCold (tb := p.tables) (e := e) (below := below) (s := s) (U := W') X.here hexec X.warmed hpl C.ow (t := Bundle.init0 r.1) rfl rfl (Bundle.fit_spec hfit).2
    (hin (.methodLink y.cls ic (Bundle.init0 r.1)) (by simp [Bundle.ownAtoms0])) (hat (.instanceMethod (Bundle.init0 r.1)) (by cases names <;> simp [Bundle.ownAtoms0, Bundle.chain0Atoms, Bundle.passAtoms])) (bytes := Bundle.five) (maxL := 1) (hat (.code (Bundle.init0 r.1) Bundle.five 1 none) (by cases names <;> simp [Bundle.ownAtoms0, Bundle.chain0Atoms, Bundle.passAtoms]))
    (f := F0 m (pc + 3 + 1) ls (.ref (hp_z h) :: .ref (hp_z h) :: rest)) rfl (a := hp_z h) (rest := .ref (hp_z h) :: rest) rfl hdg'
  cases Option.some.inj (hnC.symm.trans hP1m)
  have X₁ := X.noted hW₁
  obtain ⟨vm₂, X₂, st2⟩ := X₁.ctorPlainOffV hexec (g := F0 m (pc + 3 + 1) ls (.ref (hp_z h) :: rest)) rfl (hls.trans C.ml.symm) T L ZT LZ (P1 :: Ps)
    (fun P hP => by rcases List.mem_cons.mp hP with rfl | hP; exact L1; exact hL P hP) ⟨hlink1, hlink⟩ (u0 := u0) (sen := sen) (self := hp_z h) (cell := freshCell (D.1 ci) kX) (cellS := cellS)
    (by rw [show (W'.setVm vm₁).heap = W'.heap from rfl, hW']; exact e1) (fun _ => by simp) (by simp) rfl rfl hsel0 hselF hcellS.1 hcellS.2 hknownS hu0 hsen
    (Takes.of_laid hkX hord tyC (by rw [Y.causeType]; rfl)) (Takes.of_laid hkX hord tyS (by rw [Y.stackType]; exact fits_refV_array _ u0)) (Takes.of_laid hkX hord tyP (by rw [Y.suppType]; exact fits_refV_object _ sen)) Y.objLocals hskip htr [] hdg'
    (by rw [C.rm]; simp only [List.length_cons, hlen]; show _ < kf; omega) (by rw [C.rm]; simp only [List.length_cons, hlen]; show 2 * 0 + (1 + (rest.map fun v => v.category).sum) + _ ≤ kw; omega)
  have hlt : hp_z h < W'.heap.size := by rw [hW', e2]; omega
  have hheap : (((W'.setVm vm₁).setVm vm₂).setCell (hp_z h) ((preparedCellV T.toThrowableT (freshCell (D.1 ci) kX) (hp_z h) u0 sen).setSlot T.fStack.slot u0.v)).heap = H'.setIfInBounds (hp_z h) ((preparedCellV T.toThrowableT (freshCell (D.1 ci) kX) (hp_z h) u0 sen).setSlot T.fStack.slot u0.v) := by rw [← hW']; rfl
  have hb0 : fx_b D ≤ hp_z h := F.1.2.1
  have hlt' : hp_z h < H'.size := by rw [e2]; omega
  have F'' : fx_F D h0 (up_N h (ci + 1) 0 6) (H'.setIfInBounds (hp_z h) ((preparedCellV T.toThrowableT (freshCell (D.1 ci) kX) (hp_z h) u0 sen).setSlot T.fStack.slot u0.v)) (locs ++ [⟨hp_z h, T.fCause.slot⟩, ⟨hp_z h, T.fStack.slot⟩, ⟨hp_z h, T.fSupp.slot⟩, ⟨hp_z h, T.fStack.slot⟩]) (cells + 1) (slots + 6) := by
    obtain ⟨G1, G2, G3, G4, G5, G6, G7⟩ := F'
    refine ⟨G1.set ⟨fun _ _ => ⟨rfl, rfl, rfl⟩, rfl, rfl, rfl, rfl, rfl, rfl⟩ (by simp) (fun q hq => by simp [Array.getElem?_setIfInBounds, Ne.symm hq]) hb0 (born _ _ (by simp [Array.getElem?_setIfInBounds, hlt']; rfl) rfl rfl), fun q hq => ?_, G3, G4, G5, G6, G7⟩
    rcases List.mem_append.mp hq with h1 | h1
    · exact G2 q h1
    · simp only [List.mem_cons, List.not_mem_nil, or_false] at h1
      rcases h1 with rfl | rfl | rfl | rfl <;> exact hb0
  obtain ⟨t, a1, b1⟩ := k _ _ _ _ F'' _ hheap X₂
  exact ⟨t, st1 _ (fun acts => by rw [doInvoke_state]; exact st2 _ a1), b1⟩
end EXC
