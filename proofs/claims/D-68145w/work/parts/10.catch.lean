set_option maxRecDepth 10000
/-! rows: an exception is caught, by a class that is resolved at the search if it wasn't before -/
theorem fx_go_cold {Q : Handler → Pre} {E : CtlPost} {e : Env} {d : Bool} {acts : List Action} {S : State} {f : JFrame} {a : Addr} {x : ExceptionTableEntry} {t : List ExceptionTableEntry} {c : ClassId} {cell : Cell} {vm' : Vm} (hx : covers x f.pc = true) (h0 : x.catchType ≠ 0)
    (hg : (Jvm.resolveClass f.method.cls x.catchType).Gives e.toSetting S.vm (.ok c) vm') (hsz : vm'.classes.size ≤ S.vm.classes.size) (hcell : S.heap[a]? = some cell) (hobj : ∀ k, cell.vm ≠ .statics k)
    (hk : ∃ k, vm'.classes[cell.cls]? = some k) (hc : ∃ k, vm'.classes[c]? = some k) :
    wp (findHandler.go f a (x :: t)) Q E e d acts S ↔ if vm'.assignable cell.cls c = true then Q (.found x.handlerPc) d acts (S.setVm vm') else wp (findHandler.go f a t) Q E e d acts (S.setVm vm') := by
  simp only [covers] at hx
  obtain ⟨ha, ht⟩ := hg.op (op := VmOp.resolveClass f.method.cls x.catchType) rfl
  have hcell' : (S.setVm vm').heap[a]? = some cell := hcell
  cases hfit : vm'.assignable cell.cls c <;>
    simp [findHandler.go, hx, h0, ha, ht, hsz, hcell, hobj, hk, hc, hfit, VmOp.dirties, VmOp.acts]
def fx_Finds (e : Env) (S : State) (f : JFrame) (a : Addr) (h : Handler) (S' : State) : Prop := ∀ (Q : Handler → Pre) (E : CtlPost) (d : Bool) (acts : List Action), wp (findHandler f a) Q E e d acts S ↔ Q h d acts S'
theorem fx_step_catch {e : Env} {S S' : State} {a : Addr} {f : JFrame} {r : List Frame} {pc : Nat} (hfind : fx_Finds e S f a (.found pc) S') :
    (stepThrowing e S a (.java f :: r)).Is (S'.setFrames (.java { f with pc := pc, stack := [.ref a] } :: r)) [] := by
  simp only [stepThrowing, searchFrame, vmDo]
  generalize hr : Sem.go _ e false [] S = res
  obtain ⟨as, rfl, ha⟩ := Sem.eq_ok_of hr (a := Handler.found pc) (s' := S') (acts' := []) (by simp [hfind _ _ _ _])
  exact ⟨rfl, ha⟩
theorem fx_steps_caught {tb : Tables} {e : Env} {T target : State} {g : JFrame} {c : Code} {below : List Frame} {a : Addr} {vm' : Vm} (h : At T g.method c below) {pc : Nat} (hfind : fx_Finds e ((T.setTop g).pushFrame (.throwing a)) g a (.found pc) (((T.setTop g).pushFrame (.throwing a)).setVm vm'))
    (hrest : Steps tb e below ((T.setVm vm').setTop { g with pc := pc, stack := [.ref a] }) target) : Steps tb e below ((T.setTop g).pushFrame (.throwing a)) target := by
  obtain ⟨hgo, hw⟩ := h.throwing a
  refine Steps.head hgo hw ?_
  rw [stepThread_throwing (frames_entered h.top _), (fx_step_catch (S := (T.setTop g).pushFrame (.throwing a)) hfind).1]
  obtain ⟨g₀, hg⟩ := Option.isSome_iff_exists.mp h.top
  obtain ⟨r, hr⟩ := State.topJava?_eq_some.mp hg
  have hr' : (T.setVm vm').frames = .java g₀ :: r := hr
  rw [State.setTop_of_frames _ hr'] at hrest
  have e1 : (((T.setTop g).pushFrame (.throwing a)).setVm vm').setFrames (.java { g with pc := pc, stack := [.ref a] } :: T.frames.tail) = (T.setVm vm').setFrames (.java { g with pc := pc, stack := [.ref a] } :: r) := by
    rw [State.pushFrame, State.setTop_of_frames _ hr, hr, State.setFrames_setFrames]
    show ((T.setFrames _).setVm vm').setFrames _ = _
    show ((T.setFrames _).setFrames _).setVm vm' = _
    rw [State.setFrames_setFrames]
    rfl
  rw [e1]
  exact hrest
section CATCH
variable {p : Program} {l : Launch} {e : Env} {R : Room} {s : State} {m : MethodId} {args : Array Value} {below : List Frame} {meth : Method} {c : Code} {H : Heap} {locs : List Loc} {cells slots : Nat} {Z : State → Prop}
variable {D : DD} {y : MethodName} {cc : ByteArray} {nL kf kw : Nat} {ret : Option FieldType} {hh : List (Nat × Nat × Nat × Nat)} {h0 h : AH} {Q : Outcome → AH → Prop}
variable {pc : Nat} {ls : Array Slot} {rest : List Value} {a ci : Nat}
/-- an entry of the table, and its class: the object is of another class -/
def fx_passes (own : String) (Xn : String) (pc : Nat) (q : (Nat × Nat × Nat × Nat) × String) : Prop := (decide (q.1.1 ≤ pc) && decide (pc < q.1.2.1)) = true ∧ q.1.2.2.2 ≠ 0 ∧ Cond.classLink own q.1.2.2.2 q.2 ∈ tables_1 ∧ (Xn, q.2) ∈ fx_nc
theorem fx_find {cell : Cell} {r : vw_C} {f : JFrame} (C : fx_CX D y cc nL kf kw ret hh h0 p R s m meth c) (hadm : l.admits e) (hf : f.method = m) (hr : fx_cl[ci]? = some r) (hcls : cell.cls = D.1 ci) (hobj : ∀ k, cell.vm ≠ .statics k) {x : Nat × Nat × Nat × Nat} {nm : String}
    (hx : (decide (x.1 ≤ f.pc) && decide (f.pc < x.2.1)) = true) (h00 : x.2.2.2 ≠ 0) (hw : Cond.classLink y.cls x.2.2.2 nm ∈ tables_1) (hca : Cond.castable r.1 nm ∈ tables_1) (tl : List ExceptionTableEntry) :
    ∀ (pre : List ((Nat × Nat × Nat × Nat) × String)) (S : State), (∀ q ∈ pre, fx_passes y.cls r.1 f.pc q) → S.heap[a]? = some cell → s.WarmedH S.vm → ∃ vm', s.WarmedH vm' ∧
      ∀ (Q : Handler → Pre) (E : CtlPost) (d : Bool) (acts : List Action), wp (findHandler.go f a (tableOf (pre.map (·.1)) ++ (⟨x.1, x.2.1, x.2.2.1, x.2.2.2⟩ :: tl))) Q E e d acts S ↔ Q (.found x.2.2.1) d acts (S.setVm vm') := by
  have hpl : e.platform.magicAccessors = ({} : Platform).magicAccessors := by rw [hadm.platform]
  obtain ⟨hS, hfc, kX, hkX, hkind⟩ := C.kn hr
  have one : ∀ (S : State) (idx : Nat) (nm : String), Cond.classLink y.cls idx nm ∈ tables_1 → s.WarmedH S.vm → ∃ cT, s.vm.findClass nm = some cT ∧ s.WarmedH (S.vm.noted f.method.cls idx (.cls cT)) ∧ (Jvm.resolveClass f.method.cls idx).Gives e.toSetting S.vm (.ok cT) (S.vm.noted f.method.cls idx (.cls cT)) := by
    intro S idx nm hw hW
    obtain ⟨cT, hcT, hcl⟩ := Cond.classLink_spec C.ow (C.tw.at (A := #[]) hw rfl rfl) e.platform hpl
    obtain ⟨dk, _, _, kt, hd, _, _, _, _, hkt, _, hopen⟩ := hcl.here
    have hcl₀ := hW.classLinks hcl
    refine ⟨cT, hcT, ?_, ?_⟩
    · rw [hf]; exact hW.noted hd hopen (State.rightAt_cls hcl)
    · rw [hf]; exact resolveClass_links e.toSetting hcl₀
  have fin : ∀ (S : State) (vm' : Vm) (cT : ClassId) (nm : String), s.vm.findClass nm = some cT → s.WarmedH vm' → s.WarmedH S.vm → vm'.classes.size ≤ S.vm.classes.size ∧ (∃ k, vm'.classes[cell.cls]? = some k) ∧ (∃ k, vm'.classes[cT]? = some k) ∧ vm'.assignable cell.cls cT = s.vm.assignable (D.1 ci) cT := by
    intro S vm' cT nm hcT hW' hW
    obtain ⟨kt, hkt, -⟩ := Vm.findClass_spec hcT
    obtain ⟨k1, hk1, -⟩ := hW'.alike.2.2 _ _ hkX
    obtain ⟨k2, hk2, -⟩ := hW'.alike.2.2 _ _ hkt
    refine ⟨?_, ⟨k1, by rw [hcls]; exact hk1⟩, ⟨k2, hk2⟩, by rw [hcls, hW'.alike.assignable]⟩
    rw [hW'.2.1, hW.2.1]
    exact Nat.le_refl _
  intro pre
  induction pre with
  | nil =>
    intro S _ hcell hW
    obtain ⟨cT, hcT, hW', hg⟩ := one S x.2.2.2 nm hw hW
    obtain ⟨f1, f2, f3, f4⟩ := fin S _ cT nm hcT hW' hW
    refine ⟨_, hW', fun Q E d acts => ?_⟩
    show wp (findHandler.go f a ((⟨x.1, x.2.1, x.2.2.1, x.2.2.2⟩ : ExceptionTableEntry) :: tl)) Q E e d acts S ↔ _
    rw [fx_go_cold (x := ⟨x.1, x.2.1, x.2.2.1, x.2.2.2⟩) hx h00 hg f1 hcell hobj f2 f3, if_pos]
    rw [f4]
    obtain ⟨x0, t1, g1, g2, g3⟩ := Cond.castable_spec (C.tw.at (A := #[]) hca rfl rfl)
    cases hfc.symm.trans g1
    cases hcT.symm.trans g2
    exact g3
  | cons q pre ih =>
    intro S hp hcell hW
    obtain ⟨hq1, hq2, hq3, hq4⟩ := hp q List.mem_cons_self
    obtain ⟨cT, hcT, hW', hg⟩ := one S q.1.2.2.2 q.2 hq3 hW
    obtain ⟨f1, f2, f3, f4⟩ := fin S _ cT q.2 hcT hW' hW
    obtain ⟨vm', hW'', hfi⟩ := ih (S.setVm (S.vm.noted f.method.cls q.1.2.2.2 (.cls cT))) (fun z hz => hp z (List.mem_cons_of_mem _ hz)) hcell hW'
    refine ⟨vm', hW'', fun Q E d acts => ?_⟩
    show wp (findHandler.go f a ((⟨q.1.1, q.1.2.1, q.1.2.2.1, q.1.2.2.2⟩ : ExceptionTableEntry) :: (tableOf (pre.map (·.1)) ++ ((⟨x.1, x.2.1, x.2.2.1, x.2.2.2⟩ : ExceptionTableEntry) :: tl)))) Q E e d acts S ↔ _
    rw [fx_go_cold (x := ⟨q.1.1, q.1.2.1, q.1.2.2.1, q.1.2.2.2⟩) hq1 hq2 hg f1 hcell hobj f2 f3, if_neg]
    · exact hfi Q E d acts
    · rw [f4]
      obtain ⟨c8, t8, g1, g2, g3⟩ := C.ok.2.2.2.1 _ hq4
      rw [← C.al.findClass] at g1 g2
      cases hfc.symm.trans g1
      cases hcT.symm.trans g2
      rw [C.al.assignable, g3]
      decide
/-- a callee's exception is caught here -/
theorem fx_caught {T : State} {r : vw_C} (C : fx_CX D y cc nL kf kw ret hh h0 p R s m meth c) (F : fx_F D h0 h T.heap locs cells slots) (X : Stand p l e R s m args below meth c T locs cells slots) (hr : fx_cl[ci]? = some r) (hci : ci < 100) (hk : hp_k h a = ci + 1) (pre : List ((Nat × Nat × Nat × Nat) × String)) (x : Nat × Nat × Nat × Nat) (tl : List (Nat × Nat × Nat × Nat)) (nm : String)
    (hsp : hh = pre.map (·.1) ++ x :: tl) (hp : ∀ q ∈ pre, fx_passes y.cls r.1 pc q) (hx : (decide (x.1 ≤ pc) && decide (pc < x.2.1)) = true) (h00 : x.2.2.2 ≠ 0) (hw : Cond.classLink y.cls x.2.2.2 nm ∈ tables_1) (hca : Cond.castable r.1 nm ∈ tables_1)
    (k : ∀ (H : Heap) (locs : List Loc) (cells slots : Nat), fx_F D h0 h H locs cells slots → W p l e R s m args below meth c H locs cells slots Z (F0 m x.2.2.1 ls [.ref a])) : ∃ t, Steps p.tables e below ((T.setTop (F0 m pc ls rest)).pushFrame (.throwing a)) t ∧ Z t := by
  obtain ⟨r', hr', cell, q1, q2, q3, q4⟩ := (F.1.2.2.2.1 a).1 ci hk hci
  have hth : ((T.setTop (F0 m pc ls rest)).pushFrame (.throwing a)).heap = T.heap := Stand.throwing_heap T _ a
  have htv : ((T.setTop (F0 m pc ls rest)).pushFrame (.throwing a)).vm = T.vm := Stand.throwing_vm T _ a
  obtain ⟨vm', hW', hfi⟩ := fx_find (f := F0 m pc ls rest) (a := a) C X.admits rfl hr q2 (fun k hk' => by rw [q3] at hk'; cases hk') hx h00 hw hca (tableOf tl) pre ((T.setTop (F0 m pc ls rest)).pushFrame (.throwing a)) hp (by rw [hth]; exact q1) (by rw [htv]; exact X.warmed)
  have hfind : fx_Finds e ((T.setTop (F0 m pc ls rest)).pushFrame (.throwing a)) (F0 m pc ls rest) a (.found x.2.2.1) (((T.setTop (F0 m pc ls rest)).pushFrame (.throwing a)).setVm vm') := by
    intro Q E d acts
    rw [W.findHandler_eq (meth := meth) (code := c) (by rw [htv]; exact X.method') X.code, C.tb, hsp]
    have e1 : tableOf (pre.map (·.1) ++ x :: tl) = tableOf (pre.map (·.1)) ++ (⟨x.1, x.2.1, x.2.2.1, x.2.2.2⟩ :: tableOf tl) := by simp [tableOf]
    rw [e1]
    exact hfi Q E d acts
  obtain ⟨t, a1, b1⟩ := k _ _ _ _ F (T.setVm vm') rfl (X.noted hW')
  exact ⟨t, fx_steps_caught X.here hfind a1, b1⟩
end CATCH
