set_option maxRecDepth 10000
/-! rows: arrays of references, static fields, casts, System.arraycopy, Object's constructor -/
section ROWB
variable {p : Program} {l : Launch} {e : Env} {R : Room} {s : State} {m : MethodId} {args : Array Value} {below : List Frame} {meth : Method} {c : Code} {H : Heap} {locs : List Loc} {cells slots : Nat} {Z : State → Prop}
variable {D : DD} {y : MethodName} {cc : ByteArray} {nL kf kw : Nat} {ret : Option FieldType} {hh : List (Nat × Nat × Nat × Nat)} {h0 h : AH} {Q : Outcome → AH → Prop}
variable {pc : Nat} {ls : Array Slot} {rest : List Value} {a idx ci j : Nat} {i : Int32}
theorem fx_anewC {K : Nat} {n : Int32} {cA : ClassId} {kA : Class} {comp : ClassId} {kC : Class} {E : String} (C : fx_CX D y cc nL kf kw ret hh h0 p R s m meth c) (F : fx_F D h0 h H locs cells slots) (hs : fx_has h n.toNatClampNeg) (hK : 100 < K) (hat : fx_at K = 2) (hco : fx_comp K = some E) (hnb : ¬ bk K) (hcn : ∀ nm, fx_cname K = some nm → s.vm.findClass nm = some cA)
    (f2 : s.vm.classes[cA]? = some kA) (f3 : kA.kind = .array comp (fx_aty K)) (f4 : s.vm.findClass E = some comp) (f5 : s.vm.classes[comp]? = some kC) : fx_F D h0 (up_N h K n.toNatClampNeg n.toNatClampNeg) (H.push { cls := cA, slots := Array.replicate n.toNatClampNeg .null, vm := .none }) locs (cells + 1) (slots + n.toNatClampNeg) := by
  have hHz := F.1.1
  have ecell : (H.push { cls := cA, slots := Array.replicate n.toNatClampNeg .null, vm := .none })[hp_z h]? = some { cls := cA, slots := Array.replicate n.toNatClampNeg .null, vm := .none } := by
    rw [← hHz]; simp
  have hkk : hp_k (up_N h K n.toNatClampNeg n.toNatClampNeg) (hp_z h) = K := by simp [hp_k, up_N]
  have hnn : hp_n (up_N h K n.toNatClampNeg n.toNatClampNeg) (hp_z h) = n.toNatClampNeg := by simp [hp_n, up_N]
  obtain ⟨kA', hkA', eA⟩ := C.al.symm.2.2 _ _ f2
  obtain ⟨kC', hkC', eC⟩ := C.al.symm.2.2 _ _ f5
  refine F.new hs (by simp) (fun q hq => by simp [Array.getElem?_push, Nat.ne_of_lt hq]) ⟨fun ci' hk' hc' => ?_, fun hk' => ?_⟩
  · rw [hkk] at hk'; omega
  · rw [hkk]
    refine ⟨_, ecell, ⟨(fun _ h => by cases h), kA', hkA', comp, by rw [eA]; exact f3⟩, (fun h => by cases h), ?_, fun j hj => ?_, fun hb j hj => absurd hb hnb, fun nm hnm => by rw [← C.al.findClass]; exact hcn nm hnm, fun C' hC' => ?_⟩
    · rw [hnn]; simp [nI]
    · rw [hnn] at hj
      rw [hat]
      simp [fx_val, hp_R, up_N, va_rf, Array.getElem?_replicate, hj]
    · rw [hco] at hC'
      cases hC'
      exact ⟨kA', comp, kC', hkA', by rw [eA]; exact f3, by rw [← C.al.findClass]; exact f4, hkC'⟩
theorem fx_anewO {n : Int32} (C : fx_CX D y cc nL kf kw ret hh h0 p R s m meth c) (F : fx_F D h0 h H locs cells slots) (hw : Cond.classLink y.cls idx "java/lang/Object" ∈ tables_1) (hw2 : Cond.arrayOver (.object "java/lang/Object") ∈ tables_1) (hn : ¬ n < 0) (hby : n.toNatClampNeg * 4 ≤ 536870912) (hs : fx_has h n.toNatClampNeg) (hd : decode cc pc = .ok (.anewarray idx, 3))
    (k : ∀ (H : Heap) (cells slots : Nat), fx_F D h0 (up_N h 104 n.toNatClampNeg n.toNatClampNeg) H locs cells slots → W p l e R s m args below meth c H locs cells slots Z (F0 m (pc + 3) ls (.ref (hp_z h) :: rest))) : W p l e R s m args below meth c H locs cells slots Z (F0 m pc ls (.int n :: rest)) := by
  obtain ⟨hc, hsl⟩ := fx_room C F hs
  refine W.anew C.ex C.by C.ow (C.tw.at hw rfl rfl) (C.tw.ov hw2 rfl) rfl hd (n := n) rfl hn hby hc hsl fun cA kA comp f1 f2 f3 f4 => ?_
  rw [F.1.1]
  obtain ⟨kC, hkC, -⟩ := Vm.findClass_spec f4
  exact k _ _ _ (fx_anewC C F hs (by decide) rfl rfl (by simp [bk]) (fun nm hnm => by cases hnm; exact f1) f2 f3 f4 hkC)
theorem fx_anewB {n : Int32} (C : fx_CX D y cc nL kf kw ret hh h0 p R s m meth c) (F : fx_F D h0 h H locs cells slots) (hw : Cond.classLink y.cls idx "[B" ∈ tables_1) (hw2 : Cond.arrayOver (.array .byte) ∈ tables_1) (hn : ¬ n < 0) (hby : n.toNatClampNeg * 4 ≤ 536870912) (hs : fx_has h n.toNatClampNeg) (hd : decode cc pc = .ok (.anewarray idx, 3))
    (k : ∀ (H : Heap) (cells slots : Nat), fx_F D h0 (up_N h 105 n.toNatClampNeg n.toNatClampNeg) H locs cells slots → W p l e R s m args below meth c H locs cells slots Z (F0 m (pc + 3) ls (.ref (hp_z h) :: rest))) : W p l e R s m args below meth c H locs cells slots Z (F0 m pc ls (.int n :: rest)) := by
  obtain ⟨hc, hsl⟩ := fx_room C F hs
  have hts : (FieldType.array .byte).toString = "[B" := by decide +kernel
  refine W.anewA (t := .byte) C.ex C.by C.ow (by rw [hts]; exact C.tw.at hw rfl rfl) (C.tw.ov hw2 rfl) rfl hd (n := n) rfl hn hby hc hsl fun cA kA comp f1 f2 f3 f4 => ?_
  rw [F.1.1]
  rw [hts] at f4
  obtain ⟨kC, hkC, -⟩ := Vm.findClass_spec f4
  exact k _ _ _ (fx_anewC C F hs (by decide) rfl rfl (by simp [bk]) (fun nm hnm => by cases hnm) f2 f3 f4 hkC)
/-- getstatic of a constant array -/
def fx_Ls (own : String) (idx i : Nat) : Prop := ∃ q : String × String × String, fx_st[i]? = some q ∧ (Cond.fieldLink own idx q.1 q.2.1 q.2.2 ∈ tables_1 ∨ ∃ host, Cond.fieldLinkNest own idx q.1 q.2.1 q.2.2 host ∈ tables_1)
theorem fx_gets {i : Nat} (C : fx_CX D y cc nL kf kw ret hh h0 p R s m meth c) (F : fx_F D h0 h H locs cells slots) (lk : fx_Ls y.cls idx i) (hd : decode cc pc = .ok (.getstatic idx, 3))
    (k : W p l e R s m args below meth c H locs cells slots Z (F0 m (pc + 3) ls (.ref (hp_c h i) :: rest))) : W p l e R s m args below meth c H locs cells slots Z (F0 m pc ls rest) := by
  rw [F.1.2.2.2.2.2.2.2] at k
  obtain ⟨q, hq, hl⟩ := lk
  obtain ⟨cf, kf', fi, f, a, cell, h1, h2, h3, h4, h5, h6, h7, h8⟩ := va_Z.moved C.al (C.ok.2.1 i q hq)
  have hcell : H[a]? = some cell := by rw [F.1.2.2.1 a (Nat.lt_of_not_le h8)]; exact h5
  have hkn : cell.vm ≠ .unknown := fun e => by rw [e] at h6; cases h6
  rcases hl with hl | ⟨host, hl⟩
  · exact W.gets C.ex C.by C.ow (C.tw.at hl rfl rfl) h1 h2 h3 h4 hcell hkn h7 rfl hd k
  · intro T hT X
    obtain ⟨vm', X', st⟩ := X.getstaticNest C.ex C.ow (C.tw.at hl rfl rfl) h1 h2 h3 h4 (by rw [hT]; exact hcell) hkn h7 (g := F0 m pc ls rest) rfl (by rw [C.by]; exact hd)
    obtain ⟨t, a1, b1⟩ := k (T.setVm vm') hT X'
    exact ⟨t, st t a1, b1⟩
/-- checkcast that goes through -/
theorem fx_cast {r : vw_C} {nm : String} (C : fx_CX D y cc nL kf kw ret hh h0 p R s m meth c) (F : fx_F D h0 h H locs cells slots) (hr : fx_cl[ci]? = some r) (hci : ci < 100) (hk : hp_k h a = ci + 1) (hw : Cond.classLink y.cls idx nm ∈ tables_1) (hw2 : Cond.castable r.1 nm ∈ tables_1) (hd : decode cc pc = .ok (.checkcast idx, 3))
    (k : W p l e R s m args below meth c H locs cells slots Z (F0 m (pc + 3) ls (.ref a :: rest))) : W p l e R s m args below meth c H locs cells slots Z (F0 m pc ls (.ref a :: rest)) :=
  va_castY C.ex C.by C.ow (C.tw.at hw rfl rfl) (C.tw.at hw2 rfl rfl) (fx_clsO C F hr hci hk) hd k
/-- Object's constructor -/
theorem fx_objI (C : fx_CX D y cc nL kf kw ret hh h0 p R s m meth c) (hw : Cond.methodLink y.cls idx objectInit ∈ tables_1) (hw2 : Cond.instanceMethod objectInit ∈ tables_1) (hw3 : Cond.code objectInit ⟨#[0xb1]⟩ 1 none ∈ tables_1) (hls : ls.size = nL) (hd : decode cc pc = .ok (.invokespecial idx, 3)) (hf : 1 ≤ kf) (hl : (rest.map fun v => v.category).sum + 12 ≤ kw)
    (k : W p l e R s m args below meth c H locs cells slots Z (F0 m (pc + 3) ls rest)) : W p l e R s m args below meth c H locs cells slots Z (F0 m pc ls (.ref a :: rest)) :=
  W.objInit C.ex C.by C.ow (C.tw.at hw rfl rfl) (C.tw.at hw2 rfl rfl) (C.tw.at hw3 rfl rfl) rfl (by rw [C.ml]; exact hls) rfl hd (by rw [C.rm]; exact hf) (by rw [C.rm]; show 2 * 0 + _ + 12 ≤ kw; omega) k
theorem fx_nn {z : Int32} (hz : ¬ z < 0) : z.toInt = (z.toNatClampNeg : Int) := by
  have hz0 : (0 : Int) ≤ z.toInt := by
    have := Int32.not_lt.mp hz
    simpa using Int32.le_iff_toInt_le.mp this
  show z.toInt = ((z.toInt.toNat : Nat) : Int)
  omega
theorem fx_by8_le {x : Int32} (h : by8 x) : -128 ≤ x ∧ x ≤ 127 := by
  unfold by8 at h
  have h1 := x.toInt8.le_toInt
  have h2 := x.toInt8.toInt_lt
  have h3 : x.toInt = x.toInt8.toInt := by rw [← Int8.toInt_toInt32, h]
  refine ⟨?_, ?_⟩
  · rw [Int32.le_iff_toInt_le, h3]
    exact h1
  · rw [Int32.le_iff_toInt_le, h3]
    have : (127 : Int32).toInt = 127 := by decide
    omega
/-- a run of values into an array of ours -/
theorem fx_F.run {h' : AH} {K n dp : Nat} {cell : Cell} {vs : List Value} (F : fx_F D h0 h H locs cells slots) (hk : hp_k h a = K) (hK : 100 < K) (hK6 : K < 106) (hc : H[a]? = some cell) (ho : fx_off h h' a) (hlen : vs.length = n) (hn : dp + n ≤ hp_n h a)
    (hv : ∀ j, fx_val (fx_at K) h' a j = if dp ≤ j ∧ j < dp + n then vs.getD (j - dp) .null else fx_val (fx_at K) h a j) (h8 : bk K → ∀ j, j < hp_n h a → by8 (hp_I h' a j)) (L : List Loc) (hL : ∀ q ∈ L, q.base = a) :
    ∀ H' : Heap, H'[a]? = some (cell.storeRun dp vs) → H'.size = H.size → (∀ q, q ≠ a → H'[q]? = H[q]?) → fx_F D h0 h' H' (locs ++ L) cells slots := by
  intro H' e1 e2 e3
  obtain ⟨cell', q1, q2, q3, q4, q5, q6, q8, q7⟩ := fx_arr F hk hK
  cases hc.symm.trans q1
  obtain ⟨F1, F2, F3, F4, F5, F6, F7⟩ := id F
  obtain ⟨s1, s2, s3, -, -⟩ := cell.storeRun_facts dp vs
  have hb0 : fx_b D ≤ a := F1.2.2.2.2.2.1 a (by omega) (by omega)
  refine ⟨F1.set ho e2 e3 hb0 ⟨fun ci' hk' hc' => ?_, fun hk' => ?_⟩, fun q hq => ?_, by rw [ho.2.2.2.1]; exact F3, by rw [ho.2.2.2.2.1]; exact F4, by rw [ho.2.2.2.1]; exact F5, by rw [ho.2.2.2.2.1]; exact F6, F7.off ho⟩
  · rw [ho.2.1, hk] at hk'; omega
  · rw [ho.2.1, hk]
    refine ⟨_, e1, ⟨by rw [s2]; exact q2.1, by rw [s1]; exact q2.2⟩, by rw [s2]; exact q3, ?_, fun j hj => ?_, fun hb j hj => ?_, fun nm hnm => by rw [s1]; exact q8 nm hnm, fun C' hC' => by rw [s1]; exact q7 C' hC'⟩
    · rw [ho.2.2.1, s3]; exact q4
    · rw [ho.2.2.1] at hj
      rw [hv j, cell.storeRun_get dp vs j (by rw [hlen]; exact Nat.le_trans hn q4.1), hlen]
      by_cases hjn : dp ≤ j ∧ j < dp + n
      · rw [if_pos hjn, if_pos hjn, List.getD_eq_getElem?_getD, List.getElem?_eq_getElem (by omega)]
        rfl
      · rw [if_neg hjn, if_neg hjn]; exact q5 j hj
    · rw [ho.2.2.1] at hj
      exact h8 hb j hj
  · rcases List.mem_append.mp hq with h1 | h1
    · exact F2 q h1
    · rw [hL q h1]; exact hb0
theorem fx_copyB {a0 : Nat} {sp dp n : Int32} (C : fx_CX D y cc nL kf kw ret hh h0 p R s m meth c) (F : fx_F D h0 h H locs cells slots) (hw : Cond.methodLink y.cls idx arraycopyName ∈ tables_1) (hw2 : Cond.native arraycopyName ∈ tables_1) (hw3 : Cond.static arraycopyName ∈ tables_1) (hw4 : Cond.initialized "java/lang/System" ∈ tables_1) (hls : ls.size = nL)
    (hk0 : bk (hp_k h a0)) (hk : hp_k h a = 101) (h1 : ¬ sp < 0) (h2 : ¬ dp < 0) (h3 : ¬ n < 0) (h4 : sp.toNatClampNeg + n.toNatClampNeg ≤ hp_n h a0) (h5 : dp.toNatClampNeg + n.toNatClampNeg ≤ hp_n h a)
    (hfr : 1 ≤ kf) (hlo : (rest.map fun v => v.category).sum + (nativeFrameWords "java/lang/System" "arraycopy" 5 + 11) ≤ kw) (hd : decode cc pc = .ok (.invokestatic idx, 3))
    (k : ∀ (H : Heap) (locs : List Loc), fx_F D h0 (up_CI h a0 sp.toNatClampNeg a dp.toNatClampNeg n.toNatClampNeg) H locs cells slots → W p l e R s m args below meth c H locs cells slots Z (F0 m (pc + 3) ls rest)) : W p l e R s m args below meth c H locs cells slots Z (F0 m pc ls (.int n :: .int dp :: .ref a :: .int sp :: .ref a0 :: rest)) := by
  have src : ∃ cell : Cell, H[a0]? = some cell ∧ D.2.2.1.isArrayOf cell .byte ∧ cell.vm ≠ .unknown ∧ hp_n h a0 ≤ cell.slots.size ∧ (∀ j, j < hp_n h a0 → cell.slots[j]? = some (.int (hp_I h a0 j))) ∧ (∀ j, j < hp_n h a0 → by8 (hp_I h a0 j)) := by
    rcases hk0 with hk0 | hk0 <;>
    · obtain ⟨cell, q1, q2, q3, q4, q5, q6, -⟩ := fx_arr F hk0 (by omega)
      exact ⟨cell, q1, q2, q3, q4.1, q5, q6 (by simp [bk])⟩
  obtain ⟨cs, g1, g2, g3, g4, g5, g6⟩ := src
  obtain ⟨cd, q1, q2, q3, q4, q5, q6, -⟩ := fx_arr F hk (by omega)
  intro T hT X
  subst hT
  obtain ⟨g2a, ks, hks, cms, hkks⟩ := State.isArrayOf_alike C.al g2
  obtain ⟨q2a, kd, hkd, cmd, hkkd⟩ := State.isArrayOf_alike C.al q2
  have ev : ∀ i, i < n.toNatClampNeg → cs.slots.getD (sp.toNatClampNeg + i) .null = .int (hp_I h a0 (sp.toNatClampNeg + i)) := by
    intro i hi
    rw [Array.getD_eq_getD_getElem?, g5 _ (by omega)]; rfl
  obtain ⟨vm', X', step⟩ := X.arraycopy C.ex C.ow (C.tw.at hw rfl rfl) (C.tw.at hw2 rfl rfl) (C.tw.at hw3 rfl rfl) (C.tw.at hw4 rfl rfl) (src := a0) (dst := a) (cs := cs) (cd := cd) (srcPos := sp) (destPos := dp) (n := n) g1 q1
    g2a q2a g3 q3 hks hkd hkks hkkd rfl h1 h2 h3 (by rw [fx_nn h1, fx_nn h3]; have := g4; omega) (by rw [fx_nn h2, fx_nn h3]; have := q4.1; omega)
    (fun vm₁ _ i hi => by
      rw [ev i hi]
      refine ⟨?_, trivial⟩
      have := g6 (sp.toNatClampNeg + i) (by omega)
      have h9 := fx_by8_le this
      simp [fits, fx_aty, h9])
    (g := F0 m pc ls (.int n :: .int dp :: .ref a :: .int sp :: .ref a0 :: rest)) rfl (hls.trans C.ml.symm) (rest := rest) rfl (by rw [C.by]; exact hd) (by rw [C.rm]; exact hfr) (by rw [C.rm]; show 2 * 0 + _ + _ ≤ kw; omega)
  have ha : a < T.heap.size := (Array.getElem?_eq_some_iff.mp q1).1
  have hheap : ((T.setVm vm').setCell a (copied cs cd sp dp n)).heap = T.heap.setIfInBounds a (copied cs cd sp dp n) := rfl
  have hF := F.run (h' := up_CI h a0 sp.toNatClampNeg a dp.toNatClampNeg n.toNatClampNeg) (n := n.toNatClampNeg) (dp := dp.toNatClampNeg) (vs := cs.stretch sp.toNatClampNeg n.toNatClampNeg) hk (by omega) (by omega) q1 (fx_offCI _ _ _ _ _ _) (by simp [Cell.stretch]) h5
    (fun j => by
      by_cases hj : dp.toNatClampNeg ≤ j ∧ j < dp.toNatClampNeg + n.toNatClampNeg
      · rw [if_pos hj]
        show Value.int (hp_I (up_CI h a0 sp.toNatClampNeg a dp.toNatClampNeg n.toNatClampNeg) a j) = _
        have e1 : hp_I (up_CI h a0 sp.toNatClampNeg a dp.toNatClampNeg n.toNatClampNeg) a j = hp_I h a0 (sp.toNatClampNeg + (j - dp.toNatClampNeg)) := by simp [hp_I, up_CI, hj]
        rw [e1, List.getD_eq_getElem?_getD]
        unfold Cell.stretch
        rw [List.getElem?_map, List.getElem?_range (by omega)]
        exact (ev _ (by omega)).symm
      · rw [if_neg hj]
        show Value.int (hp_I (up_CI h a0 sp.toNatClampNeg a dp.toNatClampNeg n.toNatClampNeg) a j) = Value.int (hp_I h a j)
        have e1 : hp_I (up_CI h a0 sp.toNatClampNeg a dp.toNatClampNeg n.toNatClampNeg) a j = hp_I h a j := by
          simp only [hp_I, up_CI]
          rw [if_neg (by rintro ⟨-, hx⟩; exact hj hx)]
        rw [e1])
    (fun _ j hj => by
      by_cases hj2 : dp.toNatClampNeg ≤ j ∧ j < dp.toNatClampNeg + n.toNatClampNeg
      · have e1 : hp_I (up_CI h a0 sp.toNatClampNeg a dp.toNatClampNeg n.toNatClampNeg) a j = hp_I h a0 (sp.toNatClampNeg + (j - dp.toNatClampNeg)) := by simp [hp_I, up_CI, hj2]
        rw [e1]; exact g6 _ (by omega)
      · have e1 : hp_I (up_CI h a0 sp.toNatClampNeg a dp.toNatClampNeg n.toNatClampNeg) a j = hp_I h a j := by
          simp only [hp_I, up_CI]
          rw [if_neg (by rintro ⟨-, hx⟩; exact hj2 hx)]
        rw [e1]; exact q6 (Or.inl rfl) j hj)
    ((cs.stretch sp.toNatClampNeg n.toNatClampNeg).zipIdx.map fun q => ⟨a, dp.toNatClampNeg + q.2⟩) (fun q hq => by obtain ⟨z, -, hz⟩ := List.mem_map.mp hq; rw [← hz])
    (T.heap.setIfInBounds a (copied cs cd sp dp n)) (by simp [Array.getElem?_setIfInBounds, ha]) (by simp) (fun q hq => by simp [Array.getElem?_setIfInBounds, Ne.symm hq])
  obtain ⟨t, a1, b1⟩ := k _ _ hF _ hheap X'
  exact ⟨t, step t a1, b1⟩
end ROWB
