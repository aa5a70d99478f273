set_option maxRecDepth 10000
/-! small helps of the printed walks -/
def sh_iu (x y : Int32) : Int32 := (x.toUInt32 >>> (y.toUInt32 &&& Int32.toUInt32 31)).toInt32
def sh_ll (x : Int64) (y : Int32) : Int64 := x <<< (y.toInt64 &&& 63)
def sh_lr (x : Int64) (y : Int32) : Int64 := x >>> (y.toInt64 &&& 63)
def sh_lu (x : Int64) (y : Int32) : Int64 := (x.toUInt64 >>> (y.toInt64.toUInt64 &&& Int64.toUInt64 63)).toInt64
def fx_dec (b : ByteArray) (l : List (Nat × Instr × Nat)) : Bool := l.all fun q => decide (decode b q.1 = .ok (q.2.1, q.2.2))
theorem fx_dat {b : ByteArray} {l : List (Nat × Instr × Nat)} (h : fx_dec b l = true) (k : Nat) {pc n : Nat} {i : Instr} (hk : l[k]? = some (pc, i, n)) : decode b pc = .ok (i, n) := by
  have h1 := List.all_eq_true.mp h (pc, i, n) (List.mem_of_getElem? hk)
  simp only [decide_eq_true_eq] at h1
  exact h1
theorem fx_nk (h : AH) (k n m : Nat) : hp_k (up_N h k n m) (hp_z h) = k := by simp [hp_k, up_N]
theorem fx_F.xN {D : DD} {h0 h : AH} {H : Heap} {locs : List Loc} {cells slots k n m : Nat} (F : fx_F D h0 h H locs cells slots) : fx_ext h (up_N h k n m) := fx_ext.rf.new F.1.2.2.2.2.1
theorem bk.gt {k : Nat} (h : bk k) : 100 < k := by rcases h with h | h <;> omega
theorem ik.gt {k : Nat} (h : ik k) : 100 < k := by rcases h with h | h <;> omega
theorem lk.gt {k : Nat} (h : lk k) : 100 < k := by rcases h with h | h <;> omega
theorem ok.gt {k : Nat} (h : ok k) : 100 < k := by rcases h with h | h <;> omega
theorem fx_ext.gb {h h1 : AH} (x : fx_ext h h1) {a : Nat} (hk : bk (hp_k h a)) : bk (hp_k h1 a) := by rw [(x.1 a (by have := hk.gt; omega)).1]; exact hk
theorem fx_ext.gi {h h1 : AH} (x : fx_ext h h1) {a : Nat} (hk : ik (hp_k h a)) : ik (hp_k h1 a) := by rw [(x.1 a (by have := hk.gt; omega)).1]; exact hk
theorem fx_ext.gl {h h1 : AH} (x : fx_ext h h1) {a : Nat} (hk : lk (hp_k h a)) : lk (hp_k h1 a) := by rw [(x.1 a (by have := hk.gt; omega)).1]; exact hk
theorem fx_ext.go {h h1 : AH} (x : fx_ext h h1) {a : Nat} (hk : ok (hp_k h a)) : ok (hp_k h1 a) := by rw [(x.1 a (by have := hk.gt; omega)).1]; exact hk
theorem fx_out0 (pc : Nat) : ∀ x ∈ tableOf [], covers x pc = false := fun _ h => absurd h List.not_mem_nil
theorem fx_eno {h : AH} {QO : Outcome → AH → Prop} : ∀ (a : Nat) (h' : AH), fx_no a h' → fx_ext h h' → QO (.threw a) h' := fun _ _ h _ => h.elim
theorem fx_sw {x : Int32} {lo hi : Int} (cs : List Int32) (hcs : ∀ z : Int, lo ≤ z → z ≤ hi → ∃ k ∈ cs, k.toInt = z) (hno : ∀ k ∈ cs, ¬ x = k) : x.toInt < lo ∨ hi < x.toInt := by
  by_cases h1 : x.toInt < lo
  · exact Or.inl h1
  · by_cases h2 : hi < x.toInt
    · exact Or.inr h2
    · obtain ⟨k, hk, he⟩ := hcs x.toInt (by omega) (by omega)
      exact absurd (Int32.toInt_inj.mp he.symm) (hno k hk)
theorem fx_selQ {p : Program} {R : Room} {s : State} {m : MethodId} {args : Array Value} {meth : Method} {c : Code} {D : DD} {y y' : MethodName} {cc : ByteArray} {nL kf kw n : Nat} {ret : Option FieldType} {hh : List (Nat × Nat × Nat × Nat)} {h0 : AH} {Cn : String} (C : fx_CX D y cc nL kf kw ret hh h0 p R s m meth c) (hy : fx_nMH y') (hw1 : Cond.instantiable Cn n ∈ tables_1) (hw2 : Cond.privateMethod y' ∈ tables_1) (hw3 : Cond.instanceMethod y' ∈ tables_1) (hw4 : Cond.sameMethod y'.cls y'.cls y'.name y'.desc ∈ tables_1) : (Cond.selects Cn y' y').before args s = true := by
  obtain ⟨c0, k, hc, hk, -, hniab, -, -⟩ := Cond.instantiable_spec (C.tw.at (A := args) hw1 rfl rfl)
  obtain ⟨mk, methM, hnamed, hmethM, -, -⟩ := Cond.instanceMethod_spec (C.tw.at (A := args) hw3 rfl rfl)
  have hfound : s.methodFound? y'.cls y'.name y'.desc = some mk := State.methodFound?_of_named hnamed hy
  obtain ⟨cn, ck, r1, hcn, hck, hni, hf, hn1⟩ := Cond.sameMethod_found (C.tw.at (A := args) hw4 rfl rfl)
  have hcls : mk.cls = cn := Option.some.inj ((findClass_of_methodNamed hnamed).symm.trans hcn)
  have hsel : selectMethod {} s.vm c0 mk = .method mk := selectMethod_private hmethM (Cond.privateMethod_at (C.tw.at (A := args) hw2 rfl rfl) mk methM hnamed hmethM)
  simp only [Cond.before, Cond.holds, Cond.value, hc, hfound, hnamed, hsel, hcls, hck]
  simp; exact hni
section ROWC
variable {p : Program} {l : Launch} {e : Env} {R : Room} {s : State} {m : MethodId} {args : Array Value} {below : List Frame} {meth : Method} {c : Code} {H : Heap} {locs : List Loc} {cells slots : Nat} {Z : State → Prop}
variable {D : DD} {y : MethodName} {cc : ByteArray} {nL kf kw : Nat} {ret : Option FieldType} {hh : List (Nat × Nat × Nat × Nat)} {h0 h : AH} {Q : Outcome → AH → Prop}
variable {pc : Nat} {ls : Array Slot} {rest : List Value} {a idx ci j : Nat} {i : Int32}
theorem fx_aastP {b : Nat} (C : fx_CX D y cc nL kf kw ret hh h0 p R s m meth c) (F : fx_F D h0 h H locs cells slots) (hk : hp_k h a = 104) (hi : vp_in i (hp_n h a)) (hb : hp_k h b = 3 ∨ hp_k h b = 8) (h3 : Cond.castable "ChainJudge$Held" "java/lang/Object" ∈ tables_1) (h8 : Cond.castable "ChainJudge$Certificate" "java/lang/Object" ∈ tables_1) (hd : decode cc pc = .ok (.aastore, 1))
    (k : ∀ (H : Heap) (locs : List Loc), fx_F D h0 (up_R h a i.toNatClampNeg (some b)) H locs cells slots → W p l e R s m args below meth c H locs cells slots Z (F0 m (pc + 1) ls rest)) : W p l e R s m args below meth c H locs cells slots Z (F0 m pc ls (.ref b :: .int i :: .ref a :: rest)) := by
  rcases hb with hb | hb
  · exact fx_aast (ci := 2) (r := ("ChainJudge$Held", fx_T2, 2)) C F hk hi rfl (by decide) hb h3 hd k
  · exact fx_aast (ci := 7) (r := ("ChainJudge$Certificate", fx_T7, 29)) C F hk hi rfl (by decide) hb h8 hd k
/-- getClass of an array of objects; the constant of that class -/
def fx_gC : MethodName := ⟨"java/lang/Object", "getClass", "()Ljava/lang/Class;"⟩
theorem fx_getC (C : fx_CX D y cc nL kf kw ret hh h0 p R s m meth c) (F : fx_F D h0 h H locs cells slots) (hk : hp_k h a = 104) (hw1 : Cond.methodLink y.cls idx fx_gC ∈ tables_1) (hw2 : Cond.declares fx_gC ∈ tables_1) (hw3 : Cond.selects "[Ljava/lang/Object;" fx_gC fx_gC ∈ tables_1) (hw4 : Cond.instanceMethod fx_gC ∈ tables_1) (hw5 : Cond.native fx_gC ∈ tables_1) (hls : ls.size = nL) (hf : 1 ≤ kf) (hl : (rest.map fun v => v.category).sum + 14 ≤ kw) (hd : decode cc pc = .ok (.invokevirtual idx, 3))
    (k : W p l e R s m args below meth c H locs cells slots Z (F0 m (pc + 3) ls (.ref (hp_c h 12) :: rest))) : W p l e R s m args below meth c H locs cells slots Z (F0 m pc ls (.ref a :: rest)) := by
  rw [F.1.2.2.2.2.2.2.2] at k
  obtain ⟨cell, q1, q2, q3, q4, q5, q6, q8, -⟩ := fx_arr F hk (by omega)
  refine va_getC C.ex C.by (C.ml.trans hls.symm) C.ow (C.tw.at hw1 rfl rfl) (C.tw.at hw2 rfl rfl) (C.tw.at hw3 rfl rfl) (C.tw.at hw4 rfl rfl) (C.tw.at hw5 rfl rfl) (va_Mi.moved C.al C.ok.2.2.2.2) ⟨cell, q1, ?_, by rw [C.al.findClass]; exact q8 _ rfl⟩ (by rw [C.rm]; exact hf) (by rw [C.rm]; exact hl) hd k
  cases hvm : cell.vm <;> first | rfl | exact absurd hvm (q2.1 _)
theorem fx_ldcM (C : fx_CX D y cc nL kf kw ret hh h0 p R s m meth c) (F : fx_F D h0 h H locs cells slots) (hw1 : Cond.classLink y.cls idx "[Ljava/lang/Object;" ∈ tables_1) (hd : decode cc pc = .ok (.ldc idx, 2))
    (k : W p l e R s m args below meth c H locs cells slots Z (F0 m (pc + 2) ls (.ref (hp_c h 12) :: rest))) : W p l e R s m args below meth c H locs cells slots Z (F0 m pc ls rest) := by
  rw [F.1.2.2.2.2.2.2.2] at k
  exact va_ldcM C.ex C.by C.ow (C.tw.at hw1 rfl rfl) (va_Mi.moved C.al C.ok.2.2.2.2) hd k
theorem fx_copyR {a0 : Nat} {sp dp n : Int32} (C : fx_CX D y cc nL kf kw ret hh h0 p R s m meth c) (F : fx_F D h0 h H locs cells slots) (hw : Cond.methodLink y.cls idx arraycopyName ∈ tables_1) (hw2 : Cond.native arraycopyName ∈ tables_1) (hw3 : Cond.static arraycopyName ∈ tables_1) (hw4 : Cond.initialized "java/lang/System" ∈ tables_1) (h3w : Cond.castable "ChainJudge$Held" "java/lang/Object" ∈ tables_1) (h8w : Cond.castable "ChainJudge$Certificate" "java/lang/Object" ∈ tables_1) (hls : ls.size = nL)
    (hk0 : hp_k h a0 = 104) (hk : hp_k h a = 104) (h1 : ¬ sp < 0) (h2 : ¬ dp < 0) (h3 : ¬ n < 0) (h4 : sp.toNatClampNeg + n.toNatClampNeg ≤ hp_n h a0) (h5 : dp.toNatClampNeg + n.toNatClampNeg ≤ hp_n h a) (hel : ∀ i, i < n.toNatClampNeg → ∀ b, hp_R h a0 (sp.toNatClampNeg + i) = some b → hp_k h b = 3 ∨ hp_k h b = 8)
    (hfr : 1 ≤ kf) (hlo : (rest.map fun v => v.category).sum + (nativeFrameWords "java/lang/System" "arraycopy" 5 + 11) ≤ kw) (hd : decode cc pc = .ok (.invokestatic idx, 3))
    (k : ∀ (H : Heap) (locs : List Loc), fx_F D h0 (up_CR h a0 sp.toNatClampNeg a dp.toNatClampNeg n.toNatClampNeg) H locs cells slots → W p l e R s m args below meth c H locs cells slots Z (F0 m (pc + 3) ls rest)) : W p l e R s m args below meth c H locs cells slots Z (F0 m pc ls (.int n :: .int dp :: .ref a :: .int sp :: .ref a0 :: rest)) := by
  obtain ⟨cs, g1, g2, g3, g4, g5, g6, -⟩ := fx_arr F hk0 (by omega)
  obtain ⟨cd, q1, q2, q3, q4, q5, q6, q8, q7⟩ := fx_arr F hk (by omega)
  obtain ⟨kA, comp, kC, r1, r2, r3, r4⟩ := q7 _ rfl
  intro T hT X
  subst hT
  obtain ⟨g2a, ks, hks, cms, hkks⟩ := State.isArrayOf_alike C.al g2
  obtain ⟨kA', hkA', eA⟩ := C.al.2.2 _ _ r1
  have ev : ∀ i, i < n.toNatClampNeg → cs.slots.getD (sp.toNatClampNeg + i) .null = va_rf (hp_R h a0 (sp.toNatClampNeg + i)) := by
    intro i hi
    rw [Array.getD_eq_getD_getElem?, g5 _ (by omega)]; rfl
  have hfo : s.vm.findClass "java/lang/Object" = some comp := by rw [C.al.findClass]; exact r3
  have asg : ∀ b, hp_k h b = 3 ∨ hp_k h b = 8 → ∃ cellV : Cell, T.heap[b]? = some cellV ∧ cellV.vm.isStatics = false ∧ (∃ k, s.vm.classes[cellV.cls]? = some k) ∧ s.vm.assignable cellV.cls comp = true := by
    intro b hb
    have key : ∀ (ci : Nat) (r : vw_C), fx_cl[ci]? = some r → ci < 100 → hp_k h b = ci + 1 → Cond.castable r.1 "java/lang/Object" ∈ tables_1 → ∃ cellV : Cell, T.heap[b]? = some cellV ∧ cellV.vm.isStatics = false ∧ (∃ k, s.vm.classes[cellV.cls]? = some k) ∧ s.vm.assignable cellV.cls comp = true := by
      intro ci r hr hci hkb hca
      obtain ⟨cellV, f1, f2, f3⟩ := fx_clsO C F hr hci hkb
      obtain ⟨kV, hkV, -⟩ := Vm.findClass_spec f3
      obtain ⟨x0, t1, e1, e2, e3⟩ := Cond.castable_spec (C.tw.at (A := args) hca rfl rfl)
      cases f3.symm.trans e1
      cases hfo.symm.trans e2
      exact ⟨cellV, f1, f2, ⟨kV, hkV⟩, e3⟩
    rcases hb with hb | hb
    · exact key 2 ("ChainJudge$Held", fx_T2, 2) rfl (by decide) hb h3w
    · exact key 7 ("ChainJudge$Certificate", fx_T7, 29) rfl (by decide) hb h8w
  obtain ⟨kE, hkE, -⟩ := Vm.findClass_spec hfo
  obtain ⟨vm', X', step⟩ := X.arraycopy C.ex C.ow (C.tw.at hw rfl rfl) (C.tw.at hw2 rfl rfl) (C.tw.at hw3 rfl rfl) (C.tw.at hw4 rfl rfl) (src := a0) (dst := a) (cs := cs) (cd := cd) (srcPos := sp) (destPos := dp) (n := n) g1 q1
    g2a q2.1 g3 q3 hks hkA' hkks (by rw [eA]; exact r2) rfl h1 h2 h3 (by rw [fx_nn h1, fx_nn h3]; have := g4.1; omega) (by rw [fx_nn h2, fx_nn h3]; have := q4.1; omega)
    (fun vm₁ hal i hi => by
      rw [ev i hi]
      cases hy : hp_R h a0 (sp.toNatClampNeg + i) with
      | none => exact ⟨rfl, trivial⟩
      | some b =>
        obtain ⟨cellV, f1, f2, ⟨kV, f3⟩, f4⟩ := asg b (hel i hi b hy)
        obtain ⟨kV', hkV', -⟩ := hal.2.2 _ _ f3
        obtain ⟨kE', hkE', -⟩ := hal.2.2 _ _ hkE
        exact ⟨rfl, cellV, f1, (fun z hz => by rw [hz] at f2; cases f2), ⟨kV', hkV'⟩, ⟨kE', hkE'⟩, by show vm₁.assignable _ _ = true; rw [hal.assignable]; exact f4⟩)
    (g := F0 m pc ls (.int n :: .int dp :: .ref a :: .int sp :: .ref a0 :: rest)) rfl (hls.trans C.ml.symm) (rest := rest) rfl (by rw [C.by]; exact hd) (by rw [C.rm]; exact hfr) (by rw [C.rm]; show 2 * 0 + _ + _ ≤ kw; omega)
  have ha : a < T.heap.size := (Array.getElem?_eq_some_iff.mp q1).1
  have hheap : ((T.setVm vm').setCell a (copied cs cd sp dp n)).heap = T.heap.setIfInBounds a (copied cs cd sp dp n) := rfl
  have hF := F.run (h' := up_CR h a0 sp.toNatClampNeg a dp.toNatClampNeg n.toNatClampNeg) (n := n.toNatClampNeg) (dp := dp.toNatClampNeg) (vs := cs.stretch sp.toNatClampNeg n.toNatClampNeg) hk (by omega) (by omega) q1 (fx_offCR _ _ _ _ _ _) (by simp [Cell.stretch]) h5
    (fun j => by
      by_cases hj : dp.toNatClampNeg ≤ j ∧ j < dp.toNatClampNeg + n.toNatClampNeg
      · rw [if_pos hj]
        show va_rf (hp_R (up_CR h a0 sp.toNatClampNeg a dp.toNatClampNeg n.toNatClampNeg) a j) = _
        have e1 : hp_R (up_CR h a0 sp.toNatClampNeg a dp.toNatClampNeg n.toNatClampNeg) a j = hp_R h a0 (sp.toNatClampNeg + (j - dp.toNatClampNeg)) := by simp [hp_R, up_CR, hj]
        rw [e1, List.getD_eq_getElem?_getD]
        unfold Cell.stretch
        rw [List.getElem?_map, List.getElem?_range (by omega)]
        exact (ev _ (by omega)).symm
      · rw [if_neg hj]
        show va_rf (hp_R (up_CR h a0 sp.toNatClampNeg a dp.toNatClampNeg n.toNatClampNeg) a j) = va_rf (hp_R h a j)
        have e1 : hp_R (up_CR h a0 sp.toNatClampNeg a dp.toNatClampNeg n.toNatClampNeg) a j = hp_R h a j := by
          simp only [hp_R, up_CR]
          rw [if_neg (by rintro ⟨-, hx⟩; exact hj hx)]
        rw [e1])
    (fun hb => by rcases hb with hb | hb <;> omega)
    ((cs.stretch sp.toNatClampNeg n.toNatClampNeg).zipIdx.map fun q => ⟨a, dp.toNatClampNeg + q.2⟩) (fun q hq => by obtain ⟨z, -, hz⟩ := List.mem_map.mp hq; rw [← hz])
    (T.heap.setIfInBounds a (copied cs cd sp dp n)) (by simp [Array.getElem?_setIfInBounds, ha]) (by simp) (fun q hq => by simp [Array.getElem?_setIfInBounds, Ne.symm hq])
  obtain ⟨t, a1, b1⟩ := k _ _ hF _ hheap X'
  exact ⟨t, step t a1, b1⟩
end ROWC
