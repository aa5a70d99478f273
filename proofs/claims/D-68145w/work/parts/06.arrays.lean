set_option maxRecDepth 10000
/-! rows: arrays, new cells, static fields, casts, System.arraycopy -/
def fx_has (h : AH) (n : Nat) : Prop := hp_z h + 1 ≤ hp_t h ∧ hp_s h + n ≤ 7293034
section ROWA
variable {p : Program} {l : Launch} {e : Env} {R : Room} {s : State} {m : MethodId} {args : Array Value} {below : List Frame} {meth : Method} {c : Code} {H : Heap} {locs : List Loc} {cells slots : Nat} {Z : State → Prop}
variable {D : DD} {y : MethodName} {cc : ByteArray} {nL kf kw : Nat} {ret : Option FieldType} {hh : List (Nat × Nat × Nat × Nat)} {h0 h : AH} {Q : Outcome → AH → Prop}
variable {pc : Nat} {ls : Array Slot} {rest : List Value} {a idx ci j : Nat} {i : Int32}
theorem fx_ix {n : Nat} (hi : vp_in i n) : i.toNatClampNeg < n := Nat.lt_of_not_le fun q => hi (Or.inr q)
theorem fx_inle {n z : Nat} (hi : vp_in i n) (hz : n ≤ z) : ¬ (i < 0 ∨ z ≤ i.toNatClampNeg) := fun h => by
  rcases h with h | h
  · exact hi (Or.inl h)
  · exact hi (Or.inr (Nat.le_trans hz h))
theorem fx_arr (F : fx_F D h0 h H locs cells slots) {K : Nat} (hk : hp_k h a = K) (hK : 100 < K) : fx_ar D h H a K := by
  have := (F.1.2.2.2.1 a).2 (by omega)
  rw [hk] at this
  exact this
theorem fx_alen (C : fx_CX D y cc nL kf kw ret hh h0 p R s m meth c) (F : fx_F D h0 h H locs cells slots) (hK : 100 < hp_k h a) (hd : decode cc pc = .ok (.arraylength, 1))
    (k : W p l e R s m args below meth c H locs cells slots Z (F0 m (pc + 1) ls (.int (nI (hp_n h a)) :: rest))) : W p l e R s m args below meth c H locs cells slots Z (F0 m pc ls (.ref a :: rest)) := by
  obtain ⟨cell, q1, q2, q3, q4, -⟩ := fx_arr F rfl hK
  exact W.alen C.ex C.by q1 (State.isArrayOf_alike C.al q2) (n := nI (hp_n h a)) q4.2 rfl rfl hd k
theorem fx_bald (C : fx_CX D y cc nL kf kw ret hh h0 p R s m meth c) (F : fx_F D h0 h H locs cells slots) (hk : bk (hp_k h a)) (hi : vp_in i (hp_n h a)) (hd : decode cc pc = .ok (.baload, 1))
    (k : by8 (hp_I h a i.toNatClampNeg) → W p l e R s m args below meth c H locs cells slots Z (F0 m (pc + 1) ls (.int (hp_I h a i.toNatClampNeg) :: rest))) : W p l e R s m args below meth c H locs cells slots Z (F0 m pc ls (.int i :: .ref a :: rest)) := by
  rcases hk with hk | hk <;>
  · obtain ⟨cell, q1, q2, q3, q4, q5, q6, -⟩ := fx_arr F hk (by omega)
    exact W.bald C.ex C.by q1 (State.isArrayOf_alike C.al q2) q3 (fx_inle hi q4.1) (q5 _ (fx_ix hi)) rfl rfl hd (k (q6 (by simp [bk]) _ (fx_ix hi)))
theorem fx_iald (C : fx_CX D y cc nL kf kw ret hh h0 p R s m meth c) (F : fx_F D h0 h H locs cells slots) (hk : ik (hp_k h a)) (hi : vp_in i (hp_n h a)) (hd : decode cc pc = .ok (.iaload, 1))
    (k : W p l e R s m args below meth c H locs cells slots Z (F0 m (pc + 1) ls (.int (hp_I h a i.toNatClampNeg) :: rest))) : W p l e R s m args below meth c H locs cells slots Z (F0 m pc ls (.int i :: .ref a :: rest)) := by
  rcases hk with hk | hk <;>
  · obtain ⟨cell, q1, q2, q3, q4, q5, q6, -⟩ := fx_arr F hk (by omega)
    exact W.iald C.ex C.by q1 (State.isArrayOf_alike C.al q2) q3 (fx_inle hi q4.1) (q5 _ (fx_ix hi)) rfl rfl hd k
theorem fx_lald (C : fx_CX D y cc nL kf kw ret hh h0 p R s m meth c) (F : fx_F D h0 h H locs cells slots) (hk : lk (hp_k h a)) (hi : vp_in i (hp_n h a)) (hd : decode cc pc = .ok (.laload, 1))
    (k : W p l e R s m args below meth c H locs cells slots Z (F0 m (pc + 1) ls (.long (hp_L h a i.toNatClampNeg) :: rest))) : W p l e R s m args below meth c H locs cells slots Z (F0 m pc ls (.int i :: .ref a :: rest)) := by
  rcases hk with hk | hk <;>
  · obtain ⟨cell, q1, q2, q3, q4, q5, q6, -⟩ := fx_arr F hk (by omega)
    exact W.lald C.ex C.by q1 (State.isArrayOf_alike C.al q2) q3 (fx_inle hi q4.1) (q5 _ (fx_ix hi)) rfl rfl hd k
theorem fx_aald {b : Nat} (C : fx_CX D y cc nL kf kw ret hh h0 p R s m meth c) (F : fx_F D h0 h H locs cells slots) (hk : ok (hp_k h a) ∨ hp_k h a = 105) (hi : vp_in i (hp_n h a)) (hb : hp_R h a i.toNatClampNeg = some b) (hd : decode cc pc = .ok (.aaload, 1))
    (k : W p l e R s m args below meth c H locs cells slots Z (F0 m (pc + 1) ls (.ref b :: rest))) : W p l e R s m args below meth c H locs cells slots Z (F0 m pc ls (.int i :: .ref a :: rest)) := by
  rcases hk with (hk | hk) | hk <;>
  · obtain ⟨cell, q1, q2, q3, q4, q5, q6, -⟩ := fx_arr F hk (by omega)
    have hv := q5 _ (fx_ix hi)
    rw [show fx_val (fx_at _) h a i.toNatClampNeg = va_rf (hp_R h a i.toNatClampNeg) from rfl, hb] at hv
    exact W.aald C.ex C.by q1 (State.isArrayOf_alike C.al q2) rfl q3 (fx_inle hi q4.1) hv rfl rfl hd k
/-- a place of an array of ours turns -/
theorem fx_F.ast {h' : AH} {K n : Nat} {cell : Cell} {v : Value} (F : fx_F D h0 h H locs cells slots) (hk : hp_k h a = K) (hK : 100 < K) (hK6 : K < 106) (hn : n < hp_n h a) (hc : H[a]? = some cell) (ho : fx_off h h' a)
    (hv : ∀ j, fx_val (fx_at K) h' a j = updV (fun j => fx_val (fx_at K) h a j) n v j) (h8 : bk K → ∀ j, j < hp_n h a → by8 (hp_I h' a j)) :
    ∀ H' : Heap, H'[a]? = some (cell.setSlot n v) → H'.size = H.size → (∀ q, q ≠ a → H'[q]? = H[q]?) → fx_F D h0 h' H' (locs ++ [⟨a, n⟩]) cells slots := by
  intro H' e1 e2 e3
  obtain ⟨cell', q1, q2, q3, q4, q5, q6, q8, q7⟩ := fx_arr F hk hK
  cases hc.symm.trans q1
  obtain ⟨F1, F2, F3, F4, F5, F6, F7⟩ := id F
  have hb0 : fx_b D ≤ a := F1.2.2.2.2.2.1 a (by omega) (by omega)
  refine ⟨F1.set ho e2 e3 hb0 ⟨fun ci' hk' hc' => ?_, fun hk' => ?_⟩, fun q hq => ?_, by rw [ho.2.2.2.1]; exact F3, by rw [ho.2.2.2.2.1]; exact F4, by rw [ho.2.2.2.1]; exact F5, by rw [ho.2.2.2.2.1]; exact F6, F7.off ho⟩
  · rw [ho.2.1, hk] at hk'; omega
  · rw [ho.2.1, hk]
    refine ⟨_, e1, q2, q3, ?_, fun j hj => ?_, fun hb j hj => ?_, q8, q7⟩
    · rw [ho.2.2.1, k2_slotsz cell n v]; exact q4
    · rw [ho.2.2.1] at hj
      rw [hv j]
      by_cases hjn : j = n
      · subst hjn
        have hj' : j < cell.slots.size := Nat.lt_of_lt_of_le hj q4.1
        simp [updV, Cell.setSlot, hj']
      · simp only [updV, hjn, if_false]
        rw [← q5 j hj]
        simp [Cell.setSlot, Array.getElem?_setIfInBounds, Ne.symm hjn]
    · rw [ho.2.2.1] at hj
      exact h8 hb j hj
  · rcases List.mem_append.mp hq with h1 | h1
    · exact F2 q h1
    · rw [List.mem_singleton.mp h1]; exact hb0
theorem fx_av_I {K : Nat} (hK : fx_at K = 0) (n : Nat) (x : Int32) : ∀ j, fx_val (fx_at K) (up_I h a n x) a j = updV (fun j => fx_val (fx_at K) h a j) n (.int x) j := by
  intro j
  rw [hK]
  by_cases hj : j = n
  · subst hj; simp [updV, fx_val, hp_I, up_I]
  · simp [updV, fx_val, hp_I, up_I, hj]
theorem fx_av_L {K : Nat} (hK : fx_at K = 1) (n : Nat) (x : Int64) : ∀ j, fx_val (fx_at K) (up_L h a n x) a j = updV (fun j => fx_val (fx_at K) h a j) n (.long x) j := by
  intro j
  rw [hK]
  by_cases hj : j = n
  · subst hj; simp [updV, fx_val, hp_L, up_L]
  · simp [updV, fx_val, hp_L, up_L, hj]
theorem fx_av_R {K : Nat} (hK : fx_at K = 2) (n : Nat) (x : Option Nat) : ∀ j, fx_val (fx_at K) (up_R h a n x) a j = updV (fun j => fx_val (fx_at K) h a j) n (va_rf x) j := by
  intro j
  rw [hK]
  by_cases hj : j = n
  · subst hj; simp [updV, fx_val, hp_R, up_R]
  · simp [updV, fx_val, hp_R, up_R, hj]
theorem fx_by8 (x : Int32) : by8 x.toInt8.toInt32 := by
  unfold by8
  rw [Int8.toInt8_toInt32]
theorem fx_bast {x : Int32} (C : fx_CX D y cc nL kf kw ret hh h0 p R s m meth c) (F : fx_F D h0 h H locs cells slots) (hk : hp_k h a = 101) (hi : vp_in i (hp_n h a)) (hd : decode cc pc = .ok (.bastore, 1))
    (k : ∀ (H : Heap) (locs : List Loc), fx_F D h0 (up_I h a i.toNatClampNeg x.toInt8.toInt32) H locs cells slots → W p l e R s m args below meth c H locs cells slots Z (F0 m (pc + 1) ls rest)) : W p l e R s m args below meth c H locs cells slots Z (F0 m pc ls (.int x :: .int i :: .ref a :: rest)) := by
  obtain ⟨cell, q1, q2, q3, q4, q5, q6, -⟩ := fx_arr F hk (by omega)
  refine W.bast C.ex C.by q1 (State.isArrayOf_alike C.al q2) q3 (fx_inle hi q4.1) rfl rfl hd fun H' e1 e2 e3 => k _ _ (F.ast hk (by omega) (by omega) (fx_ix hi) q1 (fx_offI _ _ _ _) (fx_av_I rfl _ _) (fun _ j hj => ?_) H' e1 e2 e3)
  by_cases hji : j = i.toNatClampNeg
  · have : hp_I (up_I h a i.toNatClampNeg x.toInt8.toInt32) a j = x.toInt8.toInt32 := by simp [hp_I, up_I, hji]
    rw [this]; exact fx_by8 x
  · have : hp_I (up_I h a i.toNatClampNeg x.toInt8.toInt32) a j = hp_I h a j := by simp [hp_I, up_I, hji]
    rw [this]; exact q6 (Or.inl rfl) j hj
theorem fx_iast {x : Int32} (C : fx_CX D y cc nL kf kw ret hh h0 p R s m meth c) (F : fx_F D h0 h H locs cells slots) (hk : hp_k h a = 102) (hi : vp_in i (hp_n h a)) (hd : decode cc pc = .ok (.iastore, 1))
    (k : ∀ (H : Heap) (locs : List Loc), fx_F D h0 (up_I h a i.toNatClampNeg x) H locs cells slots → W p l e R s m args below meth c H locs cells slots Z (F0 m (pc + 1) ls rest)) : W p l e R s m args below meth c H locs cells slots Z (F0 m pc ls (.int x :: .int i :: .ref a :: rest)) := by
  obtain ⟨cell, q1, q2, q3, q4, q5, q6, -⟩ := fx_arr F hk (by omega)
  exact W.iast C.ex C.by q1 (State.isArrayOf_alike C.al q2) q3 (fx_inle hi q4.1) rfl rfl hd fun H' e1 e2 e3 => k _ _ (F.ast hk (by omega) (by omega) (fx_ix hi) q1 (fx_offI _ _ _ _) (fx_av_I rfl _ _) (fun hb => by rcases hb with hb | hb <;> omega) H' e1 e2 e3)
theorem fx_last {x : Int64} (C : fx_CX D y cc nL kf kw ret hh h0 p R s m meth c) (F : fx_F D h0 h H locs cells slots) (hk : hp_k h a = 103) (hi : vp_in i (hp_n h a)) (hd : decode cc pc = .ok (.lastore, 1))
    (k : ∀ (H : Heap) (locs : List Loc), fx_F D h0 (up_L h a i.toNatClampNeg x) H locs cells slots → W p l e R s m args below meth c H locs cells slots Z (F0 m (pc + 1) ls rest)) : W p l e R s m args below meth c H locs cells slots Z (F0 m pc ls (.long x :: .int i :: .ref a :: rest)) := by
  obtain ⟨cell, q1, q2, q3, q4, q5, q6, -⟩ := fx_arr F hk (by omega)
  exact W.last C.ex C.by q1 (State.isArrayOf_alike C.al q2) q3 (fx_inle hi q4.1) rfl rfl hd fun H' e1 e2 e3 => k _ _ (F.ast hk (by omega) (by omega) (fx_ix hi) q1 (fx_offL _ _ _ _) (fx_av_L rfl _ _) (fun hb => by rcases hb with hb | hb <;> omega) H' e1 e2 e3)
/-- the class of a cell of a kind -/
theorem fx_clsO (C : fx_CX D y cc nL kf kw ret hh h0 p R s m meth c) (F : fx_F D h0 h H locs cells slots) {b : Nat} {r : vw_C} (hr : fx_cl[ci]? = some r) (hci : ci < 100) (hk : hp_k h b = ci + 1) : ∃ cell : Cell, H[b]? = some cell ∧ cell.vm.isStatics = false ∧ s.vm.findClass r.1 = some cell.cls := by
  obtain ⟨r', hr', cell, q1, q2, q3, q4⟩ := (F.1.2.2.2.1 b).1 ci hk hci
  cases hr.symm.trans hr'
  obtain ⟨hS, hfc, -⟩ := C.kn hr
  exact ⟨cell, q1, by rw [q3]; rfl, by rw [q2]; exact hfc⟩
/-- an object into an array of objects -/
theorem fx_aast {b : Nat} {r : vw_C} (C : fx_CX D y cc nL kf kw ret hh h0 p R s m meth c) (F : fx_F D h0 h H locs cells slots) (hk : hp_k h a = 104) (hi : vp_in i (hp_n h a)) (hr : fx_cl[ci]? = some r) (hci : ci < 100) (hb : hp_k h b = ci + 1) (hca : Cond.castable r.1 "java/lang/Object" ∈ tables_1) (hd : decode cc pc = .ok (.aastore, 1))
    (k : ∀ (H : Heap) (locs : List Loc), fx_F D h0 (up_R h a i.toNatClampNeg (some b)) H locs cells slots → W p l e R s m args below meth c H locs cells slots Z (F0 m (pc + 1) ls rest)) : W p l e R s m args below meth c H locs cells slots Z (F0 m pc ls (.ref b :: .int i :: .ref a :: rest)) := by
  obtain ⟨cell, q1, q2, q3, q4, q5, q6, q8, q7⟩ := fx_arr F hk (by omega)
  obtain ⟨kA, comp, kC, r1, r2, r3, r4⟩ := q7 _ rfl
  obtain ⟨cellV, g1, g2, g3⟩ := fx_clsO C F hr hci hb
  obtain ⟨kV, hkV, -⟩ := Vm.findClass_spec g3
  obtain ⟨kA', hkA', eA⟩ := C.al.2.2 _ _ r1
  obtain ⟨kC', hkC', -⟩ := C.al.2.2 _ _ r4
  have hfo : s.vm.findClass "java/lang/Object" = some comp := by rw [C.al.findClass]; exact r3
  have hcast : (Cond.castable r.1 "java/lang/Object").before args s = true := C.tw.at hca rfl rfl
  obtain ⟨x0, t1, f1, f2, f3⟩ := Cond.castable_spec hcast
  cases g3.symm.trans f1
  cases hfo.symm.trans f2
  have hlt := fx_ix hi
  refine W.aast C.ex C.by q1 q2.1 q3 hkA' (by rw [eA]; exact r2) rfl hkC' ⟨fun q => hi (Or.inl q), Nat.lt_of_lt_of_le hlt q4.1⟩ g1 (fun q h => by rw [h] at g2; cases g2) hkV f3 rfl rfl hd fun H' e1 e2 e3 => k _ _ (F.ast hk (by omega) (by omega) (fx_ix hi) q1 (fx_offR _ _ _ _) (fx_av_R rfl _ (some b)) (fun hb => by rcases hb with hb | hb <;> omega) H' e1 e2 e3)
/-- a byte array into an array of byte arrays -/
theorem fx_aasb {b : Nat} (C : fx_CX D y cc nL kf kw ret hh h0 p R s m meth c) (F : fx_F D h0 h H locs cells slots) (hk : hp_k h a = 105) (hi : vp_in i (hp_n h a)) (hb : hp_k h b = 101) (hd : decode cc pc = .ok (.aastore, 1))
    (k : ∀ (H : Heap) (locs : List Loc), fx_F D h0 (up_R h a i.toNatClampNeg (some b)) H locs cells slots → W p l e R s m args below meth c H locs cells slots Z (F0 m (pc + 1) ls rest)) : W p l e R s m args below meth c H locs cells slots Z (F0 m pc ls (.ref b :: .int i :: .ref a :: rest)) := by
  obtain ⟨cell, q1, q2, q3, q4, q5, q6, q8, q7⟩ := fx_arr F hk (by omega)
  obtain ⟨kA, comp, kC, r1, r2, r3, r4⟩ := q7 _ rfl
  obtain ⟨cellV, g1, g2, -, -, -, -, g4, -⟩ := fx_arr F hb (by omega)
  have g3 : s.vm.findClass "[B" = some cellV.cls := by rw [C.al.findClass]; exact g4 _ rfl
  obtain ⟨kV, hkV, -⟩ := Vm.findClass_spec g3
  obtain ⟨kA', hkA', eA⟩ := C.al.2.2 _ _ r1
  obtain ⟨kC', hkC', -⟩ := C.al.2.2 _ _ r4
  have hfo : s.vm.findClass "[B" = some comp := by rw [C.al.findClass]; exact r3
  have hsame : cellV.cls = comp := Option.some.inj (g3.symm.trans hfo)
  have hlt := fx_ix hi
  refine W.aast C.ex C.by q1 q2.1 q3 hkA' (by rw [eA]; exact r2) rfl hkC' ⟨fun q => hi (Or.inl q), Nat.lt_of_lt_of_le hlt q4.1⟩ g1 g2.1 hkV (by rw [hsame]; exact va_asg _ _) rfl rfl hd fun H' e1 e2 e3 => k _ _ (F.ast hk (by omega) (by omega) (fx_ix hi) q1 (fx_offR _ _ _ _) (fx_av_R rfl _ (some b)) (fun hb => by rcases hb with hb | hb <;> omega) H' e1 e2 e3)
theorem fx_ext.new {h0 h : AH} {k n m : Nat} (x : fx_ext h0 h) (hz : ∀ a, hp_z h ≤ a → hp_k h a = 0) : fx_ext h0 (up_N h k n m) := ⟨fun b hb => by
  obtain ⟨p1, p2⟩ := x.1 b hb
  have hne : b ≠ hp_z h := fun e => hb (by rw [← p1, hz b (by omega)])
  rw [show hp_k (up_N h k n m) b = hp_k h b by simp [hp_k, up_N, hne], show hp_n (up_N h k n m) b = hp_n h b by simp [hp_n, up_N, hne]]
  exact ⟨p1, p2⟩, Nat.le_trans x.2.1 (Nat.le_succ _), x.2.2.1, x.2.2.2⟩
theorem fx_F.new {k n w : Nat} {H' : Heap} (F : fx_F D h0 h H locs cells slots) (hs : fx_has h w) (hz : H'.size = H.size + 1) (hq : ∀ q, q < H.size → H'[q]? = H[q]?) (c : fx_cell D (up_N h k n w) H' (hp_z h)) : fx_F D h0 (up_N h k n w) H' locs (cells + 1) (slots + w) := by
  obtain ⟨F1, F2, F3, F4, F5, F6, F7⟩ := F
  refine ⟨F1.new hz hq c, F2, ?_, ?_, ?_, ?_, F7.new F1.2.2.2.2.1⟩
  · show _ = hp_z h + 1; omega
  · show _ = hp_s h + w; omega
  · show hp_z h + 1 ≤ fx_top D; rw [← F1.2.2.2.2.2.2.1]; exact hs.1
  · show hp_s h + w ≤ 7293034; exact hs.2
theorem fx_F.wf (F : fx_F D h0 h H locs cells slots) : fx_wf h := F.1.2.2.2.2.1
theorem fx_room (C : fx_CX D y cc nL kf kw ret hh h0 p R s m meth c) (F : fx_F D h0 h H locs cells slots) {w : Nat} (hs : fx_has h w) : cells + 1 ≤ R.cells ∧ slots + w ≤ R.slots := by
  obtain ⟨F1, F2, F3, F4, F5, F6, F7⟩ := F
  have ht := F1.2.2.2.2.2.2.1
  rw [C.rm]
  unfold fx_has at hs
  refine ⟨?_, ?_⟩
  · show cells + 1 ≤ fx_top D - hp_z h0; omega
  · show slots + w ≤ 7293034 - hp_s h0; omega
theorem fx_born {k : Nat} (t : FieldType) (ht : (t = .int ∨ t = .boolean) ∧ k = 0 ∨ t = .long ∧ k = 1 ∨ fx_isR t = true ∧ k = 2) (n w j : Nat) (kk : Nat) : fx_val k (up_N h kk n w) (hp_z h) j = defaultValue t := by
  rcases ht with ⟨rfl | rfl, rfl⟩ | ⟨rfl, rfl⟩ | ⟨ht, rfl⟩
  · simp [fx_val, hp_I, up_N, defaultValue]
  · simp [fx_val, hp_I, up_N, defaultValue]
  · simp [fx_val, hp_L, up_N, defaultValue]
  · cases t <;> first | (cases ht; done) | simp [fx_val, hp_R, up_N, va_rf, defaultValue]
def fx_okT (t : FieldType) (k : Nat) : Bool := match t with
  | .int => k == 0
  | .boolean => k == 0
  | .long => k == 1
  | .object _ => k == 2
  | .array _ => k == 2
  | _ => false
theorem fx_okT_spec {t : FieldType} {k : Nat} (h : fx_okT t k = true) : (t = .int ∨ t = .boolean) ∧ k = 0 ∨ t = .long ∧ k = 1 ∨ fx_isR t = true ∧ k = 2 := by
  cases t <;> simp_all [fx_okT, fx_isR]
theorem fx_allT : ∀ ci, ci < 18 → ∀ j, j < 57 → ∀ r, fx_cl[ci]? = some r → j < r.2.2 → fx_okT (fx_ty ci j) (fx_ft ci j) = true := by
  intro ci hci j hj r hr hjr
  have hb : ((List.range 18).all fun ci => (List.range 57).all fun j => match fx_cl[ci]? with
    | some r => if j < r.2.2 then fx_okT (fx_ty ci j) (fx_ft ci j) else true
    | none => true) = true := by decide +kernel
  have h1 := List.all_eq_true.mp hb ci (List.mem_range.mpr hci)
  have h2 := List.all_eq_true.mp h1 j (List.mem_range.mpr hj)
  rw [hr] at h2
  simpa [hjr] using h2
theorem fx_allN : ∀ (ci : Nat) (r : vw_C), fx_cl[ci]? = some r → ci < 18 ∧ r.2.2 ≤ 57 := by
  intro ci r hr
  have hl : ci < 18 := (List.getElem?_eq_some_iff.mp hr).1
  refine ⟨hl, ?_⟩
  have hb : (fx_cl.all fun r => decide (r.2.2 ≤ 57)) = true := by decide +kernel
  exact of_decide_eq_true (List.all_eq_true.mp hb r (List.mem_of_getElem? hr))
/-- new -/
theorem fx_new {r : vw_C} {n : Nat} (C : fx_CX D y cc nL kf kw ret hh h0 p R s m meth c) (F : fx_F D h0 h H locs cells slots) (hr : fx_cl[ci]? = some r) (hw1 : Cond.classLink y.cls idx r.1 ∈ tables_1) (hw2 : Cond.instantiable r.1 n ∈ tables_1) (hw3 : Cond.initialized r.1 ∈ tables_1) (hs : fx_has h n) (hd : decode cc pc = .ok (.new idx, 3))
    (k : ∀ (H : Heap) (cells slots : Nat), fx_F D h0 (up_N h (ci + 1) 0 n) H locs cells slots → W p l e R s m args below meth c H locs cells slots Z (F0 m (pc + 3) ls (.ref (hp_z h) :: rest))) : W p l e R s m args below meth c H locs cells slots Z (F0 m pc ls rest) := by
  obtain ⟨hc, hsl⟩ := fx_room C F hs
  obtain ⟨hS, hfc, kC, hkC, hkind⟩ := C.kn hr
  obtain ⟨hci, hN⟩ := fx_allN ci r hr
  refine W.newcK C.ex C.by C.ow (C.tw.at hw1 rfl rfl) (C.tw.at hw2 rfl rfl) (C.tw.at hw3 rfl rfl) rfl hd hc hsl hfc (h := hp_z h) F.1.1 fun H' kC' hkC' e1 e2 e3 => ?_
  cases hkC.symm.trans hkC'
  refine k _ _ _ (F.new hs (by rw [e2, F.1.1]) (fun q hq => e3 q (by rw [← F.1.1]; exact hq)) ⟨fun ci' hk' _ => ?_, fun hk' => ?_⟩)
  · have : hp_k (up_N h (ci + 1) 0 n) (hp_z h) = ci + 1 := by simp [hp_k, up_N]
    rw [this] at hk'
    have : ci' = ci := by omega
    subst this
    refine ⟨r, hr, _, e1, rfl, rfl, fun j hj => ?_⟩
    obtain ⟨cf, kf', fi, fd, hi, he⟩ := hS j hj
    have h3 := (u_facts (args := args) hfc hkC (fx_lays' C hr hj) hi).2.2
    rw [(State.fieldFound?_type hi (fx_tyok ci' hr j hj)).2] at h3
    rw [← he, k2_blank h3]
    exact congrArg some (fx_born (fx_ty ci' j) (fx_okT_spec (fx_allT ci' hci j (by omega) r hr hj)) _ _ _ _).symm
  · have : hp_k (up_N h (ci + 1) 0 n) (hp_z h) = ci + 1 := by simp [hp_k, up_N]
    rw [this] at hk'; omega
/-- an array of numbers -/
theorem fx_newa {K : Nat} {ty : ArrayType} {n : Int32} (C : fx_CX D y cc nL kf kw ret hh h0 p R s m meth c) (F : fx_F D h0 h H locs cells slots) (hw : Cond.arrayClass (newarray.typeOf ty) ∈ tables_1) (hK : 100 < K) (hK2 : fx_comp K = none) (hcn : ∀ nm, fx_cname K = some nm → nm = "[" ++ (newarray.typeOf ty).toString) (hty : fx_aty K = newarray.typeOf ty) (hdv : ∀ z j, fx_val (fx_at K) (up_N h K z z) (hp_z h) j = defaultValue (newarray.typeOf ty)) (hn : ¬ n < 0) (hby : n.toNatClampNeg * componentBytes (newarray.typeOf ty) ≤ 536870912) (hs : fx_has h n.toNatClampNeg) (hd : decode cc pc = .ok (.newarray ty, 2))
    (k : ∀ (H : Heap) (cells slots : Nat), fx_F D h0 (up_N h K n.toNatClampNeg n.toNatClampNeg) H locs cells slots → W p l e R s m args below meth c H locs cells slots Z (F0 m (pc + 2) ls (.ref (hp_z h) :: rest))) : W p l e R s m args below meth c H locs cells slots Z (F0 m pc ls (.int n :: rest)) := by
  obtain ⟨hc, hsl⟩ := fx_room C F hs
  have hHz := F.1.1
  refine W.newa C.ex C.by (C.tw.arr hw) rfl hd (n := n) rfl hn hby hc hsl fun cA kA comp f1 f2 f3 => ?_
  rw [hHz]
  have ecell : (H.push { cls := cA, slots := Array.replicate n.toNatClampNeg (defaultValue (newarray.typeOf ty)), vm := .none })[hp_z h]? = some { cls := cA, slots := Array.replicate n.toNatClampNeg (defaultValue (newarray.typeOf ty)), vm := .none } := by
    rw [← hHz]; simp
  have hkk : hp_k (up_N h K n.toNatClampNeg n.toNatClampNeg) (hp_z h) = K := by simp [hp_k, up_N]
  have hnn : hp_n (up_N h K n.toNatClampNeg n.toNatClampNeg) (hp_z h) = n.toNatClampNeg := by simp [hp_n, up_N]
  refine k _ _ _ (F.new hs (by simp) (fun q hq => by simp [Array.getElem?_push, Nat.ne_of_lt hq]) ⟨fun ci' hk' hc' => ?_, fun hk' => ?_⟩)
  · rw [hkk] at hk'; omega
  · rw [hkk]
    refine ⟨_, ecell, ?_, (fun h => by cases h), ?_, fun j hj => ?_, fun hb j hj => ?_, fun nm hnm => ?_, fun C' hC' => by rw [hK2] at hC'; cases hC'⟩
    · obtain ⟨kA', hkA', eA⟩ := C.al.symm.2.2 _ _ f2
      exact ⟨(fun _ h => by cases h), kA', hkA', comp, by rw [eA, hty]; exact f3⟩
    · rw [hnn]; simp [nI]
    · rw [hnn] at hj
      rw [hdv]
      simp [Array.getElem?_replicate, hj]
    · have : hp_I (up_N h K n.toNatClampNeg n.toNatClampNeg) (hp_z h) j = 0 := by simp [hp_I, up_N]
      rw [this]; rfl
    · rw [hcn nm hnm, ← C.al.findClass]; exact f1
theorem fx_newaB {n : Int32} (C : fx_CX D y cc nL kf kw ret hh h0 p R s m meth c) (F : fx_F D h0 h H locs cells slots) (hw : Cond.arrayClass .byte ∈ tables_1) (hn : ¬ n < 0) (hby : n.toNatClampNeg ≤ 536870912) (hs : fx_has h n.toNatClampNeg) (hd : decode cc pc = .ok (.newarray .byte, 2))
    (k : ∀ (H : Heap) (cells slots : Nat), fx_F D h0 (up_N h 101 n.toNatClampNeg n.toNatClampNeg) H locs cells slots → W p l e R s m args below meth c H locs cells slots Z (F0 m (pc + 2) ls (.ref (hp_z h) :: rest))) : W p l e R s m args below meth c H locs cells slots Z (F0 m pc ls (.int n :: rest)) :=
  fx_newa (K := 101) (ty := .byte) C F hw (by decide) rfl (fun nm h => by cases h; decide +kernel) rfl (fun _ _ => by simp [fx_val, fx_at, hp_I, up_N, defaultValue, newarray.typeOf]) hn (by show _ * 1 ≤ _; omega) hs hd k
theorem fx_newaI {n : Int32} (C : fx_CX D y cc nL kf kw ret hh h0 p R s m meth c) (F : fx_F D h0 h H locs cells slots) (hw : Cond.arrayClass .int ∈ tables_1) (hn : ¬ n < 0) (hby : n.toNatClampNeg * 4 ≤ 536870912) (hs : fx_has h n.toNatClampNeg) (hd : decode cc pc = .ok (.newarray .int, 2))
    (k : ∀ (H : Heap) (cells slots : Nat), fx_F D h0 (up_N h 102 n.toNatClampNeg n.toNatClampNeg) H locs cells slots → W p l e R s m args below meth c H locs cells slots Z (F0 m (pc + 2) ls (.ref (hp_z h) :: rest))) : W p l e R s m args below meth c H locs cells slots Z (F0 m pc ls (.int n :: rest)) :=
  fx_newa (K := 102) (ty := .int) C F hw (by decide) rfl (fun nm h => by cases h) rfl (fun _ _ => by simp [fx_val, fx_at, hp_I, up_N, defaultValue, newarray.typeOf]) hn hby hs hd k
theorem fx_newaL {n : Int32} (C : fx_CX D y cc nL kf kw ret hh h0 p R s m meth c) (F : fx_F D h0 h H locs cells slots) (hw : Cond.arrayClass .long ∈ tables_1) (hn : ¬ n < 0) (hby : n.toNatClampNeg * 8 ≤ 536870912) (hs : fx_has h n.toNatClampNeg) (hd : decode cc pc = .ok (.newarray .long, 2))
    (k : ∀ (H : Heap) (cells slots : Nat), fx_F D h0 (up_N h 103 n.toNatClampNeg n.toNatClampNeg) H locs cells slots → W p l e R s m args below meth c H locs cells slots Z (F0 m (pc + 2) ls (.ref (hp_z h) :: rest))) : W p l e R s m args below meth c H locs cells slots Z (F0 m pc ls (.int n :: rest)) :=
  fx_newa (K := 103) (ty := .long) C F hw (by decide) rfl (fun nm h => by cases h) rfl (fun _ _ => by simp [fx_val, fx_at, hp_L, up_N, defaultValue, newarray.typeOf]) hn hby hs hd k
end ROWA
