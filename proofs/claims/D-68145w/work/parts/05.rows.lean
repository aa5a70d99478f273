set_option maxRecDepth 10000
/-! rows: fields, arrays, new cells, ends -/
def fx_Lk (own : String) (idx ci j : Nat) : Prop := ∃ (r : vw_C) (ref : String), fx_cl[ci]? = some r ∧ j < r.2.2 ∧ ci < 100 ∧ (Cond.fieldLink own idx ref (r.2.1 j).2.1 (r.2.1 j).2.2.1 ∈ tables_1 ∨ ∃ host, Cond.fieldLinkNest own idx ref (r.2.1 j).2.1 (r.2.1 j).2.2.1 host ∈ tables_1) ∧ (ref = (r.2.1 j).1 ∨ Cond.sameField ref (r.2.1 j).1 (r.2.1 j).2.1 (r.2.1 j).2.2.1 ∈ tables_1)
theorem fx_Lk.mk {own : String} {idx ci j : Nat} {C : String} {T : u_T} {N : Nat} (hc : fx_cl[ci]? = some (C, T, N)) (hj : j < N) (hci : ci < 100) (hl : Cond.fieldLink own idx (T j).1 (T j).2.1 (T j).2.2.1 ∈ tables_1) : fx_Lk own idx ci j := ⟨_, _, hc, hj, hci, Or.inl hl, Or.inl rfl⟩
theorem fx_Lk.mkN {own host : String} {idx ci j : Nat} {C : String} {T : u_T} {N : Nat} (hc : fx_cl[ci]? = some (C, T, N)) (hj : j < N) (hci : ci < 100) (hl : Cond.fieldLinkNest own idx (T j).1 (T j).2.1 (T j).2.2.1 host ∈ tables_1) : fx_Lk own idx ci j := ⟨_, _, hc, hj, hci, Or.inr ⟨_, hl⟩, Or.inl rfl⟩
theorem fx_Lk.mkS {own ref : String} {idx ci j : Nat} {C : String} {T : u_T} {N : Nat} (hc : fx_cl[ci]? = some (C, T, N)) (hj : j < N) (hci : ci < 100) (hl : Cond.fieldLink own idx ref (T j).2.1 (T j).2.2.1 ∈ tables_1) (hs : Cond.sameField ref (T j).1 (T j).2.1 (T j).2.2.1 ∈ tables_1) : fx_Lk own idx ci j := ⟨_, _, hc, hj, hci, Or.inl hl, Or.inr hs⟩
section ROWS
variable {p : Program} {l : Launch} {e : Env} {R : Room} {s : State} {m : MethodId} {args : Array Value} {below : List Frame} {meth : Method} {c : Code} {H : Heap} {locs : List Loc} {cells slots : Nat} {Z : State → Prop}
variable {D : DD} {y : MethodName} {cc : ByteArray} {nL kf kw : Nat} {ret : Option FieldType} {hh : List (Nat × Nat × Nat × Nat)} {h0 h : AH} {Q : Outcome → AH → Prop}
variable {pc : Nat} {ls : Array Slot} {rest : List Value} {a idx ci j : Nat}
theorem fx_mono {Z1 : State → Prop} {g : JFrame} (hi : ∀ t, Z1 t → Z t) (k : W p l e R s m args below meth c H locs cells slots Z1 g) : W p l e R s m args below meth c H locs cells slots Z g := fun T hT X => by
  obtain ⟨t, a1, b1⟩ := k T hT X
  exact ⟨t, a1, hi t b1⟩
theorem fx_fin {o0 : Outcome} (F : fx_F D h0 h H locs cells slots) (hq : Q o0 h) : ∀ t, MQ below (fun _ _ o t => o = o0 ∧ t.heap = H) args s cells slots (fun q => fx_b D ≤ q) t → fx_Z D below s h0 Q t := by
  rintro t ⟨o, h1, h2, ⟨rfl, hH⟩, L, ⟨-, hW, hs⟩, hL⟩
  obtain ⟨F1, F2, F3, F4, F5, F6, F7⟩ := F
  have ec : hp_z h - hp_z h0 = cells := by omega
  have es : hp_s h - hp_s h0 = slots := by omega
  exact ⟨_, h1, h2, h, L, hq, by rw [hH]; exact F1, F7, by omega, F5, by omega, F6, hW, by rw [ec, es]; exact hs, hL⟩
theorem fx_iret {v : Int32} (C : fx_CX D y cc nL kf kw (some .int) hh h0 p R s m meth c) (F : fx_F D h0 h H locs cells slots) (hd : decode cc pc = .ok (.ireturn, 1)) (hq : Q (.returned (some (.int v))) h) : W p l e R s m args below meth c H locs cells slots (fx_Z D below s h0 Q) (F0 m pc ls [.int v]) :=
  fx_mono (fx_fin F hq) (W.iret C.ex C.by C.rt (fun _ ht _ => ⟨rfl, ht⟩) F.2.1 hd C.lo)
theorem fx_zret {v : Int32} (C : fx_CX D y cc nL kf kw (some .boolean) hh h0 p R s m meth c) (F : fx_F D h0 h H locs cells slots) (hd : decode cc pc = .ok (.ireturn, 1)) (hz : zb v) (hq : Q (.returned (some (.int v))) h) : W p l e R s m args below meth c H locs cells slots (fx_Z D below s h0 Q) (F0 m pc ls [.int v]) :=
  fx_mono (fx_fin F hq) (W.zret C.ex C.by C.rt (by rcases hz with rfl | rfl <;> rfl) (fun _ ht _ => ⟨rfl, ht⟩) F.2.1 hd C.lo)
theorem fx_lret {v : Int64} (C : fx_CX D y cc nL kf kw (some .long) hh h0 p R s m meth c) (F : fx_F D h0 h H locs cells slots) (hd : decode cc pc = .ok (.lreturn, 1)) (hq : Q (.returned (some (.long v))) h) : W p l e R s m args below meth c H locs cells slots (fx_Z D below s h0 Q) (F0 m pc ls [.long v]) :=
  fx_mono (fx_fin F hq) (W.lret C.ex C.by C.rt (fun _ ht _ => ⟨rfl, ht⟩) F.2.1 hd C.lo)
theorem fx_vret (C : fx_CX D y cc nL kf kw none hh h0 p R s m meth c) (F : fx_F D h0 h H locs cells slots) (hd : decode cc pc = .ok (.return_, 1)) (hq : Q (.returned none) h) : W p l e R s m args below meth c H locs cells slots (fx_Z D below s h0 Q) (F0 m pc ls []) :=
  fx_mono (fx_fin F hq) (W.vret C.ex C.by C.rt (fun _ ht _ => ⟨rfl, ht⟩) F.2.1 hd C.lo)
theorem fx_aret {rt : FieldType} (C : fx_CX D y cc nL kf kw (some rt) hh h0 p R s m meth c) (F : fx_F D h0 h H locs cells slots) (hrt : (∃ n, rt = .object n) ∨ ∃ t, rt = .array t) (hd : decode cc pc = .ok (.areturn, 1)) (hq : Q (.returned (some (.ref a))) h) : W p l e R s m args below meth c H locs cells slots (fx_Z D below s h0 Q) (F0 m pc ls [.ref a]) :=
  fx_mono (fx_fin F hq) (W.aret C.ex C.by C.rt hrt (Or.inr ⟨_, rfl⟩) (fun _ ht _ => ⟨rfl, ht⟩) F.2.1 hd C.lo)
/-- an exception leaves the method -/
theorem fx_leave {g : JFrame} (C : fx_CX D y cc nL kf kw ret hh h0 p R s m meth c) {T : State} (X : Stand p l e R s m args below meth c T locs cells slots) (F : fx_F D h0 h T.heap locs cells slots) (hg : g.method = m) (hl : g.locked = none) (he : g.entered = []) (hout : ∀ x ∈ tableOf hh, covers x g.pc = false) (hq : Q (.threw a) h) :
    ∃ t, Steps p.tables e below ((T.setTop g).pushFrame (.throwing a)) t ∧ fx_Z D below s h0 Q t := by
  obtain ⟨h1, h2, h3, h4, h5⟩ := X.leaveThrown a (g := g) hg hl he (by rw [C.tb]; exact hout) C.lo
  obtain ⟨F1, F2, F3, F4, F5, F6, F7⟩ := F
  have ec : hp_z h - hp_z h0 = cells := by omega
  have es : hp_s h - hp_s h0 = slots := by omega
  exact ⟨_, h1, _, h2, h3, h, locs, hq, F1, F7, by omega, F5, by omega, F6, h4, by rw [ec, es]; exact h5, F2⟩
theorem fx_athrow (C : fx_CX D y cc nL kf kw ret hh h0 p R s m meth c) (F : fx_F D h0 h H locs cells slots) (hout : ∀ x ∈ tableOf hh, covers x pc = false) (hd : decode cc pc = .ok (.athrow, 1)) (hq : Q (.threw a) h) : W p l e R s m args below meth c H locs cells slots (fx_Z D below s h0 Q) (F0 m pc ls (.ref a :: rest)) := by
  intro T hT X
  subst hT
  obtain ⟨h1, h2, h3, h4, h5⟩ := X.athrowLeaves C.ex (g := F0 m pc ls (.ref a :: rest)) rfl rfl rfl (by rw [C.tb]; exact hout) (a := a) (rest := rest) rfl (by rw [C.by]; exact hd) C.lo
  obtain ⟨F1, F2, F3, F4, F5, F6, F7⟩ := F
  have ec : hp_z h - hp_z h0 = cells := by omega
  have es : hp_s h - hp_s h0 = slots := by omega
  exact ⟨_, h1, _, h2, h3, h, locs, hq, F1, F7, by omega, F5, by omega, F6, h4, by rw [ec, es]; exact h5, F2⟩
theorem fx_lays' (C : fx_CX D y cc nL kf kw ret hh h0 p R s m meth c) {r : vw_C} (hr : fx_cl[ci]? = some r) {k : Nat} (hk : k < r.2.2) : (Cond.lays r.1 (r.2.1 k).1 (r.2.1 k).2.1 (r.2.1 k).2.2.1).before args s = true ∨ (Cond.laysFinal r.1 (r.2.1 k).1 (r.2.1 k).2.1 (r.2.1 k).2.2.1).before args s = true := by
  have hm := fx_lays ci hr k hk
  unfold u_lay at hm
  split at hm
  · exact Or.inr (C.tw.at hm rfl rfl)
  · exact Or.inl (C.tw.at hm rfl rfl)
theorem fx_same (C : fx_CX D y cc nL kf kw ret hh h0 p R s m meth c) {ref o n d : String} (h : ref = o ∨ Cond.sameField ref o n d ∈ tables_1) (x : ClassId × Class × Nat × Field) (hx : s.fieldFound? o n d = some x) : s.fieldFound? ref n d = some x := by
  rcases h with rfl | h
  · exact hx
  · exact u_same (C.tw.at (A := #[]) h rfl rfl) x hx
/-- getfield -/
theorem fx_get (C : fx_CX D y cc nL kf kw ret hh h0 p R s m meth c) (F : fx_F D h0 h H locs cells slots) (lk : fx_Lk y.cls idx ci j) (hk : hp_k h a = ci + 1) (hd : decode cc pc = .ok (.getfield idx, 3))
    (k : W p l e R s m args below meth c H locs cells slots Z (F0 m (pc + 3) ls (fx_val (fx_ft ci j) h a j :: rest))) : W p l e R s m args below meth c H locs cells slots Z (F0 m pc ls (.ref a :: rest)) := by
  obtain ⟨r, ref, hr, hj, hci, hl, hs⟩ := lk
  obtain ⟨r', hr', cell, q1, q2, q3, q4⟩ := (F.1.2.2.2.1 a).1 ci hk hci
  cases hr.symm.trans hr'
  obtain ⟨hS, hfc, kC, hkC, hkind⟩ := C.kn hr
  obtain ⟨cf, kf', fi, f, hi, hsl⟩ := hS j hj
  have hst := (u_facts (args := args) hfc hkC (fx_lays' C hr hj) hi).1
  have hi' := fx_same C hs _ hi
  have hv : cell.slots[f.slot]? = some (fx_val (fx_ft ci j) h a j) := by rw [hsl]; exact q4 j hj
  have hkn : cell.vm ≠ .unknown := by rw [q3]; exact fun h => by cases h
  rcases hl with hl | ⟨host, hl⟩
  · exact W.getf C.ex C.by C.ow (C.tw.at hl rfl rfl) hi' hst q1 hkn hv rfl rfl hd k
  · exact va_Wgetf C.ex C.by C.ow (C.tw.at hl rfl rfl) hi' hst q1 hkn hv rfl rfl hd k
theorem fx_getI (C : fx_CX D y cc nL kf kw ret hh h0 p R s m meth c) (F : fx_F D h0 h H locs cells slots) (lk : fx_Lk y.cls idx ci j) (hk : hp_k h a = ci + 1) (ht : fx_ft ci j = 0) (hd : decode cc pc = .ok (.getfield idx, 3))
    (k : W p l e R s m args below meth c H locs cells slots Z (F0 m (pc + 3) ls (.int (hp_I h a j) :: rest))) : W p l e R s m args below meth c H locs cells slots Z (F0 m pc ls (.ref a :: rest)) := fx_get C F lk hk hd (by rw [ht]; exact k)
theorem fx_getL (C : fx_CX D y cc nL kf kw ret hh h0 p R s m meth c) (F : fx_F D h0 h H locs cells slots) (lk : fx_Lk y.cls idx ci j) (hk : hp_k h a = ci + 1) (ht : fx_ft ci j = 1) (hd : decode cc pc = .ok (.getfield idx, 3))
    (k : W p l e R s m args below meth c H locs cells slots Z (F0 m (pc + 3) ls (.long (hp_L h a j) :: rest))) : W p l e R s m args below meth c H locs cells slots Z (F0 m pc ls (.ref a :: rest)) := fx_get C F lk hk hd (by rw [ht]; exact k)
theorem fx_getR {b : Nat} (C : fx_CX D y cc nL kf kw ret hh h0 p R s m meth c) (F : fx_F D h0 h H locs cells slots) (lk : fx_Lk y.cls idx ci j) (hk : hp_k h a = ci + 1) (ht : fx_ft ci j = 2) (hb : hp_R h a j = some b) (hd : decode cc pc = .ok (.getfield idx, 3))
    (k : W p l e R s m args below meth c H locs cells slots Z (F0 m (pc + 3) ls (.ref b :: rest))) : W p l e R s m args below meth c H locs cells slots Z (F0 m pc ls (.ref a :: rest)) := fx_get C F lk hk hd (by rw [ht]; show W p l e R s m args below meth c H locs cells slots Z (F0 m (pc + 3) ls (va_rf (hp_R h a j) :: rest)); rw [hb]; exact k)
theorem fx_getQ (C : fx_CX D y cc nL kf kw ret hh h0 p R s m meth c) (F : fx_F D h0 h H locs cells slots) (lk : fx_Lk y.cls idx ci j) (hk : hp_k h a = ci + 1) (ht : fx_ft ci j = 2) (hd : decode cc pc = .ok (.getfield idx, 3))
    (k : W p l e R s m args below meth c H locs cells slots Z (F0 m (pc + 3) ls (va_rf (hp_R h a j) :: rest))) : W p l e R s m args below meth c H locs cells slots Z (F0 m pc ls (.ref a :: rest)) := fx_get C F lk hk hd (by rw [ht]; exact k)
/-- putfield -/
theorem fx_put {h' : AH} {v : Value} (C : fx_CX D y cc nL kf kw ret hh h0 p R s m meth c) (F : fx_F D h0 h H locs cells slots) (lk : fx_Lk y.cls idx ci j) (hk : hp_k h a = ci + 1) (hn : narrow (fx_ty ci j) v = v) (hfit : fits (fx_ty ci j) v = true)
    (hfin : ∀ r, fx_cl[ci]? = some r → (r.2.1 j).2.2.2 = false ∨ (y.name = "<init>" ∧ (r.2.1 j).1 = y.cls)) (ho : fx_off h h' a) (hv : ∀ i, fx_val (fx_ft ci i) h' a i = updV (fun i => fx_val (fx_ft ci i) h a i) j v i) (hd : decode cc pc = .ok (.putfield idx, 3))
    (k : ∀ (H1 : Heap) (locs1 : List Loc), fx_F D h0 h' H1 locs1 cells slots → W p l e R s m args below meth c H1 locs1 cells slots Z (F0 m (pc + 3) ls rest)) : W p l e R s m args below meth c H locs cells slots Z (F0 m pc ls (v :: .ref a :: rest)) := by
  obtain ⟨r, ref, hr, hj, hci, hl, hs⟩ := lk
  obtain ⟨F1, F2, F3, F4, F5, F6, F7⟩ := id F
  obtain ⟨r', hr', cell, q1, q2, q3, q4⟩ := (F1.2.2.2.1 a).1 ci hk hci
  cases hr.symm.trans hr'
  obtain ⟨hS, hfc, kC, hkC, hkind⟩ := C.kn hr
  obtain ⟨cf, kf', fi, f, hi, hsl⟩ := hS j hj
  have hlay := fx_lays' (args := args) C hr hj
  have hst := (u_facts hfc hkC hlay hi).1
  have hi' := fx_same C hs _ hi
  have hb0 : fx_b D ≤ a := F1.2.2.2.2.2.1 a (by omega) (by omega)
  have hap : ∀ x y, x < r.2.2 → y < r.2.2 → x ≠ y → (D.2.1 ci) x ≠ (D.2.1 ci) y := by
    intro x y hx hy hne
    obtain ⟨_, _, _, fa, hia, ea⟩ := hS x hx
    obtain ⟨_, _, _, fb, hib, eb⟩ := hS y hy
    rw [← ea, ← eb]
    refine u_apart (args := args) (fx_lays' C hr hx) (fx_lays' C hr hy) hia hib ?_
    rw [(State.fieldFound?_type hia (fx_tyok ci hr x hx)).1, (State.fieldFound?_type hib (fx_tyok ci hr y hy)).1]
    exact fx_nmok ci hr x hx y hy hne
  have h6 := u_fits (args := args) hfc hkC hkind hlay hi (fx_tyok ci hr j hj) hn hfit
  have hlt : f.slot < cell.slots.size := by rw [hsl]; exact k2_hasslot (q4 j hj)
  have fin : ∀ H' : Heap, H'[a]? = some (cell.setSlot f.slot v) → H'.size = H.size → (∀ q, q ≠ a → H'[q]? = H[q]?) → fx_F D h0 h' H' (locs ++ [⟨a, f.slot⟩]) cells slots := by
    intro H' e1 e2 e3
    rw [hsl] at e1
    refine ⟨F1.set ho e2 e3 hb0 ⟨fun ci' hk' _ => ?_, fun hk' => ?_⟩, fun q hq => ?_, by rw [ho.2.2.2.1]; exact F3, by rw [ho.2.2.2.2.1]; exact F4, by rw [ho.2.2.2.1]; exact F5, by rw [ho.2.2.2.2.1]; exact F6, F7.off ho⟩
    · rw [ho.2.1, hk] at hk'
      have : ci' = ci := by omega
      subst this
      exact ⟨r, hr, t_OB.to (V := updV (fun i => fx_val (fx_ft ci' i) h a i) j v) ⟨_, e1, q2, q3, t_set q4 hap hj v⟩ (fun i _ => (hv i).symm)⟩
    · rw [ho.2.1, hk] at hk'; omega
    · rcases List.mem_append.mp hq with h1 | h1
      · exact F2 q h1
      · rw [List.mem_singleton.mp h1]; exact hb0
  have hcf : hasFlag f.accessFlags Acc.final = false ∨ (m.cls = cf ∧ meth.name = "<init>") := by
    rcases hfin r hr with h1 | ⟨h1, h2⟩
    · have hm := fx_lays ci hr j hj
      unfold u_lay at hm
      rw [if_neg (by rw [h1]; decide)] at hm
      exact Or.inl (u_store (args := args) (v := v) hfc hkC hkind (C.tw.at hm rfl rfl) hi (fx_tyok ci hr j hj) hn hfit).1
    · by_cases hf : (r.2.1 j).2.2.2 = false
      · have hm := fx_lays ci hr j hj
        unfold u_lay at hm
        rw [if_neg (by rw [hf]; decide)] at hm
        exact Or.inl (u_store (args := args) (v := v) hfc hkC hkind (C.tw.at hm rfl rfl) hi (fx_tyok ci hr j hj) hn hfit).1
      · refine Or.inr ⟨?_, C.nm.trans h1⟩
        have hm := fx_lays ci hr j hj
        unfold u_lay at hm
        rw [if_pos (by simpa using hf)] at hm
        have hlay' := C.tw.at (A := args) hm rfl rfl
        obtain ⟨_, _, c', _, _, _, -, -, hf', -, -, -, hown2, -⟩ := Cond.laysFinal_spec hlay'
        have e1 : c' = cf := by have := hi.symm.trans hf'; simp at this; exact this.1.symm
        rw [h2] at hown2
        rw [← e1]; exact Option.some.inj (C.ow.symm.trans hown2)
  have hkn : cell.vm ≠ .unknown := by rw [q3]; exact fun h => by cases h
  have ha : a < H.size := (Array.getElem?_eq_some_iff.mp q1).1
  have last : W p l e R s m args below meth c (H.setIfInBounds a (cell.setSlot f.slot v)) (locs ++ [⟨a, f.slot⟩]) cells slots Z (F0 m (pc + 3) ls rest) := k _ _ (fin _ (by simp [Array.getElem?_setIfInBounds, ha]) (by simp) (fun q hq => by simp [Array.getElem?_setIfInBounds, Ne.symm hq]))
  rcases hl with hl | ⟨host, hl⟩
  · exact W.putf C.ex C.by C.ow (C.tw.at hl rfl rfl) hi' hst hcf q1 hkn hlt h6.1 (by rw [q2, q3]; exact h6.2) rfl rfl hd last
  · exact va_Wputf C.ex C.by C.ow (C.tw.at hl rfl rfl) hi' hst hcf q1 hkn hlt h6.1 (by rw [q2, q3]; exact h6.2) rfl rfl hd last
theorem fx_val_I {ci : Nat} (ht : fx_ft ci j = 0) (x : Int32) : ∀ i, fx_val (fx_ft ci i) (up_I h a j x) a i = updV (fun i => fx_val (fx_ft ci i) h a i) j (.int x) i := by
  intro i
  by_cases hi : i = j
  · subst hi; simp [updV, ht, fx_val, hp_I, up_I]
  · have : hp_I (up_I h a j x) a i = hp_I h a i := by simp [hp_I, up_I, hi]
    simp only [updV, hi, if_false]
    unfold fx_val
    rw [this]; rfl
theorem fx_val_L {ci : Nat} (ht : fx_ft ci j = 1) (x : Int64) : ∀ i, fx_val (fx_ft ci i) (up_L h a j x) a i = updV (fun i => fx_val (fx_ft ci i) h a i) j (.long x) i := by
  intro i
  by_cases hi : i = j
  · subst hi; simp [updV, ht, fx_val, hp_L, up_L]
  · have : hp_L (up_L h a j x) a i = hp_L h a i := by simp [hp_L, up_L, hi]
    simp only [updV, hi, if_false]
    unfold fx_val
    rw [this]; rfl
theorem fx_val_R {ci : Nat} (ht : fx_ft ci j = 2) (x : Option Nat) : ∀ i, fx_val (fx_ft ci i) (up_R h a j x) a i = updV (fun i => fx_val (fx_ft ci i) h a i) j (va_rf x) i := by
  intro i
  by_cases hi : i = j
  · subst hi; simp [updV, ht, fx_val, hp_R, up_R]
  · have : hp_R (up_R h a j x) a i = hp_R h a i := by simp [hp_R, up_R, hi]
    simp only [updV, hi, if_false]
    unfold fx_val
    rw [this]; rfl
/-- may this method write that field? -/
def fx_mayF (y : MethodName) (ci j : Nat) : Prop := ∀ r, fx_cl[ci]? = some r → (r.2.1 j).2.2.2 = false ∨ (y.name = "<init>" ∧ (r.2.1 j).1 = y.cls)
theorem fx_mayF.no {y : MethodName} {ci j : Nat} {C : String} {T : u_T} {N : Nat} (hc : fx_cl[ci]? = some (C, T, N)) (hf : (T j).2.2.2 = false) : fx_mayF y ci j := fun r hr => by cases hc.symm.trans hr; exact Or.inl hf
theorem fx_mayF.ini {y : MethodName} {ci j : Nat} {C : String} {T : u_T} {N : Nat} (hc : fx_cl[ci]? = some (C, T, N)) (hn : y.name = "<init>") (hf : (T j).1 = y.cls) : fx_mayF y ci j := fun r hr => by cases hc.symm.trans hr; exact Or.inr ⟨hn, hf⟩
theorem fx_putI {v : Int32} (C : fx_CX D y cc nL kf kw ret hh h0 p R s m meth c) (F : fx_F D h0 h H locs cells slots) (lk : fx_Lk y.cls idx ci j) (hk : hp_k h a = ci + 1) (ht : fx_ft ci j = 0) (hty : fx_ty ci j = .int) (hfin : fx_mayF y ci j) (hd : decode cc pc = .ok (.putfield idx, 3))
    (k : ∀ (H : Heap) (locs : List Loc), fx_F D h0 (up_I h a j v) H locs cells slots → W p l e R s m args below meth c H locs cells slots Z (F0 m (pc + 3) ls rest)) : W p l e R s m args below meth c H locs cells slots Z (F0 m pc ls (.int v :: .ref a :: rest)) :=
  fx_put C F lk hk (by rw [hty]; rfl) (by rw [hty]; rfl) hfin (fx_offI h a j v) (fx_val_I ht v) hd k
theorem fx_putZ {v : Int32} (C : fx_CX D y cc nL kf kw ret hh h0 p R s m meth c) (F : fx_F D h0 h H locs cells slots) (lk : fx_Lk y.cls idx ci j) (hk : hp_k h a = ci + 1) (ht : fx_ft ci j = 0) (hty : fx_ty ci j = .boolean) (hz : zb v) (hfin : fx_mayF y ci j) (hd : decode cc pc = .ok (.putfield idx, 3))
    (k : ∀ (H : Heap) (locs : List Loc), fx_F D h0 (up_I h a j v) H locs cells slots → W p l e R s m args below meth c H locs cells slots Z (F0 m (pc + 3) ls rest)) : W p l e R s m args below meth c H locs cells slots Z (F0 m pc ls (.int v :: .ref a :: rest)) :=
  fx_put C F lk hk (by rw [hty]; rcases hz with rfl | rfl <;> rfl) (by rw [hty]; rcases hz with rfl | rfl <;> rfl) hfin (fx_offI h a j v) (fx_val_I ht v) hd k
theorem fx_putL {v : Int64} (C : fx_CX D y cc nL kf kw ret hh h0 p R s m meth c) (F : fx_F D h0 h H locs cells slots) (lk : fx_Lk y.cls idx ci j) (hk : hp_k h a = ci + 1) (ht : fx_ft ci j = 1) (hty : fx_ty ci j = .long) (hfin : fx_mayF y ci j) (hd : decode cc pc = .ok (.putfield idx, 3))
    (k : ∀ (H : Heap) (locs : List Loc), fx_F D h0 (up_L h a j v) H locs cells slots → W p l e R s m args below meth c H locs cells slots Z (F0 m (pc + 3) ls rest)) : W p l e R s m args below meth c H locs cells slots Z (F0 m pc ls (.long v :: .ref a :: rest)) :=
  fx_put C F lk hk (by rw [hty]; rfl) (by rw [hty]; rfl) hfin (fx_offL h a j v) (fx_val_L ht v) hd k
def fx_isR (t : FieldType) : Bool := match t with
  | .object _ => true
  | .array _ => true
  | _ => false
theorem fx_isR_n {t : FieldType} (h : fx_isR t = true) (x : Option Nat) : narrow t (va_rf x) = va_rf x ∧ fits t (va_rf x) = true := by
  cases t <;> first | (cases h; done) | (cases x <;> exact ⟨rfl, rfl⟩)
theorem fx_putR {b : Nat} (C : fx_CX D y cc nL kf kw ret hh h0 p R s m meth c) (F : fx_F D h0 h H locs cells slots) (lk : fx_Lk y.cls idx ci j) (hk : hp_k h a = ci + 1) (ht : fx_ft ci j = 2) (hty : fx_isR (fx_ty ci j) = true) (hfin : fx_mayF y ci j) (hd : decode cc pc = .ok (.putfield idx, 3))
    (k : ∀ (H : Heap) (locs : List Loc), fx_F D h0 (up_R h a j (some b)) H locs cells slots → W p l e R s m args below meth c H locs cells slots Z (F0 m (pc + 3) ls rest)) : W p l e R s m args below meth c H locs cells slots Z (F0 m pc ls (.ref b :: .ref a :: rest)) :=
  fx_put C F lk hk (fx_isR_n hty (some b)).1 (fx_isR_n hty (some b)).2 hfin (fx_offR h a j (some b)) (fx_val_R ht (some b)) hd k
theorem fx_putN (C : fx_CX D y cc nL kf kw ret hh h0 p R s m meth c) (F : fx_F D h0 h H locs cells slots) (lk : fx_Lk y.cls idx ci j) (hk : hp_k h a = ci + 1) (ht : fx_ft ci j = 2) (hty : fx_isR (fx_ty ci j) = true) (hfin : fx_mayF y ci j) (hd : decode cc pc = .ok (.putfield idx, 3))
    (k : ∀ (H : Heap) (locs : List Loc), fx_F D h0 (up_R h a j none) H locs cells slots → W p l e R s m args below meth c H locs cells slots Z (F0 m (pc + 3) ls rest)) : W p l e R s m args below meth c H locs cells slots Z (F0 m pc ls (.null :: .ref a :: rest)) :=
  fx_put C F lk hk (fx_isR_n hty none).1 (fx_isR_n hty none).2 hfin (fx_offR h a j none) (fx_val_R ht none) hd k
end ROWS
