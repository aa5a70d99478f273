set_option maxRecDepth 100000
def hk_cc (t0 t1 t2 t3 t4 t5 t6 t7 t8 t9 t10 t11 mi : Nat) : Nat → Nat := fun i => match i with
  | 0 => t0
  | 1 => t1
  | 2 => t2
  | 3 => t3
  | 4 => t4
  | 5 => t5
  | 6 => t6
  | 7 => t7
  | 8 => t8
  | 9 => t9
  | 10 => t10
  | 11 => t11
  | _ => mi
theorem hk_ne {s : State} {A B : Nat → Prop} {a a' N M : Nat} {t t' : FieldType} {f g : Nat → Value} (ht : t ≠ t') (h : va_T t a N f A s s.heap) (h' : va_T t' a' M g B s s.heap) : a ≠ a' := by
  rintro rfl
  exact ht (hk_ty h h')
theorem hk_ar {D : DD} {h0 : AH} {a k N : Nat} {f : Nat → Value} {A : Nat → Prop} (T : va_T (fx_aty k) a N f A D.2.2.1 D.2.2.1.heap) (hn : hp_n h0 a = N) (hv : ∀ j, j < N → f j = fx_val (fx_at k) h0 a j) (h8 : bk k → ∀ j, j < N → by8 (hp_I h0 a j)) (hc : fx_cname k = none) (hcm : fx_comp k = none) : fx_ar D h0 D.2.2.1.heap a k := by
  obtain ⟨c, h1, h2, h3, h4, h5, h6, -⟩ := T
  refine ⟨c, h1, h2, h3, ⟨by rw [hn]; exact h4, by rw [hn]; exact h5⟩, fun j hj => ?_, fun hb j hj => h8 hb j (by rw [← hn]; exact hj), fun nm hnm => (by rw [hc] at hnm; cases hnm), fun C hC => (by rw [hcm] at hC; cases hC)⟩
  rw [hn] at hj
  rw [h6 j hj, hv j hj]
theorem hk_cell {D : DD} {h0 : AH} {a k : Nat} (hk : hp_k h0 a = k) (h100 : 100 < k) (h : fx_ar D h0 D.2.2.1.heap a k) : fx_cell D h0 D.2.2.1.heap a := ⟨fun ci hc hlt => by omega, fun _ => by rw [hk]; exact h⟩
theorem hk_cell0 {D : DD} {h0 : AH} {a : Nat} (hk : hp_k h0 a = 0) : fx_cell D h0 D.2.2.1.heap a := ⟨fun ci hc hlt => by omega, fun h => by omega⟩
theorem hk_TW {s : State} {b : Nat} (hts : ∀ w ∈ tables_1, w.before #[Value.ref b] s = true) : fx_TW s := by
  intro w hm hg
  have h1 := hts w hm
  cases w <;> first
    | exact h1
    | (simp only [fx_good, Bool.and_eq_true] at hg; exact va_tabs hg.1 rfl h1)
    | (rename_i t; cases t <;> first | exact h1 | exact absurd hg (by decide))
def lw_P (b : Addr) (xs : List Int32) (args : Array Value) (s : State) : Prop := args = #[.ref b] ∧ s.IntsAt b xs ∧ xs.length ≤ 3072 ∧ (Jvm.Cond.and given_1 narrow_1).before args s = true
def lw_Q (_ : Array Value) (s : State) (o : Outcome) (t : State) : Prop := o = .returned (some (.int 1)) ∧ Framed s o t [] 601024 7293034
def lw_Z (below : List Frame) (a : Array Value) (s : State) : State → Prop := fun t => ∃ o, t.status = .running ∧ Ended t below o ∧ lw_Q a s o t
def hk_main : Prop := ∀ (b : Nat) (h : AH), st_ok b h → m_Law_law (fun v _ => v = 1) b h
set_option maxHeartbeats 4000000 in
theorem hk_start (main : hk_main) {p : Program} {e : Env} {s : State} {m : MethodId} {below : List Frame} {meth : Method} {c : Code} {l : Launch} (hl : l.flags = flags0) {b L : Nat} {xs : Nat → Int32} (hL : L ≤ 3072) (hx : p.tables.exec = Jvm.exec) (hcc : c.code = code) (hret : meth.sig.returnType = ret) (hml : c.maxLocals = 8) (hown : s.vm.findClass "ChainJudgeLaw" = some m.cls) (hts : ∀ w ∈ tables_1, w.before #[Value.ref b] s = true) (hX : va_X b L xs s s.heap) (hlo : meth.locks = false) (htb : c.exceptionTable.toList = tableOf []) (hnm : meth.name = "law") (hg : (Jvm.Cond.and given_1 narrow_1).before #[Value.ref b] s = true) : W p l e room_1 s m #[Value.ref b] below meth c s.heap [] 0 0 (lw_Z below #[Value.ref b] s) (entryFrame m ([Value.ref b] : List Value).toArray 8) := by
  have hs := flat_of_before _ hg
  obtain ⟨t0, e0, T0⟩ := hk_s0 hs
  obtain ⟨t1, e1, T1⟩ := hk_s1 hs
  obtain ⟨t2, e2, T2⟩ := hk_s2 hs
  obtain ⟨t3, e3, T3⟩ := hk_s3 hs
  obtain ⟨t4, e4, T4⟩ := hk_s4 hs
  obtain ⟨t5, e5, T5⟩ := hk_s5 hs
  obtain ⟨t6, e6, T6⟩ := hk_s6 hs
  obtain ⟨t7, e7, T7⟩ := hk_s7 hs
  obtain ⟨t8, e8, T8⟩ := hk_s8 hs
  obtain ⟨t9, e9, T9⟩ := hk_s9 hs
  obtain ⟨t10, e10, T10⟩ := hk_s10 hs
  obtain ⟨t11, e11, T11⟩ := hk_s11 hs
  obtain ⟨mi, hmi⟩ := va_Mi.of (hs (.isRef (.mirror "[Ljava/lang/Object;")) (by decide +kernel))
  obtain ⟨q, hq⟩ := Classical.axiomOfChoice (hk_kn hts)
  have XT : va_T .int b L (fun j => .int (xs j)) (hk_A s) s s.heap := by
    obtain ⟨scr, h1, h2, h3, h4, h5⟩ := hX
    exact ⟨scr, h1, h2, h3, by omega, by rw [h4], h5, fun hA => absurd (Array.getElem?_eq_some_iff.mp h1).1 (Nat.not_lt.mpr hA)⟩
  generalize hD : ((fun ci => (q ci).1, fun ci => (q ci).2, s, hk_cc t0 t1 t2 t3 t4 t5 t6 t7 t8 t9 t10 t11 mi) : DD) = D
  have hDs : D.2.2.1 = s := by rw [← hD]
  have hDc : D.2.2.2 = hk_cc t0 t1 t2 t3 t4 t5 t6 t7 t8 t9 t10 t11 mi := by rw [← hD]
  have hA : ∀ a : Nat, a < s.heap.size → ¬ (fx_b D ≤ a) := fun a ha h => by
    have : fx_b D = s.heap.size := by unfold fx_b; rw [hDs]
    omega
  have hok : fx_ok D := by
    refine ⟨fun ci r hr => ?_, fun i r hr => ?_, fun w hw => ?_, fun r hr => ?_, ?_⟩
    · rw [← hD]; exact hq ci r hr
    · rw [hDs, hDc]
      match i, hr with
      | 0, hr => cases hr; exact va_Zof (hts (.laysStatic "ChainJudge" "ROOTS" "[J") (by decide +kernel)) (hts (.initialized "ChainJudge") (by decide +kernel)) e0 hA
      | 1, hr => cases hr; exact va_Zof (hts (.laysStatic "ChainJudge" "FIRST" "[J") (by decide +kernel)) (hts (.initialized "ChainJudge") (by decide +kernel)) e1 hA
      | 2, hr => cases hr; exact va_Zof (hts (.laysStatic "ChainJudge" "AT_NAME" "[B") (by decide +kernel)) (hts (.initialized "ChainJudge") (by decide +kernel)) e2 hA
      | 3, hr => cases hr; exact va_Zof (hts (.laysStatic "ChainJudge" "CONSTRAINTS" "[B") (by decide +kernel)) (hts (.initialized "ChainJudge") (by decide +kernel)) e3 hA
      | 4, hr => cases hr; exact va_Zof (hts (.laysStatic "ChainJudge" "USAGE" "[B") (by decide +kernel)) (hts (.initialized "ChainJudge") (by decide +kernel)) e4 hA
      | 5, hr => cases hr; exact va_Zof (hts (.laysStatic "ChainJudge" "HOSTS" "[B") (by decide +kernel)) (hts (.initialized "ChainJudge") (by decide +kernel)) e5 hA
      | 6, hr => cases hr; exact va_Zof (hts (.laysStatic "ChainJudge" "PURPOSES" "[B") (by decide +kernel)) (hts (.initialized "ChainJudge") (by decide +kernel)) e6 hA
      | 7, hr => cases hr; exact va_Zof (hts (.laysStatic "ChainJudge" "SERVER" "[B") (by decide +kernel)) (hts (.initialized "ChainJudge") (by decide +kernel)) e7 hA
      | 8, hr => cases hr; exact va_Zof (hts (.laysStatic "ChainJudge" "CLIENT" "[B") (by decide +kernel)) (hts (.initialized "ChainJudge") (by decide +kernel)) e8 hA
      | 9, hr => cases hr; exact va_Zof (hts (.laysStatic "ChainJudge" "UNKNOWN" "[B") (by decide +kernel)) (hts (.initialized "ChainJudge") (by decide +kernel)) e9 hA
      | 10, hr => cases hr; exact va_Zof (hts (.laysStatic "ChainJudge" "KEYED" "[B") (by decide +kernel)) (hts (.initialized "ChainJudge") (by decide +kernel)) e10 hA
      | 11, hr => cases hr; exact va_Zof (hts (.laysStatic "java/util/ArrayList" "DEFAULTCAPACITY_EMPTY_ELEMENTDATA" "[Ljava/lang/Object;") (by decide +kernel)) (hts (.initialized "java/util/ArrayList") (by decide +kernel)) e11 hA
      | _ + 12, hr => cases hr
    · rw [hDs]
      simp only [fx_hw, List.mem_cons, List.not_mem_nil, or_false] at hw
      rcases hw with rfl | rfl | rfl | rfl
      · exact (hts (.laysStatic "java/lang/Throwable" "UNASSIGNED_STACK" "[Ljava/lang/StackTraceElement;") (by decide +kernel))
      · exact (hts (.laysStatic "java/lang/Throwable" "SUPPRESSED_SENTINEL" "Ljava/util/List;") (by decide +kernel))
      · exact hs (.isRef (.static "java/lang/Throwable" "UNASSIGNED_STACK" "[Ljava/lang/StackTraceElement;")) (by decide +kernel)
      · exact hs (.isRef (.static "java/lang/Throwable" "SUPPRESSED_SENTINEL" "Ljava/util/List;")) (by decide +kernel)
    · rw [hDs]
      simp only [fx_nc, List.mem_cons, List.not_mem_nil, or_false] at hr
      rcases hr with rfl | rfl | rfl | rfl | rfl | rfl | rfl | rfl
      · exact va_Nc.of (hs (.not (.castable "java/lang/IllegalArgumentException" "java/util/NoSuchElementException")) (by decide +kernel))
      · exact va_Nc.of (hs (.not (.castable "java/lang/UnsupportedOperationException" "java/util/NoSuchElementException")) (by decide +kernel))
      · exact va_Nc.of (hs (.not (.castable "java/lang/UnsupportedOperationException" "java/lang/IllegalArgumentException")) (by decide +kernel))
      · exact va_Nc.of (hs (.not (.castable "java/lang/IllegalStateException" "java/util/NoSuchElementException")) (by decide +kernel))
      · exact va_Nc.of (hs (.not (.castable "java/lang/IllegalStateException" "java/lang/IllegalArgumentException")) (by decide +kernel))
      · exact va_Nc.of (hs (.not (.castable "java/lang/IllegalStateException" "java/lang/UnsupportedOperationException")) (by decide +kernel))
      · exact va_Nc.of (hs (.not (.castable "java/lang/IllegalStateException" "java/lang/IndexOutOfBoundsException")) (by decide +kernel))
      · exact va_Nc.of (hs (.not (.castable "java/lang/IndexOutOfBoundsException" "java/util/NoSuchElementException")) (by decide +kernel))
    · rw [hDs, hDc]; exact hmi
  have htw : fx_TW s := hk_TW hts
  generalize hh : hk_h s b (hk_cc t0 t1 t2 t3 t4 t5 t6 t7 t8 t9 t10 t11 mi) = h0
  have z0 : hp_z h0 = s.heap.size := by rw [← hh]; rfl
  have s0 : hp_s h0 = 0 := by rw [← hh]; rfl
  have k0 : ∀ a, hp_k h0 a = hk_k b (hk_cc t0 t1 t2 t3 t4 t5 t6 t7 t8 t9 t10 t11 mi) a := fun a => by rw [← hh]; rfl
  have n0 : ∀ a, hp_n h0 a = hk_n s a := fun a => by rw [← hh]; rfl
  have I0 : ∀ a j, hp_I h0 a j = hk_I s a j := fun a j => by rw [← hh]; rfl
  have L0 : ∀ a j, hp_L h0 a j = hk_L s a j := fun a j => by rw [← hh]; rfl
  have c0 : hp_c h0 = hk_cc t0 t1 t2 t3 t4 t5 t6 t7 t8 t9 t10 t11 mi := by rw [← hh]; rfl
  have tp : fx_top D = s.heap.size + 601024 := by unfold fx_top fx_b; rw [hDs]
  have cb : ∀ a, (a = t2 ∨ a = t3 ∨ a = t4 ∨ a = t5 ∨ a = t6 ∨ a = t7 ∨ a = t8 ∨ a = t9 ∨ a = t10) → fx_ar D h0 s.heap a 111 := fun a ha => by
    rcases ha with rfl | rfl | rfl | rfl | rfl | rfl | rfl | rfl | rfl
    · have := hk_ar (D := D) (h0 := h0) (k := 111) (by rw [hDs]; exact T2) (by rw [n0]; exact hk_nT (by decide) T2) (fun j hj => by show _ = Value.int _; rw [I0, hk_IT T2 hj]) (fun _ j hj => by rw [I0, hk_IT T2 hj]; exact (by unfold by8; decide +kernel : ∀ j, j < 3 → by8 ((k_bytes.getD 0 []).getD j 0)) j hj) rfl rfl
      rw [hDs] at this; exact this
    · have := hk_ar (D := D) (h0 := h0) (k := 111) (by rw [hDs]; exact T3) (by rw [n0]; exact hk_nT (by decide) T3) (fun j hj => by show _ = Value.int _; rw [I0, hk_IT T3 hj]) (fun _ j hj => by rw [I0, hk_IT T3 hj]; exact (by unfold by8; decide +kernel : ∀ j, j < 3 → by8 ((k_bytes.getD 1 []).getD j 0)) j hj) rfl rfl
      rw [hDs] at this; exact this
    · have := hk_ar (D := D) (h0 := h0) (k := 111) (by rw [hDs]; exact T4) (by rw [n0]; exact hk_nT (by decide) T4) (fun j hj => by show _ = Value.int _; rw [I0, hk_IT T4 hj]) (fun _ j hj => by rw [I0, hk_IT T4 hj]; exact (by unfold by8; decide +kernel : ∀ j, j < 3 → by8 ((k_bytes.getD 2 []).getD j 0)) j hj) rfl rfl
      rw [hDs] at this; exact this
    · have := hk_ar (D := D) (h0 := h0) (k := 111) (by rw [hDs]; exact T5) (by rw [n0]; exact hk_nT (by decide) T5) (fun j hj => by show _ = Value.int _; rw [I0, hk_IT T5 hj]) (fun _ j hj => by rw [I0, hk_IT T5 hj]; exact (by unfold by8; decide +kernel : ∀ j, j < 3 → by8 ((k_bytes.getD 3 []).getD j 0)) j hj) rfl rfl
      rw [hDs] at this; exact this
    · have := hk_ar (D := D) (h0 := h0) (k := 111) (by rw [hDs]; exact T6) (by rw [n0]; exact hk_nT (by decide) T6) (fun j hj => by show _ = Value.int _; rw [I0, hk_IT T6 hj]) (fun _ j hj => by rw [I0, hk_IT T6 hj]; exact (by unfold by8; decide +kernel : ∀ j, j < 3 → by8 ((k_bytes.getD 4 []).getD j 0)) j hj) rfl rfl
      rw [hDs] at this; exact this
    · have := hk_ar (D := D) (h0 := h0) (k := 111) (by rw [hDs]; exact T7) (by rw [n0]; exact hk_nT (by decide) T7) (fun j hj => by show _ = Value.int _; rw [I0, hk_IT T7 hj]) (fun _ j hj => by rw [I0, hk_IT T7 hj]; exact (by unfold by8; decide +kernel : ∀ j, j < 8 → by8 ((k_bytes.getD 5 []).getD j 0)) j hj) rfl rfl
      rw [hDs] at this; exact this
    · have := hk_ar (D := D) (h0 := h0) (k := 111) (by rw [hDs]; exact T8) (by rw [n0]; exact hk_nT (by decide) T8) (fun j hj => by show _ = Value.int _; rw [I0, hk_IT T8 hj]) (fun _ j hj => by rw [I0, hk_IT T8 hj]; exact (by unfold by8; decide +kernel : ∀ j, j < 8 → by8 ((k_bytes.getD 6 []).getD j 0)) j hj) rfl rfl
      rw [hDs] at this; exact this
    · have := hk_ar (D := D) (h0 := h0) (k := 111) (by rw [hDs]; exact T9) (by rw [n0]; exact hk_nT (by decide) T9) (fun j hj => by show _ = Value.int _; rw [I0, hk_IT T9 hj]) (fun _ j hj => by rw [I0, hk_IT T9 hj]; exact (by unfold by8; decide +kernel : ∀ j, j < 9 → by8 ((k_bytes.getD 7 []).getD j 0)) j hj) rfl rfl
      rw [hDs] at this; exact this
    · have := hk_ar (D := D) (h0 := h0) (k := 111) (by rw [hDs]; exact T10) (by rw [n0]; exact hk_nT (by decide) T10) (fun j hj => by show _ = Value.int _; rw [I0, hk_IT T10 hj]) (fun _ j hj => by rw [I0, hk_IT T10 hj]; exact (by unfold by8; decide +kernel : ∀ j, j < 8 → by8 ((k_bytes.getD 8 []).getD j 0)) j hj) rfl rfl
      rw [hDs] at this; exact this
  have cl : ∀ a, (a = t0 ∨ a = t1) → fx_ar D h0 s.heap a 113 := fun a ha => by
    rcases ha with rfl | rfl
    · have := hk_ar (D := D) (h0 := h0) (k := 113) (by rw [hDs]; exact T0) (by rw [n0]; exact hk_nT (by decide) T0) (fun j hj => by show _ = Value.long _; rw [L0, hk_LT T0 hj]) (fun hb => by rcases hb with hb | hb <;> cases hb) rfl rfl
      rw [hDs] at this; exact this
    · have := hk_ar (D := D) (h0 := h0) (k := 113) (by rw [hDs]; exact T1) (by rw [n0]; exact hk_nT (by decide) T1) (fun j hj => by show _ = Value.long _; rw [L0, hk_LT T1 hj]) (fun hb => by rcases hb with hb | hb <;> cases hb) rfl rfl
      rw [hDs] at this; exact this
  have co : fx_ar D h0 s.heap t11 106 := by
    have := hk_ar (D := D) (h0 := h0) (k := 106) (by rw [hDs]; exact T11) (by rw [n0]; exact hk_nT (by decide) T11) (fun j hj => absurd hj (Nat.not_lt_zero j)) (fun hb => by rcases hb with hb | hb <;> cases hb) rfl rfl
    rw [hDs] at this; exact this
  have cs : fx_ar D h0 s.heap b 112 := by
    have := hk_ar (D := D) (h0 := h0) (k := 112) (by rw [hDs]; exact XT) (by rw [n0]; exact hk_nT (by omega) XT) (fun j hj => by show _ = Value.int _; rw [I0, hk_IT XT hj]) (fun hb => by rcases hb with hb | hb <;> cases hb) rfl rfl
    rw [hDs] at this; exact this
  have lt : ∀ {a N : Nat} {t : FieldType} {f : Nat → Value}, va_T t a N f (hk_A s) s s.heap → a < s.heap.size := fun h => by
    obtain ⟨c, h1, -⟩ := h
    exact (Array.getElem?_eq_some_iff.mp h1).1
  have hkk : ∀ a, (hp_k h0 a = 112 ∧ a = b) ∨ (hp_k h0 a = 113 ∧ (a = t0 ∨ a = t1)) ∨ (hp_k h0 a = 106 ∧ a = t11) ∨ (hp_k h0 a = 111 ∧ (a = t2 ∨ a = t3 ∨ a = t4 ∨ a = t5 ∨ a = t6 ∨ a = t7 ∨ a = t8 ∨ a = t9 ∨ a = t10)) ∨ hp_k h0 a = 0 := fun a => by
    rw [k0]
    unfold hk_k
    by_cases h1 : a = b
    · rw [if_pos h1]; exact Or.inl ⟨rfl, h1⟩
    rw [if_neg h1]
    split
    · rename_i h2; exact Or.inr (Or.inl ⟨rfl, h2⟩)
    split
    · rename_i h2; exact Or.inr (Or.inr (Or.inl ⟨rfl, h2⟩))
    split
    · rename_i h2; exact Or.inr (Or.inr (Or.inr (Or.inl ⟨rfl, h2⟩)))
    · exact Or.inr (Or.inr (Or.inr (Or.inr rfl)))
  have hlt : ∀ a, hp_k h0 a ≠ 0 → a < s.heap.size ∧ 106 ≤ hp_k h0 a := fun a ha => by
    rcases hkk a with ⟨h1, rfl⟩ | ⟨h1, rfl | rfl⟩ | ⟨h1, rfl⟩ | ⟨h1, h2⟩ | h1
    · exact ⟨lt XT, by omega⟩
    · exact ⟨lt T0, by omega⟩
    · exact ⟨lt T1, by omega⟩
    · exact ⟨lt T11, by omega⟩
    · refine ⟨?_, by omega⟩
      rcases h2 with rfl | rfl | rfl | rfl | rfl | rfl | rfl | rfl | rfl
      · exact lt T2
      · exact lt T3
      · exact lt T4
      · exact lt T5
      · exact lt T6
      · exact lt T7
      · exact lt T8
      · exact lt T9
      · exact lt T10
    · exact absurd h1 ha
  have hrep : fx_rep D h0 s.heap := by
    refine ⟨z0.symm, by rw [z0]; unfold fx_b; rw [hDs]; exact Nat.le_refl _, fun q _ => by rw [hDs], fun a => ?_, fun a ha => ?_, fun a ha hk => ?_, ?_, by rw [c0, hDc]⟩
    · have hh : fx_cell D h0 D.2.2.1.heap a := by
        rcases hkk a with ⟨h1, rfl⟩ | ⟨h1, h2⟩ | ⟨h1, rfl⟩ | ⟨h1, h2⟩ | h1
        · exact hk_cell h1 (by decide) (by rw [hDs]; exact cs)
        · exact hk_cell h1 (by decide) (by rw [hDs]; exact cl a h2)
        · exact hk_cell h1 (by decide) (by rw [hDs]; exact co)
        · exact hk_cell h1 (by decide) (by rw [hDs]; exact cb a h2)
        · exact hk_cell0 h1
      rw [hDs] at hh; exact hh
    · by_cases h : hp_k h0 a = 0
      · exact h
      · have := (hlt a h).1; omega
    · have := (hlt a ha).2; omega
    · rw [tp, ← hh]; rfl
  have F : fx_F D h0 h0 s.heap [] 0 0 := ⟨hrep, (fun _ h => absurd h (List.not_mem_nil)), rfl, rfl, by rw [z0, tp]; omega, by rw [s0]; omega, fx_ext.rf⟩
  have hroom : room_1 = fx_rm D 20 848 h0 := by
    unfold fx_rm
    rw [tp, z0, s0, Nat.add_sub_cancel_left]
    rfl
  have C : fx_CX D y_Law_law code 8 20 848 (Option.some FieldType.boolean) [] h0 p room_1 s m meth c := ⟨hx, hcc, hml, hown, hlo, hret, htb, hnm, hok, by rw [hDs]; exact Vm.Alike.refl _, htw, fun q _ => by rw [hDs], hroom⟩
  have hst : st_ok b h0 := by
    refine ⟨?_, ?_, ⟨?_, ?_, ?_⟩, ⟨?_, ?_, ?_⟩, fun i hi => ?_, ?_, ?_, ?_, s0⟩
    · rw [k0]; simp [hk_k]
    · rw [n0, hk_nT (by omega) XT]; exact hL
    · rw [k0, c0]; show hk_k b _ t0 = 113; simp [hk_k, hk_cc, hk_ne (by decide) T0 XT, hk_ne (by decide) T0 T11]
    · rw [n0, c0]; exact hk_nT (by decide) T0
    · intro j hj; rw [L0, c0]; exact hk_LT T0 hj
    · rw [k0, c0]; show hk_k b _ t1 = 113; simp [hk_k, hk_cc, hk_ne (by decide) T1 XT, hk_ne (by decide) T1 T11]
    · rw [n0, c0]; exact hk_nT (by decide) T1
    · intro j hj; rw [L0, c0]; exact hk_LT T1 hj
    · rw [c0]
      match i, hi with
      | 0, _ => exact ⟨by rw [k0]; show hk_k b _ t2 = 111; simp [hk_k, hk_cc, hk_ne (by decide) T2 XT, hk_ne (by decide) T2 T0, hk_ne (by decide) T2 T1, hk_ne (by decide) T2 T11], by rw [n0]; exact hk_nT (by decide) T2, fun j hj => by rw [I0]; exact hk_IT T2 hj⟩
      | 1, _ => exact ⟨by rw [k0]; show hk_k b _ t3 = 111; simp [hk_k, hk_cc, hk_ne (by decide) T3 XT, hk_ne (by decide) T3 T0, hk_ne (by decide) T3 T1, hk_ne (by decide) T3 T11], by rw [n0]; exact hk_nT (by decide) T3, fun j hj => by rw [I0]; exact hk_IT T3 hj⟩
      | 2, _ => exact ⟨by rw [k0]; show hk_k b _ t4 = 111; simp [hk_k, hk_cc, hk_ne (by decide) T4 XT, hk_ne (by decide) T4 T0, hk_ne (by decide) T4 T1, hk_ne (by decide) T4 T11], by rw [n0]; exact hk_nT (by decide) T4, fun j hj => by rw [I0]; exact hk_IT T4 hj⟩
      | 3, _ => exact ⟨by rw [k0]; show hk_k b _ t5 = 111; simp [hk_k, hk_cc, hk_ne (by decide) T5 XT, hk_ne (by decide) T5 T0, hk_ne (by decide) T5 T1, hk_ne (by decide) T5 T11], by rw [n0]; exact hk_nT (by decide) T5, fun j hj => by rw [I0]; exact hk_IT T5 hj⟩
      | 4, _ => exact ⟨by rw [k0]; show hk_k b _ t6 = 111; simp [hk_k, hk_cc, hk_ne (by decide) T6 XT, hk_ne (by decide) T6 T0, hk_ne (by decide) T6 T1, hk_ne (by decide) T6 T11], by rw [n0]; exact hk_nT (by decide) T6, fun j hj => by rw [I0]; exact hk_IT T6 hj⟩
      | 5, _ => exact ⟨by rw [k0]; show hk_k b _ t7 = 111; simp [hk_k, hk_cc, hk_ne (by decide) T7 XT, hk_ne (by decide) T7 T0, hk_ne (by decide) T7 T1, hk_ne (by decide) T7 T11], by rw [n0]; exact hk_nT (by decide) T7, fun j hj => by rw [I0]; exact hk_IT T7 hj⟩
      | 6, _ => exact ⟨by rw [k0]; show hk_k b _ t8 = 111; simp [hk_k, hk_cc, hk_ne (by decide) T8 XT, hk_ne (by decide) T8 T0, hk_ne (by decide) T8 T1, hk_ne (by decide) T8 T11], by rw [n0]; exact hk_nT (by decide) T8, fun j hj => by rw [I0]; exact hk_IT T8 hj⟩
      | 7, _ => exact ⟨by rw [k0]; show hk_k b _ t9 = 111; simp [hk_k, hk_cc, hk_ne (by decide) T9 XT, hk_ne (by decide) T9 T0, hk_ne (by decide) T9 T1, hk_ne (by decide) T9 T11], by rw [n0]; exact hk_nT (by decide) T9, fun j hj => by rw [I0]; exact hk_IT T9 hj⟩
      | 8, _ => exact ⟨by rw [k0]; show hk_k b _ t10 = 111; simp [hk_k, hk_cc, hk_ne (by decide) T10 XT, hk_ne (by decide) T10 T0, hk_ne (by decide) T10 T1, hk_ne (by decide) T10 T11], by rw [n0]; exact hk_nT (by decide) T10, fun j hj => by rw [I0]; exact hk_IT T10 hj⟩
    · rw [k0, c0]; show hk_k b _ t11 = 106; simp [hk_k, hk_cc, hk_ne (by decide) T11 XT, hk_ne (by decide) T11 T0, hk_ne (by decide) T11 T1]
    · rw [n0, c0]; exact hk_nT (by decide) T11
    · rw [z0, ← hh]; rfl
  refine fx_mono (Z1 := fx_Z D below s h0 (fx_oZ (fun v _ => v = 1) fx_no)) (fun t ht => ?_) ?_
  · obtain ⟨o, h1, h2, h', J, hQ, -, -, hz1, hz2, hs1, hs2, hW, hsb, hJ⟩ := ht
    rcases hQ with ⟨v, rfl, -, rfl⟩ | ⟨a, -, h⟩
    · refine ⟨_, h1, h2, rfl, ⟨_, rfl⟩, hW, ?_⟩
      have hb : fx_b D = s.heap.size := by unfold fx_b; rw [hDs]
      exact (State.sameButNew.drop_fresh (L := []) (J := J) hsb (fun q hq => by have := hJ q hq; omega)).mono (by omega) (by omega)
    · exact absurd h id
  have hv := lv_entry ([.ref b]) (n := 8) (Nat.le_of_ble_eq_true rfl)
  rw [lg_entry_eq]
  generalize (lg_sl ([.ref b]) ++ List.replicate (8 - (lg_sl ([.ref b])).length) Slot.unset).toArray = ls at hv ⊢
  have hv : lv_has ls 8 [(0, .ref b)] := hv
  exact b_Law_law_0 C hl _ _ (main b h0 hst) _ _ _ _ _ hv F
set_option maxHeartbeats 4000000 in
theorem lw_walk (main : hk_main) (l : Launch) (hl : l.flags = flags0) (b : Addr) (xs : List Int32) : MetFree l x (headSpec (Jvm.Cond.code x code maxLocals ret :: tables_1) room_1) (lw_P b xs) (fun _ _ _ _ _ => True) lw_Q := by
  refine MetFree.of_bodyS (code := code) (maxLocals := maxLocals) (ret := ret) (by decide) ?_ ?_
  · intro args s m h hn
    obtain ⟨meth, c, h1, h2, h3, h4, h5, h6, -, -⟩ := Cond.code_spec hn (atoms_spec (ws := Jvm.Cond.code x code maxLocals ret :: tables_1) h _ List.mem_cons_self)
    exact ⟨meth, c, h1, h2, h3, h4, h5, h6⟩
  · intro p e s m args below meth c s₁ B hml0 hP _
    obtain ⟨rfl, hx, hbd, hgv⟩ := hP
    obtain ⟨scr, harrAt, hlist, hof, hsmall⟩ := hx
    obtain ⟨hcb, hkn, -, -⟩ := State.arrayAt?_spec harrAt
    have hown : s.vm.findClass "ChainJudgeLaw" = some m.cls := findClass_of_methodNamed B.named
    have hts0 : ∀ c ∈ (Jvm.Cond.code x code maxLocals ret :: tables_1), c.before #[Value.ref b] s = true := atoms_spec (ws := Jvm.Cond.code x code maxLocals ret :: tables_1) B.pre
    have hml : c.maxLocals = 8 := B.maxLocals_eq (hts0 _ List.mem_cons_self)
    have htb : c.exceptionTable.toList = tableOf [] := by
      obtain ⟨meth', c', h1, h2, h3, h4, h5, h6, h7, -⟩ := fx_hd_spec (hh := []) B.named (hts0 _ List.mem_cons_self)
      cases B.method.symm.trans h1
      cases (Stand.of_body B).code.symm.trans h2
      exact h7
    have X₀ : Stand p l e room_1 s m #[Value.ref b] below meth c s₁ [] 0 0 := Stand.of_body B
    have hh0 : s₁.heap = s.heap := by rw [B.state]; rfl
    have hsz : scr.slots.size = xs.length := by rw [← Array.length_toList, hlist, List.length_map]
    have hval : ∀ j : Nat, j < xs.length → scr.slots[j]? = some (.int (xs.getD j 0)) := fun j hj => by
      rw [← Array.getElem?_toList, hlist]
      simp [hj]
    have hX : va_X b xs.length (fun j => xs.getD j 0) s s.heap := ⟨scr, hcb, hof, hkn, hsz, hval⟩
    have K : W p l e room_1 s m #[Value.ref b] below meth c s₁.heap [] 0 0 (lw_Z below #[Value.ref b] s) (entryFrame m ([Value.ref b] : List Value).toArray 8) := by
      rw [hh0]
      exact hk_start main hl hbd B.exec B.bytes B.returns hml hown (fun w hw => hts0 w (List.mem_cons_of_mem _ hw)) hX B.notSynchronized htb (name_of_methodNamed B.named B.method).1 hgv
    obtain ⟨t, a1, o, b1, b2, b3⟩ := K s₁ rfl X₀
    exact ⟨t, o, a1, b1, b2, b3⟩
theorem lw_pre_spec {args : Array Value} {s : State} (h : (Jvm.Cond.and given_1 narrow_1).before args s = true) (hr : rest_1_c.before args s = true) : ∃ (b : Addr) (xs : List Int32), lw_P b xs args s := by
  have hs := flat_of_before _ h
  have hq := flat_of_before _ hr
  have hc : (Cond.count 1).before args s = true := hs _ (by decide +kernel)
  have harr : (Cond.arrayOf (.arg 0) .int).before args s = true := hs _ (by decide +kernel)
  have hle : (Cond.le (.length (.arg 0)) (.int 3072)).before args s = true := hs _ (by decide +kernel)
  have hlen : (Cond.isInt (.length (.arg 0))).before args s = true := hq _ (by decide +kernel)
  have hall : (Cond.all (.arg 0) (.isInt (.elem (.arg 0) (.index 0)))).before args s = true := hq _ (by decide +kernel)
  obtain ⟨b, xs, hb, hx⟩ := State.ints_of_pre rfl harr hlen hall
  have hsm : xs.length < 2 ^ 31 := hx.choose_spec.2.2.2
  have hev : (Term.length (.arg 0)).eval args s none [] s = some (.int xs.length.toInt32) := hx.length_eval hb
  have hv := Cond.le_ints hev (show (Term.int 3072).eval args s none [] s = some (.int 3072) from rfl)
  have hd : xs.length.toInt32 ≤ 3072 := by
    simpa [Cond.before, Cond.holds, hv] using hle
  have hN : xs.length ≤ 3072 := (Int32.ofNat_le_ofNat hsm (by decide)).mp (show Int32.ofNat xs.length ≤ Int32.ofNat 3072 from hd)
  exact ⟨b, xs, Cond.one_arg hc (show args[0]? = some (.ref b) from hb), hx, hN, h⟩
theorem lw_comes (main : hk_main) (l : Launch) (hl : l.flags = flags0) : Comes l x (Jvm.Cond.code x code maxLocals ret :: tables_1) room_1 (fun tb e args s => Calls_1 tb e args s ∧ rest_1 tb e args s ∧ Pre_1 tb e args s)
    (fun _ _ args s o t => lw_Q args s o t) := by
  intro p e ha hc hk s m args below hf hfit hheap happ hpre
  obtain ⟨b, xs, hP⟩ := lw_pre_spec hpre.2.2 hpre.2.1
  obtain ⟨k, o, h1, h2, h3, hQ⟩ := lw_walk main l hl b xs p e ha hc hk s m args below hf ((Spec.applies_iff_loose hf).mp happ).1 hP trivial
  exact ⟨k, o, h1, h2, h3, hQ⟩
theorem lw_frame {s t : State} {o : Outcome} {args : Array Value} (h : Framed s o t [] 601024 7293034) :
    Framed s o t (fieldLocs frame_1_writes args s ++ arrayLocs frame_1_arrays args s ++ staticLocs frame_1_statics s) 601024 7293034 := h
theorem lw_limb (main : hk_main) (L : Cond) (hL : ∀ (args : Array Value) (s t : State), L.after args s (.returned (some (.int 1))) t = true) :
    ArmFor flags0 classFile x code maxLocals ret World_1 tables_1 room_1 Calls_1 rest_1 Pre_1
      (fun tb e a s o t => postC L tb e a s o t ∧ Framed s o t (fieldLocs frame_1_writes a s ++ arrayLocs frame_1_arrays a s ++ staticLocs frame_1_statics s) 601024 7293034) := by
  intro l hl _ _ p e ha hc hk s m args below hf hfit hheap happ hpre
  obtain ⟨k, o, h1, h2, h3, rfl, hF⟩ := lw_comes main l hl p e ha hc hk s m args below hf hfit hheap happ hpre
  exact ⟨k, _, h1, h2, h3, hL args s _, lw_frame hF⟩
theorem hk_vc (main : hk_main) : Claimed_1_1 ∧ Claimed_1_2 := ⟨lw_limb main limb_1_1 (fun args s t => by simp [limb_1_1, Cond.after, Cond.holds, Cond.value]), lw_limb main limb_1_2 (fun args s t => Cond.after_iff.mpr (by
  first | (rw [show limb_1_2 = Cond.eq .result (.int 1) from rfl, Cond.eq_ints (x := 1) (y := 1) rfl rfl]; simp; done) | (simp [limb_1_2, Cond.value, Term.eval]; done)))⟩
