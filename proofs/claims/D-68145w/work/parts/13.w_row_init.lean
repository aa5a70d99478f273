set_option maxRecDepth 10000
/-! ChainJudge$Row.<init>()V: frames 1, words 12 -/
abbrev y_Row_init : MethodName := ⟨"ChainJudge$Row", "<init>", "()V"⟩
theorem lf_Row_7 : fx_Lk "ChainJudge$Row" 7 1 0 := fx_Lk.mk (C := "ChainJudge$Row") (T := fx_T1) (N := 2) rfl (by decide) (by decide) (fx_m1 (List.mem_of_getElem? (i := 46) rfl))
theorem lf_Row_13 : fx_Lk "ChainJudge$Row" 13 1 1 := fx_Lk.mk (C := "ChainJudge$Row") (T := fx_T1) (N := 2) rfl (by decide) (by decide) (fx_m1 (List.mem_of_getElem? (i := 48) rfl))
def dl_Row_init : List (Nat × Instr × Nat) := [(0, .aload_n 0, 1), (1, .invokespecial 1, 3), (4, .aload_n 0, 1), (5, .sipush 256, 3), (8, .newarray .byte, 2), (10, .putfield 7, 3), (13, .aload_n 0, 1), (14, .iconst 0, 1), (15, .putfield 13, 3), (18, .return_, 1)]
theorem dk_Row_init : fx_dec prog_11_method_1_code dl_Row_init = true := by decide +kernel
theorem d_Row_init_0 : decode prog_11_method_1_code 0 = .ok (.aload_n 0, 1) := fx_dat dk_Row_init 0 rfl
theorem d_Row_init_1 : decode prog_11_method_1_code 1 = .ok (.invokespecial 1, 3) := fx_dat dk_Row_init 1 rfl
theorem d_Row_init_4 : decode prog_11_method_1_code 4 = .ok (.aload_n 0, 1) := fx_dat dk_Row_init 2 rfl
theorem d_Row_init_5 : decode prog_11_method_1_code 5 = .ok (.sipush 256, 3) := fx_dat dk_Row_init 3 rfl
theorem d_Row_init_8 : decode prog_11_method_1_code 8 = .ok (.newarray .byte, 2) := fx_dat dk_Row_init 4 rfl
theorem d_Row_init_10 : decode prog_11_method_1_code 10 = .ok (.putfield 7, 3) := fx_dat dk_Row_init 5 rfl
theorem d_Row_init_13 : decode prog_11_method_1_code 13 = .ok (.aload_n 0, 1) := fx_dat dk_Row_init 6 rfl
theorem d_Row_init_14 : decode prog_11_method_1_code 14 = .ok (.iconst 0, 1) := fx_dat dk_Row_init 7 rfl
theorem d_Row_init_15 : decode prog_11_method_1_code 15 = .ok (.putfield 13, 3) := fx_dat dk_Row_init 8 rfl
theorem d_Row_init_18 : decode prog_11_method_1_code 18 = .ok (.return_, 1) := fx_dat dk_Row_init 9 rfl
def m_Row_init (Q : AH → Prop) (r0 : Nat) (h : AH) : Prop := fx_has h 256 ∧ ∀ (_ : fx_wf h) (q1 : Nat), q1 = hp_z h → ∀ h1 : AH, h1 = up_N h 101 256 256 → hp_k h1 r0 = 2 ∧ ∀ h2 : AH, h2 = up_R h1 r0 0 (some q1) → ∀ h3 : AH, h3 = up_I h2 r0 1 (0 : Int32) → Q h3
theorem b_Row_init_0 {p : Program} {l : Launch} {e : Env} {R : Room} {s : State} {m : MethodId} {args : Array Value} {below : List Frame} {meth : Method} {c : Code} {D : DD} {h0 : AH} {Q : AH → Prop} (C : fx_CX D y_Row_init prog_11_method_1_code 1 1 12 (none) [] h0 p R s m meth c) (hl : l.flags = flags0) (r0 : Nat) (h : AH) (hw : m_Row_init Q r0 h) : ∀ (ls : Array Slot) (H : Heap) (locs : List Loc) (cells slots : Nat), lv_has ls 1 [(0, .ref r0)] → fx_F D h0 h H locs cells slots → W p l e R s m args below meth c H locs cells slots (fx_Z D below s h0 (fx_oV Q fx_no)) (F0 m 0 ls []) := by
  unfold m_Row_init at hw
  intro ls H locs cells slots hv F
  refine lv_aload_n C.ex C.by d_Row_init_0 rfl (lv_at hv 0 rfl) ?_
  refine fx_objI C (fx_m1 (List.mem_of_getElem? (i := 45) rfl)) (fx_m1 (List.mem_of_getElem? (i := 38) rfl)) (fx_m1 (List.mem_of_getElem? (i := 39) rfl)) hv.1 d_Row_init_1 (by decide) (Nat.le_of_ble_eq_true rfl) ?_
  refine lv_aload_n C.ex C.by d_Row_init_4 rfl (lv_at hv 0 rfl) ?_
  refine lv_sipush (v := (256 : Int32)) C.ex C.by d_Row_init_5 (by decide) ?_
  obtain ⟨hs, hw⟩ := hw
  let q1 : Nat := hp_z h
  let h1 : AH := up_N h 101 256 256
  replace hw := hw F.wf q1 rfl h1 rfl
  have hkq1 : hp_k h1 q1 = 101 := fx_nk _ _ _ _
  refine fx_newaB (n := (256 : Int32)) C F (fx_m1 (List.mem_of_getElem? (i := 55) rfl)) (by decide) (by decide) hs d_Row_init_8 (fun H cells slots (F : fx_F D h0 h1 H locs cells slots) => ?_)
  obtain ⟨hk1, hw⟩ := hw
  let h2 : AH := up_R h1 r0 0 (some q1)
  replace hw := hw h2 rfl
  refine fx_putR C F lf_Row_7 hk1 rfl rfl (fx_mayF.no rfl rfl) d_Row_init_10 (fun H locs (F : fx_F D h0 h2 H locs _ _) => ?_)
  refine lv_aload_n C.ex C.by d_Row_init_13 rfl (lv_at hv 0 rfl) ?_
  refine lv_iconst (v := (0 : Int32)) C.ex C.by d_Row_init_14 (by decide) ?_
  let h3 : AH := up_I h2 r0 1 (0 : Int32)
  replace hw := hw h3 rfl
  refine fx_putI C F lf_Row_13 hk1 rfl rfl (fx_mayF.no rfl rfl) d_Row_init_15 (fun H locs (F : fx_F D h0 h3 H locs _ _) => ?_)
  exact fx_vret C F d_Row_init_18 (Or.inl ⟨rfl, hw⟩)
theorem hm_Row_init : fx_hd y_Row_init prog_11_method_1_code 1 (none) [] ∈ tables_1 := (fx_m1 (List.mem_of_getElem? (i := 44) rfl))
theorem hi_Row_init : Cond.initialized y_Row_init.cls ∈ tables_1 := (fx_m1 (List.mem_of_getElem? (i := 2) rfl))
theorem c_Row_init {l : Launch} (hl : l.flags = flags0) {D : DD} {Q : AH → Prop} {r0 : Nat} {h : AH} (hw : m_Row_init Q r0 h) : fx_Mt l D y_Row_init (fx_hd y_Row_init prog_11_method_1_code 1 (none) []) 1 12 [.ref r0] h (fx_oV Q fx_no) := by
  refine fx_ofW (plainFor_of_name (by decide)) (fun p e s m below meth c C F => ?_)
  have hv := lv_entry ([.ref r0]) (n := 1) (Nat.le_of_ble_eq_true rfl)
  rw [lg_entry_eq]
  generalize (lg_sl ([.ref r0]) ++ List.replicate (1 - (lg_sl ([.ref r0])).length) Slot.unset).toArray = ls at hv ⊢
  have hv : lv_has ls 1 [(0, .ref r0)] := hv
  exact b_Row_init_0 C hl _ _ hw _ _ _ _ _ hv F
/-! java/util/AbstractCollection.<init>()V: frames 1, words 12 -/
abbrev y_ABC_init : MethodName := ⟨"java/util/AbstractCollection", "<init>", "()V"⟩
def dl_ABC_init : List (Nat × Instr × Nat) := [(0, .aload_n 0, 1), (1, .invokespecial 1, 3), (4, .return_, 1)]
theorem dk_ABC_init : fx_dec prog_29_method_1_code dl_ABC_init = true := by decide +kernel
theorem d_ABC_init_0 : decode prog_29_method_1_code 0 = .ok (.aload_n 0, 1) := fx_dat dk_ABC_init 0 rfl
theorem d_ABC_init_1 : decode prog_29_method_1_code 1 = .ok (.invokespecial 1, 3) := fx_dat dk_ABC_init 1 rfl
theorem d_ABC_init_4 : decode prog_29_method_1_code 4 = .ok (.return_, 1) := fx_dat dk_ABC_init 2 rfl
def m_ABC_init (Q : AH → Prop) (r0 : Nat) (h : AH) : Prop := Q h
theorem b_ABC_init_0 {p : Program} {l : Launch} {e : Env} {R : Room} {s : State} {m : MethodId} {args : Array Value} {below : List Frame} {meth : Method} {c : Code} {D : DD} {h0 : AH} {Q : AH → Prop} (C : fx_CX D y_ABC_init prog_29_method_1_code 1 1 12 (none) [] h0 p R s m meth c) (hl : l.flags = flags0) (r0 : Nat) (h : AH) (hw : m_ABC_init Q r0 h) : ∀ (ls : Array Slot) (H : Heap) (locs : List Loc) (cells slots : Nat), lv_has ls 1 [(0, .ref r0)] → fx_F D h0 h H locs cells slots → W p l e R s m args below meth c H locs cells slots (fx_Z D below s h0 (fx_oV Q fx_no)) (F0 m 0 ls []) := by
  unfold m_ABC_init at hw
  intro ls H locs cells slots hv F
  refine lv_aload_n C.ex C.by d_ABC_init_0 rfl (lv_at hv 0 rfl) ?_
  refine fx_objI C (fx_m1 (List.mem_of_getElem? (i := 69) rfl)) (fx_m1 (List.mem_of_getElem? (i := 38) rfl)) (fx_m1 (List.mem_of_getElem? (i := 39) rfl)) hv.1 d_ABC_init_1 (by decide) (Nat.le_of_ble_eq_true rfl) ?_
  exact fx_vret C F d_ABC_init_4 (Or.inl ⟨rfl, hw⟩)
theorem hm_ABC_init : fx_hd y_ABC_init prog_29_method_1_code 1 (none) [] ∈ tables_1 := (fx_m1 (List.mem_of_getElem? (i := 68) rfl))
theorem hi_ABC_init : Cond.initialized y_ABC_init.cls ∈ tables_1 := (fx_m1 (List.mem_of_getElem? (i := 3) rfl))
theorem c_ABC_init {l : Launch} (hl : l.flags = flags0) {D : DD} {Q : AH → Prop} {r0 : Nat} {h : AH} (hw : m_ABC_init Q r0 h) : fx_Mt l D y_ABC_init (fx_hd y_ABC_init prog_29_method_1_code 1 (none) []) 1 12 [.ref r0] h (fx_oV Q fx_no) := by
  refine fx_ofW (by decide +kernel) (fun p e s m below meth c C F => ?_)
  have hv := lv_entry ([.ref r0]) (n := 1) (Nat.le_of_ble_eq_true rfl)
  rw [lg_entry_eq]
  generalize (lg_sl ([.ref r0]) ++ List.replicate (1 - (lg_sl ([.ref r0])).length) Slot.unset).toArray = ls at hv ⊢
  have hv : lv_has ls 1 [(0, .ref r0)] := hv
  exact b_ABC_init_0 C hl _ _ hw _ _ _ _ _ hv F
/-! java/util/AbstractList.<init>()V: frames 2, words 24 -/
abbrev y_ABL_init : MethodName := ⟨"java/util/AbstractList", "<init>", "()V"⟩
theorem lf_ABL_7 : fx_Lk "java/util/AbstractList" 7 11 2 := fx_Lk.mk (C := "java/util/ArrayList") (T := fx_T11) (N := 3) rfl (by decide) (by decide) (fx_m1 (List.mem_of_getElem? (i := 74) rfl))
theorem lm_ABL_1 : Cond.methodLink "java/util/AbstractList" 1 y_ABC_init ∈ tables_1 ∨ ∃ host, Cond.methodLinkNest "java/util/AbstractList" 1 y_ABC_init host ∈ tables_1 := Or.inl (fx_m1 (List.mem_of_getElem? (i := 66) rfl))
section
variable {p : Program} {l : Launch} {e : Env} {R : Room} {s : State} {m : MethodId} {args : Array Value} {below : List Frame} {meth : Method} {c : Code} {H : Heap} {locs : List Loc} {cells slots : Nat}
variable {D : DD} {y : MethodName} {cc : ByteArray} {nL kf kw : Nat} {ret : Option FieldType} {hh : List (Nat × Nat × Nat × Nat)} {h0 h : AH} {pc : Nat} {ls : Array Slot} {rest : List Value} {b idx : Nat}
theorem iv_ABC_init (C : fx_CX D y cc nL kf kw ret hh h0 p R s m meth c) (F : fx_F D h0 h H locs cells slots) (hw1 : Cond.methodLink y.cls idx y_ABC_init ∈ tables_1 ∨ ∃ host, Cond.methodLinkNest y.cls idx y_ABC_init host ∈ tables_1) (hd : decode cc pc = .ok (.invokespecial idx, 3)) : fx_IV p l e R s m args below meth c H locs cells slots (F0 m pc ls (.ref b :: rest)) rest y_ABC_init [.ref b] 3 := fun T hT X => fx_invI (As := []) C X hw1 (fx_m1 (List.mem_of_getElem? (i := 67) rfl)) hm_ABC_init ⟨by decide, by decide⟩ rfl rfl (n := 0) (by decide +kernel) rfl rfl hd
end
def dl_ABL_init : List (Nat × Instr × Nat) := [(0, .aload_n 0, 1), (1, .invokespecial 1, 3), (4, .aload_n 0, 1), (5, .iconst 0, 1), (6, .putfield 7, 3), (9, .return_, 1)]
theorem dk_ABL_init : fx_dec prog_30_method_1_code dl_ABL_init = true := by decide +kernel
theorem d_ABL_init_0 : decode prog_30_method_1_code 0 = .ok (.aload_n 0, 1) := fx_dat dk_ABL_init 0 rfl
theorem d_ABL_init_1 : decode prog_30_method_1_code 1 = .ok (.invokespecial 1, 3) := fx_dat dk_ABL_init 1 rfl
theorem d_ABL_init_4 : decode prog_30_method_1_code 4 = .ok (.aload_n 0, 1) := fx_dat dk_ABL_init 2 rfl
theorem d_ABL_init_5 : decode prog_30_method_1_code 5 = .ok (.iconst 0, 1) := fx_dat dk_ABL_init 3 rfl
theorem d_ABL_init_6 : decode prog_30_method_1_code 6 = .ok (.putfield 7, 3) := fx_dat dk_ABL_init 4 rfl
theorem d_ABL_init_9 : decode prog_30_method_1_code 9 = .ok (.return_, 1) := fx_dat dk_ABL_init 5 rfl
def m_ABL_init (Q : AH → Prop) (r0 : Nat) (h : AH) : Prop := m_ABC_init (fun h1 => fx_ext h h1 → hp_k h1 r0 = 12 ∧ ∀ h2 : AH, h2 = up_I h1 r0 2 (0 : Int32) → Q h2) r0 h
theorem b_ABL_init_0 {p : Program} {l : Launch} {e : Env} {R : Room} {s : State} {m : MethodId} {args : Array Value} {below : List Frame} {meth : Method} {c : Code} {D : DD} {h0 : AH} {Q : AH → Prop} (C : fx_CX D y_ABL_init prog_30_method_1_code 1 2 24 (none) [] h0 p R s m meth c) (hl : l.flags = flags0) (r0 : Nat) (h : AH) (hw : m_ABL_init Q r0 h) : ∀ (ls : Array Slot) (H : Heap) (locs : List Loc) (cells slots : Nat), lv_has ls 1 [(0, .ref r0)] → fx_F D h0 h H locs cells slots → W p l e R s m args below meth c H locs cells slots (fx_Z D below s h0 (fx_oV Q fx_no)) (F0 m 0 ls []) := by
  unfold m_ABL_init at hw
  intro ls H locs cells slots hv F
  refine lv_aload_n C.ex C.by d_ABL_init_0 rfl (lv_at hv 0 rfl) ?_
  refine fx_callV C F (c_ABC_init hl hw) hm_ABC_init hi_ABC_init hv.1 (by decide) (Nat.le_of_ble_eq_true rfl) (iv_ABC_init C F lm_ABL_1 d_ABL_init_1) (fx_out0 _) fx_eno (fun h1 H locs cells slots hw hx1 F => ?_)
  replace hw := hw hx1
  refine lv_aload_n C.ex C.by d_ABL_init_4 rfl (lv_at hv 0 rfl) ?_
  refine lv_iconst (v := (0 : Int32)) C.ex C.by d_ABL_init_5 (by decide) ?_
  obtain ⟨hk1, hw⟩ := hw
  let h2 : AH := up_I h1 r0 2 (0 : Int32)
  replace hw := hw h2 rfl
  refine fx_putI C F lf_ABL_7 hk1 rfl rfl (fx_mayF.no rfl rfl) d_ABL_init_6 (fun H locs (F : fx_F D h0 h2 H locs _ _) => ?_)
  exact fx_vret C F d_ABL_init_9 (Or.inl ⟨rfl, hw⟩)
theorem hm_ABL_init : fx_hd y_ABL_init prog_30_method_1_code 1 (none) [] ∈ tables_1 := (fx_m1 (List.mem_of_getElem? (i := 65) rfl))
theorem hi_ABL_init : Cond.initialized y_ABL_init.cls ∈ tables_1 := (fx_m1 (List.mem_of_getElem? (i := 4) rfl))
theorem c_ABL_init {l : Launch} (hl : l.flags = flags0) {D : DD} {Q : AH → Prop} {r0 : Nat} {h : AH} (hw : m_ABL_init Q r0 h) : fx_Mt l D y_ABL_init (fx_hd y_ABL_init prog_30_method_1_code 1 (none) []) 2 24 [.ref r0] h (fx_oV Q fx_no) := by
  refine fx_ofW (by decide +kernel) (fun p e s m below meth c C F => ?_)
  have hv := lv_entry ([.ref r0]) (n := 1) (Nat.le_of_ble_eq_true rfl)
  rw [lg_entry_eq]
  generalize (lg_sl ([.ref r0]) ++ List.replicate (1 - (lg_sl ([.ref r0])).length) Slot.unset).toArray = ls at hv ⊢
  have hv : lv_has ls 1 [(0, .ref r0)] := hv
  exact b_ABL_init_0 C hl _ _ hw _ _ _ _ _ hv F
/-! java/util/ArrayList.<init>()V: frames 3, words 36 -/
abbrev y_AL_init : MethodName := ⟨"java/util/ArrayList", "<init>", "()V"⟩
theorem lf_AL_9 : fx_Lk "java/util/ArrayList" 9 11 0 := fx_Lk.mk (C := "java/util/ArrayList") (T := fx_T11) (N := 3) rfl (by decide) (by decide) (fx_m1 (List.mem_of_getElem? (i := 72) rfl))
theorem ls_AL_39 : fx_Ls "java/util/ArrayList" 39 11 := ⟨_, rfl, Or.inl (fx_m1 (List.mem_of_getElem? (i := 70) rfl))⟩
theorem lm_AL_1 : Cond.methodLink "java/util/ArrayList" 1 y_ABL_init ∈ tables_1 ∨ ∃ host, Cond.methodLinkNest "java/util/ArrayList" 1 y_ABL_init host ∈ tables_1 := Or.inl (fx_m1 (List.mem_of_getElem? (i := 63) rfl))
section
variable {p : Program} {l : Launch} {e : Env} {R : Room} {s : State} {m : MethodId} {args : Array Value} {below : List Frame} {meth : Method} {c : Code} {H : Heap} {locs : List Loc} {cells slots : Nat}
variable {D : DD} {y : MethodName} {cc : ByteArray} {nL kf kw : Nat} {ret : Option FieldType} {hh : List (Nat × Nat × Nat × Nat)} {h0 h : AH} {pc : Nat} {ls : Array Slot} {rest : List Value} {b idx : Nat}
theorem iv_ABL_init (C : fx_CX D y cc nL kf kw ret hh h0 p R s m meth c) (F : fx_F D h0 h H locs cells slots) (hw1 : Cond.methodLink y.cls idx y_ABL_init ∈ tables_1 ∨ ∃ host, Cond.methodLinkNest y.cls idx y_ABL_init host ∈ tables_1) (hd : decode cc pc = .ok (.invokespecial idx, 3)) : fx_IV p l e R s m args below meth c H locs cells slots (F0 m pc ls (.ref b :: rest)) rest y_ABL_init [.ref b] 3 := fun T hT X => fx_invI (As := []) C X hw1 (fx_m1 (List.mem_of_getElem? (i := 64) rfl)) hm_ABL_init ⟨by decide, by decide⟩ rfl rfl (n := 0) (by decide +kernel) rfl rfl hd
end
def dl_AL_init : List (Nat × Instr × Nat) := [(0, .aload_n 0, 1), (1, .invokespecial 1, 3), (4, .aload_n 0, 1), (5, .getstatic 39, 3), (8, .putfield 9, 3), (11, .return_, 1)]
theorem dk_AL_init : fx_dec prog_31_method_2_code dl_AL_init = true := by decide +kernel
theorem d_AL_init_0 : decode prog_31_method_2_code 0 = .ok (.aload_n 0, 1) := fx_dat dk_AL_init 0 rfl
theorem d_AL_init_1 : decode prog_31_method_2_code 1 = .ok (.invokespecial 1, 3) := fx_dat dk_AL_init 1 rfl
theorem d_AL_init_4 : decode prog_31_method_2_code 4 = .ok (.aload_n 0, 1) := fx_dat dk_AL_init 2 rfl
theorem d_AL_init_5 : decode prog_31_method_2_code 5 = .ok (.getstatic 39, 3) := fx_dat dk_AL_init 3 rfl
theorem d_AL_init_8 : decode prog_31_method_2_code 8 = .ok (.putfield 9, 3) := fx_dat dk_AL_init 4 rfl
theorem d_AL_init_11 : decode prog_31_method_2_code 11 = .ok (.return_, 1) := fx_dat dk_AL_init 5 rfl
def m_AL_init (Q : AH → Prop) (r0 : Nat) (h : AH) : Prop := m_ABL_init (fun h1 => fx_ext h h1 → hp_k h1 r0 = 12 ∧ ∀ h2 : AH, h2 = up_R h1 r0 0 (some (hp_c h1 11)) → Q h2) r0 h
theorem b_AL_init_0 {p : Program} {l : Launch} {e : Env} {R : Room} {s : State} {m : MethodId} {args : Array Value} {below : List Frame} {meth : Method} {c : Code} {D : DD} {h0 : AH} {Q : AH → Prop} (C : fx_CX D y_AL_init prog_31_method_2_code 1 3 36 (none) [] h0 p R s m meth c) (hl : l.flags = flags0) (r0 : Nat) (h : AH) (hw : m_AL_init Q r0 h) : ∀ (ls : Array Slot) (H : Heap) (locs : List Loc) (cells slots : Nat), lv_has ls 1 [(0, .ref r0)] → fx_F D h0 h H locs cells slots → W p l e R s m args below meth c H locs cells slots (fx_Z D below s h0 (fx_oV Q fx_no)) (F0 m 0 ls []) := by
  unfold m_AL_init at hw
  intro ls H locs cells slots hv F
  refine lv_aload_n C.ex C.by d_AL_init_0 rfl (lv_at hv 0 rfl) ?_
  refine fx_callV C F (c_ABL_init hl hw) hm_ABL_init hi_ABL_init hv.1 (by decide) (Nat.le_of_ble_eq_true rfl) (iv_ABL_init C F lm_AL_1 d_AL_init_1) (fx_out0 _) fx_eno (fun h1 H locs cells slots hw hx1 F => ?_)
  replace hw := hw hx1
  refine lv_aload_n C.ex C.by d_AL_init_4 rfl (lv_at hv 0 rfl) ?_
  refine fx_gets C F ls_AL_39 d_AL_init_5 ?_
  obtain ⟨hk1, hw⟩ := hw
  let h2 : AH := up_R h1 r0 0 (some (hp_c h1 11))
  replace hw := hw h2 rfl
  refine fx_putR C F lf_AL_9 hk1 rfl rfl (fx_mayF.no rfl rfl) d_AL_init_8 (fun H locs (F : fx_F D h0 h2 H locs _ _) => ?_)
  exact fx_vret C F d_AL_init_11 (Or.inl ⟨rfl, hw⟩)
theorem hm_AL_init : fx_hd y_AL_init prog_31_method_2_code 1 (none) [] ∈ tables_1 := (fx_m1 (List.mem_of_getElem? (i := 62) rfl))
theorem hi_AL_init : Cond.initialized y_AL_init.cls ∈ tables_1 := (fx_m1 (List.mem_of_getElem? (i := 5) rfl))
theorem c_AL_init {l : Launch} (hl : l.flags = flags0) {D : DD} {Q : AH → Prop} {r0 : Nat} {h : AH} (hw : m_AL_init Q r0 h) : fx_Mt l D y_AL_init (fx_hd y_AL_init prog_31_method_2_code 1 (none) []) 3 36 [.ref r0] h (fx_oV Q fx_no) := by
  refine fx_ofW (by decide +kernel) (fun p e s m below meth c C F => ?_)
  have hv := lv_entry ([.ref r0]) (n := 1) (Nat.le_of_ble_eq_true rfl)
  rw [lg_entry_eq]
  generalize (lg_sl ([.ref r0]) ++ List.replicate (1 - (lg_sl ([.ref r0])).length) Slot.unset).toArray = ls at hv ⊢
  have hv : lv_has ls 1 [(0, .ref r0)] := hv
  exact b_AL_init_0 C hl _ _ hw _ _ _ _ _ hv F
/-! ChainJudge$Digest.<init>(II)V: frames 1, words 12 -/
abbrev y_Dig_init : MethodName := ⟨"ChainJudge$Digest", "<init>", "(II)V"⟩
theorem lf_Dig_7 : fx_Lk "ChainJudge$Digest" 7 5 5 := fx_Lk.mk (C := "ChainJudge$Sha256") (T := fx_T5) (N := 8) rfl (by decide) (by decide) (fx_m1 (List.mem_of_getElem? (i := 108) rfl))
theorem lf_Dig_13 : fx_Lk "ChainJudge$Digest" 13 5 6 := fx_Lk.mk (C := "ChainJudge$Sha256") (T := fx_T5) (N := 8) rfl (by decide) (by decide) (fx_m1 (List.mem_of_getElem? (i := 109) rfl))
theorem lf_Dig_17 : fx_Lk "ChainJudge$Digest" 17 5 7 := fx_Lk.mk (C := "ChainJudge$Sha256") (T := fx_T5) (N := 8) rfl (by decide) (by decide) (fx_m1 (List.mem_of_getElem? (i := 110) rfl))
theorem lf_Dig_20 : fx_Lk "ChainJudge$Digest" 20 5 2 := fx_Lk.mk (C := "ChainJudge$Sha256") (T := fx_T5) (N := 8) rfl (by decide) (by decide) (fx_m1 (List.mem_of_getElem? (i := 104) rfl))
theorem lf_Dig_23 : fx_Lk "ChainJudge$Digest" 23 5 3 := fx_Lk.mk (C := "ChainJudge$Sha256") (T := fx_T5) (N := 8) rfl (by decide) (by decide) (fx_m1 (List.mem_of_getElem? (i := 106) rfl))
theorem lf_Dig_26 : fx_Lk "ChainJudge$Digest" 26 5 4 := fx_Lk.mk (C := "ChainJudge$Sha256") (T := fx_T5) (N := 8) rfl (by decide) (by decide) (fx_m1 (List.mem_of_getElem? (i := 107) rfl))
def dl_Dig_init : List (Nat × Instr × Nat) := [(0, .aload_n 0, 1), (1, .invokespecial 1, 3), (4, .aload_n 0, 1), (5, .iconst 0, 1), (6, .putfield 7, 3), (9, .aload_n 0, 1), (10, .lconst 0, 1), (11, .putfield 13, 3), (14, .aload_n 0, 1), (15, .iconst 0, 1), (16, .putfield 17, 3), (19, .aload_n 0, 1), (20, .iload_n 1, 1), (21, .putfield 20, 3), (24, .aload_n 0, 1), (25, .iload_n 2, 1), (26, .putfield 23, 3), (29, .aload_n 0, 1), (30, .iload_n 2, 1), (31, .newarray .byte, 2), (33, .putfield 26, 3), (36, .return_, 1)]
theorem dk_Dig_init : fx_dec prog_3_method_1_code dl_Dig_init = true := by decide +kernel
theorem d_Dig_init_0 : decode prog_3_method_1_code 0 = .ok (.aload_n 0, 1) := fx_dat dk_Dig_init 0 rfl
theorem d_Dig_init_1 : decode prog_3_method_1_code 1 = .ok (.invokespecial 1, 3) := fx_dat dk_Dig_init 1 rfl
theorem d_Dig_init_4 : decode prog_3_method_1_code 4 = .ok (.aload_n 0, 1) := fx_dat dk_Dig_init 2 rfl
theorem d_Dig_init_5 : decode prog_3_method_1_code 5 = .ok (.iconst 0, 1) := fx_dat dk_Dig_init 3 rfl
theorem d_Dig_init_6 : decode prog_3_method_1_code 6 = .ok (.putfield 7, 3) := fx_dat dk_Dig_init 4 rfl
theorem d_Dig_init_9 : decode prog_3_method_1_code 9 = .ok (.aload_n 0, 1) := fx_dat dk_Dig_init 5 rfl
theorem d_Dig_init_10 : decode prog_3_method_1_code 10 = .ok (.lconst 0, 1) := fx_dat dk_Dig_init 6 rfl
theorem d_Dig_init_11 : decode prog_3_method_1_code 11 = .ok (.putfield 13, 3) := fx_dat dk_Dig_init 7 rfl
theorem d_Dig_init_14 : decode prog_3_method_1_code 14 = .ok (.aload_n 0, 1) := fx_dat dk_Dig_init 8 rfl
theorem d_Dig_init_15 : decode prog_3_method_1_code 15 = .ok (.iconst 0, 1) := fx_dat dk_Dig_init 9 rfl
theorem d_Dig_init_16 : decode prog_3_method_1_code 16 = .ok (.putfield 17, 3) := fx_dat dk_Dig_init 10 rfl
theorem d_Dig_init_19 : decode prog_3_method_1_code 19 = .ok (.aload_n 0, 1) := fx_dat dk_Dig_init 11 rfl
theorem d_Dig_init_20 : decode prog_3_method_1_code 20 = .ok (.iload_n 1, 1) := fx_dat dk_Dig_init 12 rfl
theorem d_Dig_init_21 : decode prog_3_method_1_code 21 = .ok (.putfield 20, 3) := fx_dat dk_Dig_init 13 rfl
theorem d_Dig_init_24 : decode prog_3_method_1_code 24 = .ok (.aload_n 0, 1) := fx_dat dk_Dig_init 14 rfl
theorem d_Dig_init_25 : decode prog_3_method_1_code 25 = .ok (.iload_n 2, 1) := fx_dat dk_Dig_init 15 rfl
theorem d_Dig_init_26 : decode prog_3_method_1_code 26 = .ok (.putfield 23, 3) := fx_dat dk_Dig_init 16 rfl
theorem d_Dig_init_29 : decode prog_3_method_1_code 29 = .ok (.aload_n 0, 1) := fx_dat dk_Dig_init 17 rfl
theorem d_Dig_init_30 : decode prog_3_method_1_code 30 = .ok (.iload_n 2, 1) := fx_dat dk_Dig_init 18 rfl
theorem d_Dig_init_31 : decode prog_3_method_1_code 31 = .ok (.newarray .byte, 2) := fx_dat dk_Dig_init 19 rfl
theorem d_Dig_init_33 : decode prog_3_method_1_code 33 = .ok (.putfield 26, 3) := fx_dat dk_Dig_init 20 rfl
theorem d_Dig_init_36 : decode prog_3_method_1_code 36 = .ok (.return_, 1) := fx_dat dk_Dig_init 21 rfl
def m_Dig_init (Q : AH → Prop) (r0 : Nat) (x1 : Int32) (x2 : Int32) (h : AH) : Prop := hp_k h r0 = 6 ∧ ∀ h1 : AH, h1 = up_I h r0 5 (0 : Int32) → ∀ h2 : AH, h2 = up_L h1 r0 6 (0 : Int64) → ∀ h3 : AH, h3 = up_I h2 r0 7 (0 : Int32) → ∀ h4 : AH, h4 = up_I h3 r0 2 x1 → ∀ h5 : AH, h5 = up_I h4 r0 3 x2 → ¬ x2 < 0 ∧ (x2).toNatClampNeg ≤ 536870912 ∧ fx_has h5 (x2).toNatClampNeg ∧ ∀ (_ : fx_wf h5) (q1 : Nat), q1 = hp_z h5 → ∀ h6 : AH, h6 = up_N h5 101 (x2).toNatClampNeg (x2).toNatClampNeg → ∀ h7 : AH, h7 = up_R h6 r0 4 (some q1) → Q h7
theorem b_Dig_init_0 {p : Program} {l : Launch} {e : Env} {R : Room} {s : State} {m : MethodId} {args : Array Value} {below : List Frame} {meth : Method} {c : Code} {D : DD} {h0 : AH} {Q : AH → Prop} (C : fx_CX D y_Dig_init prog_3_method_1_code 3 1 12 (none) [] h0 p R s m meth c) (hl : l.flags = flags0) (r0 : Nat) (x1 : Int32) (x2 : Int32) (h : AH) (hw : m_Dig_init Q r0 x1 x2 h) : ∀ (ls : Array Slot) (H : Heap) (locs : List Loc) (cells slots : Nat), lv_has ls 3 [(0, .ref r0), (1, .int x1), (2, .int x2)] → fx_F D h0 h H locs cells slots → W p l e R s m args below meth c H locs cells slots (fx_Z D below s h0 (fx_oV Q fx_no)) (F0 m 0 ls []) := by
  unfold m_Dig_init at hw
  intro ls H locs cells slots hv F
  refine lv_aload_n C.ex C.by d_Dig_init_0 rfl (lv_at hv 0 rfl) ?_
  refine fx_objI C (fx_m1 (List.mem_of_getElem? (i := 100) rfl)) (fx_m1 (List.mem_of_getElem? (i := 38) rfl)) (fx_m1 (List.mem_of_getElem? (i := 39) rfl)) hv.1 d_Dig_init_1 (by decide) (Nat.le_of_ble_eq_true rfl) ?_
  refine lv_aload_n C.ex C.by d_Dig_init_4 rfl (lv_at hv 0 rfl) ?_
  refine lv_iconst (v := (0 : Int32)) C.ex C.by d_Dig_init_5 (by decide) ?_
  obtain ⟨hk1, hw⟩ := hw
  let h1 : AH := up_I h r0 5 (0 : Int32)
  replace hw := hw h1 rfl
  refine fx_putI C F lf_Dig_7 hk1 rfl rfl (fx_mayF.no rfl rfl) d_Dig_init_6 (fun H locs (F : fx_F D h0 h1 H locs _ _) => ?_)
  refine lv_aload_n C.ex C.by d_Dig_init_9 rfl (lv_at hv 0 rfl) ?_
  refine lv_lconst (v := (0 : Int64)) C.ex C.by d_Dig_init_10 (by decide) ?_
  let h2 : AH := up_L h1 r0 6 (0 : Int64)
  replace hw := hw h2 rfl
  refine fx_putL C F lf_Dig_13 hk1 rfl rfl (fx_mayF.no rfl rfl) d_Dig_init_11 (fun H locs (F : fx_F D h0 h2 H locs _ _) => ?_)
  refine lv_aload_n C.ex C.by d_Dig_init_14 rfl (lv_at hv 0 rfl) ?_
  refine lv_iconst (v := (0 : Int32)) C.ex C.by d_Dig_init_15 (by decide) ?_
  let h3 : AH := up_I h2 r0 7 (0 : Int32)
  replace hw := hw h3 rfl
  refine fx_putI C F lf_Dig_17 hk1 rfl rfl (fx_mayF.no rfl rfl) d_Dig_init_16 (fun H locs (F : fx_F D h0 h3 H locs _ _) => ?_)
  refine lv_aload_n C.ex C.by d_Dig_init_19 rfl (lv_at hv 0 rfl) ?_
  refine lv_iload_n C.ex C.by d_Dig_init_20 rfl (lv_at hv 1 rfl) ?_
  let h4 : AH := up_I h3 r0 2 x1
  replace hw := hw h4 rfl
  refine fx_putI C F lf_Dig_20 hk1 rfl rfl (fx_mayF.ini rfl rfl rfl) d_Dig_init_21 (fun H locs (F : fx_F D h0 h4 H locs _ _) => ?_)
  refine lv_aload_n C.ex C.by d_Dig_init_24 rfl (lv_at hv 0 rfl) ?_
  refine lv_iload_n C.ex C.by d_Dig_init_25 rfl (lv_at hv 2 rfl) ?_
  let h5 : AH := up_I h4 r0 3 x2
  replace hw := hw h5 rfl
  refine fx_putI C F lf_Dig_23 hk1 rfl rfl (fx_mayF.ini rfl rfl rfl) d_Dig_init_26 (fun H locs (F : fx_F D h0 h5 H locs _ _) => ?_)
  refine lv_aload_n C.ex C.by d_Dig_init_29 rfl (lv_at hv 0 rfl) ?_
  refine lv_iload_n C.ex C.by d_Dig_init_30 rfl (lv_at hv 2 rfl) ?_
  obtain ⟨hn0, hn1, hs, hw⟩ := hw
  let q1 : Nat := hp_z h5
  let h6 : AH := up_N h5 101 (x2).toNatClampNeg (x2).toNatClampNeg
  replace hw := hw F.wf q1 rfl h6 rfl
  have hk1 := (F.xN (k := 101) (n := (x2).toNatClampNeg) (m := (x2).toNatClampNeg)).k hk1
  have hkq1 : hp_k h6 q1 = 101 := fx_nk _ _ _ _
  refine fx_newaB  C F (fx_m1 (List.mem_of_getElem? (i := 55) rfl)) hn0 hn1 hs d_Dig_init_31 (fun H cells slots (F : fx_F D h0 h6 H locs cells slots) => ?_)
  let h7 : AH := up_R h6 r0 4 (some q1)
  replace hw := hw h7 rfl
  refine fx_putR C F lf_Dig_26 hk1 rfl rfl (fx_mayF.ini rfl rfl rfl) d_Dig_init_33 (fun H locs (F : fx_F D h0 h7 H locs _ _) => ?_)
  exact fx_vret C F d_Dig_init_36 (Or.inl ⟨rfl, hw⟩)
theorem hm_Dig_init : fx_hd y_Dig_init prog_3_method_1_code 3 (none) [] ∈ tables_1 := (fx_m1 (List.mem_of_getElem? (i := 99) rfl))
theorem hi_Dig_init : Cond.initialized y_Dig_init.cls ∈ tables_1 := (fx_m1 (List.mem_of_getElem? (i := 8) rfl))
theorem c_Dig_init {l : Launch} (hl : l.flags = flags0) {D : DD} {Q : AH → Prop} {r0 : Nat} {x1 : Int32} {x2 : Int32} {h : AH} (hw : m_Dig_init Q r0 x1 x2 h) : fx_Mt l D y_Dig_init (fx_hd y_Dig_init prog_3_method_1_code 3 (none) []) 1 12 [.ref r0, .int x1, .int x2] h (fx_oV Q fx_no) := by
  refine fx_ofW (plainFor_of_name (by decide)) (fun p e s m below meth c C F => ?_)
  have hv := lv_entry ([.ref r0, .int x1, .int x2]) (n := 3) (Nat.le_of_ble_eq_true rfl)
  rw [lg_entry_eq]
  generalize (lg_sl ([.ref r0, .int x1, .int x2]) ++ List.replicate (3 - (lg_sl ([.ref r0, .int x1, .int x2])).length) Slot.unset).toArray = ls at hv ⊢
  have hv : lv_has ls 3 [(0, .ref r0), (1, .int x1), (2, .int x2)] := hv
  exact b_Dig_init_0 C hl _ _ _ _ hw _ _ _ _ _ hv F
/-! ChainJudge$Sha256.<init>()V: frames 2, words 26 -/
abbrev y_Sha_init : MethodName := ⟨"ChainJudge$Sha256", "<init>", "()V"⟩
theorem lf_Sha_7 : fx_Lk "ChainJudge$Sha256" 7 5 0 := fx_Lk.mk (C := "ChainJudge$Sha256") (T := fx_T5) (N := 8) rfl (by decide) (by decide) (fx_m1 (List.mem_of_getElem? (i := 101) rfl))
theorem lf_Sha_13 : fx_Lk "ChainJudge$Sha256" 13 5 1 := fx_Lk.mk (C := "ChainJudge$Sha256") (T := fx_T5) (N := 8) rfl (by decide) (by decide) (fx_m1 (List.mem_of_getElem? (i := 102) rfl))
theorem lm_Sha_1 : Cond.methodLink "ChainJudge$Sha256" 1 y_Dig_init ∈ tables_1 ∨ ∃ host, Cond.methodLinkNest "ChainJudge$Sha256" 1 y_Dig_init host ∈ tables_1 := Or.inl (fx_m1 (List.mem_of_getElem? (i := 97) rfl))
section
variable {p : Program} {l : Launch} {e : Env} {R : Room} {s : State} {m : MethodId} {args : Array Value} {below : List Frame} {meth : Method} {c : Code} {H : Heap} {locs : List Loc} {cells slots : Nat}
variable {D : DD} {y : MethodName} {cc : ByteArray} {nL kf kw : Nat} {ret : Option FieldType} {hh : List (Nat × Nat × Nat × Nat)} {h0 h : AH} {pc : Nat} {ls : Array Slot} {rest : List Value} {b idx : Nat}
theorem iv_Dig_init {x1 : Int32} {x2 : Int32} (C : fx_CX D y cc nL kf kw ret hh h0 p R s m meth c) (F : fx_F D h0 h H locs cells slots) (hw1 : Cond.methodLink y.cls idx y_Dig_init ∈ tables_1 ∨ ∃ host, Cond.methodLinkNest y.cls idx y_Dig_init host ∈ tables_1) (hd : decode cc pc = .ok (.invokespecial idx, 3)) : fx_IV p l e R s m args below meth c H locs cells slots (F0 m pc ls (.int x2 :: .int x1 :: .ref b :: rest)) rest y_Dig_init [.ref b, .int x1, .int x2] 3 := fun T hT X => fx_invI (As := [.int x1, .int x2]) C X hw1 (fx_m1 (List.mem_of_getElem? (i := 98) rfl)) hm_Dig_init ⟨by decide, by decide⟩ rfl rfl (n := 2) (by decide +kernel) rfl rfl hd
end
def dl_Sha_init : List (Nat × Instr × Nat) := [(0, .aload_n 0, 1), (1, .bipush 32, 2), (3, .bipush 64, 2), (5, .invokespecial 1, 3), (8, .aload_n 0, 1), (9, .bipush 8, 2), (11, .newarray .int, 2), (13, .putfield 7, 3), (16, .aload_n 0, 1), (17, .bipush 64, 2), (19, .newarray .int, 2), (21, .putfield 13, 3), (24, .return_, 1)]
theorem dk_Sha_init : fx_dec prog_12_method_1_code dl_Sha_init = true := by decide +kernel
theorem d_Sha_init_0 : decode prog_12_method_1_code 0 = .ok (.aload_n 0, 1) := fx_dat dk_Sha_init 0 rfl
theorem d_Sha_init_1 : decode prog_12_method_1_code 1 = .ok (.bipush 32, 2) := fx_dat dk_Sha_init 1 rfl
theorem d_Sha_init_3 : decode prog_12_method_1_code 3 = .ok (.bipush 64, 2) := fx_dat dk_Sha_init 2 rfl
theorem d_Sha_init_5 : decode prog_12_method_1_code 5 = .ok (.invokespecial 1, 3) := fx_dat dk_Sha_init 3 rfl
theorem d_Sha_init_8 : decode prog_12_method_1_code 8 = .ok (.aload_n 0, 1) := fx_dat dk_Sha_init 4 rfl
theorem d_Sha_init_9 : decode prog_12_method_1_code 9 = .ok (.bipush 8, 2) := fx_dat dk_Sha_init 5 rfl
theorem d_Sha_init_11 : decode prog_12_method_1_code 11 = .ok (.newarray .int, 2) := fx_dat dk_Sha_init 6 rfl
theorem d_Sha_init_13 : decode prog_12_method_1_code 13 = .ok (.putfield 7, 3) := fx_dat dk_Sha_init 7 rfl
theorem d_Sha_init_16 : decode prog_12_method_1_code 16 = .ok (.aload_n 0, 1) := fx_dat dk_Sha_init 8 rfl
theorem d_Sha_init_17 : decode prog_12_method_1_code 17 = .ok (.bipush 64, 2) := fx_dat dk_Sha_init 9 rfl
theorem d_Sha_init_19 : decode prog_12_method_1_code 19 = .ok (.newarray .int, 2) := fx_dat dk_Sha_init 10 rfl
theorem d_Sha_init_21 : decode prog_12_method_1_code 21 = .ok (.putfield 13, 3) := fx_dat dk_Sha_init 11 rfl
theorem d_Sha_init_24 : decode prog_12_method_1_code 24 = .ok (.return_, 1) := fx_dat dk_Sha_init 12 rfl
def m_Sha_init (Q : AH → Prop) (r0 : Nat) (h : AH) : Prop := m_Dig_init (fun h1 => fx_ext h h1 → fx_has h1 8 ∧ ∀ (_ : fx_wf h1) (q1 : Nat), q1 = hp_z h1 → ∀ h2 : AH, h2 = up_N h1 102 8 8 → hp_k h2 r0 = 6 ∧ ∀ h3 : AH, h3 = up_R h2 r0 0 (some q1) → fx_has h3 64 ∧ ∀ (_ : fx_wf h3) (q2 : Nat), q2 = hp_z h3 → ∀ h4 : AH, h4 = up_N h3 102 64 64 → ∀ h5 : AH, h5 = up_R h4 r0 1 (some q2) → Q h5) r0 (32 : Int32) (64 : Int32) h
theorem b_Sha_init_0 {p : Program} {l : Launch} {e : Env} {R : Room} {s : State} {m : MethodId} {args : Array Value} {below : List Frame} {meth : Method} {c : Code} {D : DD} {h0 : AH} {Q : AH → Prop} (C : fx_CX D y_Sha_init prog_12_method_1_code 1 2 26 (none) [] h0 p R s m meth c) (hl : l.flags = flags0) (r0 : Nat) (h : AH) (hw : m_Sha_init Q r0 h) : ∀ (ls : Array Slot) (H : Heap) (locs : List Loc) (cells slots : Nat), lv_has ls 1 [(0, .ref r0)] → fx_F D h0 h H locs cells slots → W p l e R s m args below meth c H locs cells slots (fx_Z D below s h0 (fx_oV Q fx_no)) (F0 m 0 ls []) := by
  unfold m_Sha_init at hw
  intro ls H locs cells slots hv F
  refine lv_aload_n C.ex C.by d_Sha_init_0 rfl (lv_at hv 0 rfl) ?_
  refine lv_bipush (v := (32 : Int32)) C.ex C.by d_Sha_init_1 (by decide) ?_
  refine lv_bipush (v := (64 : Int32)) C.ex C.by d_Sha_init_3 (by decide) ?_
  refine fx_callV C F (c_Dig_init hl hw) hm_Dig_init hi_Dig_init hv.1 (by decide) (Nat.le_of_ble_eq_true rfl) (iv_Dig_init C F lm_Sha_1 d_Sha_init_5) (fx_out0 _) fx_eno (fun h1 H locs cells slots hw hx1 F => ?_)
  replace hw := hw hx1
  refine lv_aload_n C.ex C.by d_Sha_init_8 rfl (lv_at hv 0 rfl) ?_
  refine lv_bipush (v := (8 : Int32)) C.ex C.by d_Sha_init_9 (by decide) ?_
  obtain ⟨hs, hw⟩ := hw
  let q1 : Nat := hp_z h1
  let h2 : AH := up_N h1 102 8 8
  replace hw := hw F.wf q1 rfl h2 rfl
  have hkq1 : hp_k h2 q1 = 102 := fx_nk _ _ _ _
  refine fx_newaI (n := (8 : Int32)) C F (fx_m1 (List.mem_of_getElem? (i := 128) rfl)) (by decide) (by decide) hs d_Sha_init_11 (fun H cells slots (F : fx_F D h0 h2 H locs cells slots) => ?_)
  obtain ⟨hk1, hw⟩ := hw
  let h3 : AH := up_R h2 r0 0 (some q1)
  replace hw := hw h3 rfl
  refine fx_putR C F lf_Sha_7 hk1 rfl rfl (fx_mayF.ini rfl rfl rfl) d_Sha_init_13 (fun H locs (F : fx_F D h0 h3 H locs _ _) => ?_)
  refine lv_aload_n C.ex C.by d_Sha_init_16 rfl (lv_at hv 0 rfl) ?_
  refine lv_bipush (v := (64 : Int32)) C.ex C.by d_Sha_init_17 (by decide) ?_
  obtain ⟨hs, hw⟩ := hw
  let q2 : Nat := hp_z h3
  let h4 : AH := up_N h3 102 64 64
  replace hw := hw F.wf q2 rfl h4 rfl
  have hkq1 := (F.xN (k := 102) (n := 64) (m := 64)).k hkq1
  have hk1 := (F.xN (k := 102) (n := 64) (m := 64)).k hk1
  have hkq2 : hp_k h4 q2 = 102 := fx_nk _ _ _ _
  refine fx_newaI (n := (64 : Int32)) C F (fx_m1 (List.mem_of_getElem? (i := 128) rfl)) (by decide) (by decide) hs d_Sha_init_19 (fun H cells slots (F : fx_F D h0 h4 H locs cells slots) => ?_)
  let h5 : AH := up_R h4 r0 1 (some q2)
  replace hw := hw h5 rfl
  refine fx_putR C F lf_Sha_13 hk1 rfl rfl (fx_mayF.ini rfl rfl rfl) d_Sha_init_21 (fun H locs (F : fx_F D h0 h5 H locs _ _) => ?_)
  exact fx_vret C F d_Sha_init_24 (Or.inl ⟨rfl, hw⟩)
theorem hm_Sha_init : fx_hd y_Sha_init prog_12_method_1_code 1 (none) [] ∈ tables_1 := (fx_m1 (List.mem_of_getElem? (i := 96) rfl))
theorem hi_Sha_init : Cond.initialized y_Sha_init.cls ∈ tables_1 := (fx_m1 (List.mem_of_getElem? (i := 9) rfl))
theorem c_Sha_init {l : Launch} (hl : l.flags = flags0) {D : DD} {Q : AH → Prop} {r0 : Nat} {h : AH} (hw : m_Sha_init Q r0 h) : fx_Mt l D y_Sha_init (fx_hd y_Sha_init prog_12_method_1_code 1 (none) []) 2 26 [.ref r0] h (fx_oV Q fx_no) := by
  refine fx_ofW (plainFor_of_name (by decide)) (fun p e s m below meth c C F => ?_)
  have hv := lv_entry ([.ref r0]) (n := 1) (Nat.le_of_ble_eq_true rfl)
  rw [lg_entry_eq]
  generalize (lg_sl ([.ref r0]) ++ List.replicate (1 - (lg_sl ([.ref r0])).length) Slot.unset).toArray = ls at hv ⊢
  have hv : lv_has ls 1 [(0, .ref r0)] := hv
  exact b_Sha_init_0 C hl _ _ hw _ _ _ _ _ hv F
/-! ChainJudge$Kdf.<init>(LChainJudge$Digest;LChainJudge$Digest;)V: frames 1, words 12 -/
abbrev y_Kdf_init : MethodName := ⟨"ChainJudge$Kdf", "<init>", "(LChainJudge$Digest;LChainJudge$Digest;)V"⟩
theorem lf_Kdf_7 : fx_Lk "ChainJudge$Kdf" 7 4 1 := fx_Lk.mk (C := "ChainJudge$Kdf") (T := fx_T4) (N := 6) rfl (by decide) (by decide) (fx_m1 (List.mem_of_getElem? (i := 134) rfl))
theorem lf_Kdf_13 : fx_Lk "ChainJudge$Kdf" 13 4 2 := fx_Lk.mk (C := "ChainJudge$Kdf") (T := fx_T4) (N := 6) rfl (by decide) (by decide) (fx_m1 (List.mem_of_getElem? (i := 135) rfl))
theorem lf_Kdf_16 : fx_Lk "ChainJudge$Kdf" 16 5 2 := fx_Lk.mk (C := "ChainJudge$Sha256") (T := fx_T5) (N := 8) rfl (by decide) (by decide) (fx_m1 (List.mem_of_getElem? (i := 103) rfl))
theorem lf_Kdf_22 : fx_Lk "ChainJudge$Kdf" 22 4 0 := fx_Lk.mk (C := "ChainJudge$Kdf") (T := fx_T4) (N := 6) rfl (by decide) (by decide) (fx_m1 (List.mem_of_getElem? (i := 133) rfl))
theorem lf_Kdf_23 : fx_Lk "ChainJudge$Kdf" 23 5 3 := fx_Lk.mk (C := "ChainJudge$Sha256") (T := fx_T5) (N := 8) rfl (by decide) (by decide) (fx_m1 (List.mem_of_getElem? (i := 105) rfl))
theorem lf_Kdf_26 : fx_Lk "ChainJudge$Kdf" 26 4 3 := fx_Lk.mk (C := "ChainJudge$Kdf") (T := fx_T4) (N := 6) rfl (by decide) (by decide) (fx_m1 (List.mem_of_getElem? (i := 136) rfl))
theorem lf_Kdf_30 : fx_Lk "ChainJudge$Kdf" 30 4 4 := fx_Lk.mk (C := "ChainJudge$Kdf") (T := fx_T4) (N := 6) rfl (by decide) (by decide) (fx_m1 (List.mem_of_getElem? (i := 137) rfl))
theorem lf_Kdf_33 : fx_Lk "ChainJudge$Kdf" 33 4 5 := fx_Lk.mk (C := "ChainJudge$Kdf") (T := fx_T4) (N := 6) rfl (by decide) (by decide) (fx_m1 (List.mem_of_getElem? (i := 138) rfl))
def dl_Kdf_init : List (Nat × Instr × Nat) := [(0, .aload_n 0, 1), (1, .invokespecial 1, 3), (4, .aload_n 0, 1), (5, .aload_n 1, 1), (6, .putfield 7, 3), (9, .aload_n 0, 1), (10, .aload_n 2, 1), (11, .putfield 13, 3), (14, .aload_n 0, 1), (15, .aload_n 1, 1), (16, .getfield 16, 3), (19, .putfield 22, 3), (22, .aload_n 0, 1), (23, .aload_n 1, 1), (24, .getfield 23, 3), (27, .newarray .byte, 2), (29, .putfield 26, 3), (32, .aload_n 0, 1), (33, .aload_n 0, 1), (34, .getfield 22, 3), (37, .newarray .byte, 2), (39, .putfield 30, 3), (42, .aload_n 0, 1), (43, .aload_n 0, 1), (44, .getfield 22, 3), (47, .newarray .byte, 2), (49, .putfield 33, 3), (52, .return_, 1)]
theorem dk_Kdf_init : fx_dec prog_6_method_1_code dl_Kdf_init = true := by decide +kernel
theorem d_Kdf_init_0 : decode prog_6_method_1_code 0 = .ok (.aload_n 0, 1) := fx_dat dk_Kdf_init 0 rfl
theorem d_Kdf_init_1 : decode prog_6_method_1_code 1 = .ok (.invokespecial 1, 3) := fx_dat dk_Kdf_init 1 rfl
theorem d_Kdf_init_4 : decode prog_6_method_1_code 4 = .ok (.aload_n 0, 1) := fx_dat dk_Kdf_init 2 rfl
theorem d_Kdf_init_5 : decode prog_6_method_1_code 5 = .ok (.aload_n 1, 1) := fx_dat dk_Kdf_init 3 rfl
theorem d_Kdf_init_6 : decode prog_6_method_1_code 6 = .ok (.putfield 7, 3) := fx_dat dk_Kdf_init 4 rfl
theorem d_Kdf_init_9 : decode prog_6_method_1_code 9 = .ok (.aload_n 0, 1) := fx_dat dk_Kdf_init 5 rfl
theorem d_Kdf_init_10 : decode prog_6_method_1_code 10 = .ok (.aload_n 2, 1) := fx_dat dk_Kdf_init 6 rfl
theorem d_Kdf_init_11 : decode prog_6_method_1_code 11 = .ok (.putfield 13, 3) := fx_dat dk_Kdf_init 7 rfl
theorem d_Kdf_init_14 : decode prog_6_method_1_code 14 = .ok (.aload_n 0, 1) := fx_dat dk_Kdf_init 8 rfl
theorem d_Kdf_init_15 : decode prog_6_method_1_code 15 = .ok (.aload_n 1, 1) := fx_dat dk_Kdf_init 9 rfl
theorem d_Kdf_init_16 : decode prog_6_method_1_code 16 = .ok (.getfield 16, 3) := fx_dat dk_Kdf_init 10 rfl
theorem d_Kdf_init_19 : decode prog_6_method_1_code 19 = .ok (.putfield 22, 3) := fx_dat dk_Kdf_init 11 rfl
theorem d_Kdf_init_22 : decode prog_6_method_1_code 22 = .ok (.aload_n 0, 1) := fx_dat dk_Kdf_init 12 rfl
theorem d_Kdf_init_23 : decode prog_6_method_1_code 23 = .ok (.aload_n 1, 1) := fx_dat dk_Kdf_init 13 rfl
theorem d_Kdf_init_24 : decode prog_6_method_1_code 24 = .ok (.getfield 23, 3) := fx_dat dk_Kdf_init 14 rfl
theorem d_Kdf_init_27 : decode prog_6_method_1_code 27 = .ok (.newarray .byte, 2) := fx_dat dk_Kdf_init 15 rfl
theorem d_Kdf_init_29 : decode prog_6_method_1_code 29 = .ok (.putfield 26, 3) := fx_dat dk_Kdf_init 16 rfl
theorem d_Kdf_init_32 : decode prog_6_method_1_code 32 = .ok (.aload_n 0, 1) := fx_dat dk_Kdf_init 17 rfl
theorem d_Kdf_init_33 : decode prog_6_method_1_code 33 = .ok (.aload_n 0, 1) := fx_dat dk_Kdf_init 18 rfl
theorem d_Kdf_init_34 : decode prog_6_method_1_code 34 = .ok (.getfield 22, 3) := fx_dat dk_Kdf_init 19 rfl
theorem d_Kdf_init_37 : decode prog_6_method_1_code 37 = .ok (.newarray .byte, 2) := fx_dat dk_Kdf_init 20 rfl
theorem d_Kdf_init_39 : decode prog_6_method_1_code 39 = .ok (.putfield 30, 3) := fx_dat dk_Kdf_init 21 rfl
theorem d_Kdf_init_42 : decode prog_6_method_1_code 42 = .ok (.aload_n 0, 1) := fx_dat dk_Kdf_init 22 rfl
theorem d_Kdf_init_43 : decode prog_6_method_1_code 43 = .ok (.aload_n 0, 1) := fx_dat dk_Kdf_init 23 rfl
theorem d_Kdf_init_44 : decode prog_6_method_1_code 44 = .ok (.getfield 22, 3) := fx_dat dk_Kdf_init 24 rfl
theorem d_Kdf_init_47 : decode prog_6_method_1_code 47 = .ok (.newarray .byte, 2) := fx_dat dk_Kdf_init 25 rfl
theorem d_Kdf_init_49 : decode prog_6_method_1_code 49 = .ok (.putfield 33, 3) := fx_dat dk_Kdf_init 26 rfl
theorem d_Kdf_init_52 : decode prog_6_method_1_code 52 = .ok (.return_, 1) := fx_dat dk_Kdf_init 27 rfl
def m_Kdf_init (Q : AH → Prop) (r0 : Nat) (r1 : Nat) (r2 : Nat) (h : AH) : Prop := hp_k h r0 = 5 ∧ ∀ h1 : AH, h1 = up_R h r0 1 (some r1) → ∀ h2 : AH, h2 = up_R h1 r0 2 (some r2) → hp_k h2 r1 = 6 ∧ ∀ h3 : AH, h3 = up_I h2 r0 0 (hp_I h2 r1 2) → ¬ (hp_I h3 r1 3) < 0 ∧ ((hp_I h3 r1 3)).toNatClampNeg ≤ 536870912 ∧ fx_has h3 ((hp_I h3 r1 3)).toNatClampNeg ∧ ∀ (_ : fx_wf h3) (q1 : Nat), q1 = hp_z h3 → ∀ h4 : AH, h4 = up_N h3 101 ((hp_I h3 r1 3)).toNatClampNeg ((hp_I h3 r1 3)).toNatClampNeg → ∀ h5 : AH, h5 = up_R h4 r0 3 (some q1) → ¬ (hp_I h5 r0 0) < 0 ∧ ((hp_I h5 r0 0)).toNatClampNeg ≤ 536870912 ∧ fx_has h5 ((hp_I h5 r0 0)).toNatClampNeg ∧ ∀ (_ : fx_wf h5) (q2 : Nat), q2 = hp_z h5 → ∀ h6 : AH, h6 = up_N h5 101 ((hp_I h5 r0 0)).toNatClampNeg ((hp_I h5 r0 0)).toNatClampNeg → ∀ h7 : AH, h7 = up_R h6 r0 4 (some q2) → ¬ (hp_I h7 r0 0) < 0 ∧ ((hp_I h7 r0 0)).toNatClampNeg ≤ 536870912 ∧ fx_has h7 ((hp_I h7 r0 0)).toNatClampNeg ∧ ∀ (_ : fx_wf h7) (q3 : Nat), q3 = hp_z h7 → ∀ h8 : AH, h8 = up_N h7 101 ((hp_I h7 r0 0)).toNatClampNeg ((hp_I h7 r0 0)).toNatClampNeg → ∀ h9 : AH, h9 = up_R h8 r0 5 (some q3) → Q h9
theorem b_Kdf_init_0 {p : Program} {l : Launch} {e : Env} {R : Room} {s : State} {m : MethodId} {args : Array Value} {below : List Frame} {meth : Method} {c : Code} {D : DD} {h0 : AH} {Q : AH → Prop} (C : fx_CX D y_Kdf_init prog_6_method_1_code 3 1 12 (none) [] h0 p R s m meth c) (hl : l.flags = flags0) (r0 : Nat) (r1 : Nat) (r2 : Nat) (h : AH) (hw : m_Kdf_init Q r0 r1 r2 h) : ∀ (ls : Array Slot) (H : Heap) (locs : List Loc) (cells slots : Nat), lv_has ls 3 [(0, .ref r0), (1, .ref r1), (2, .ref r2)] → fx_F D h0 h H locs cells slots → W p l e R s m args below meth c H locs cells slots (fx_Z D below s h0 (fx_oV Q fx_no)) (F0 m 0 ls []) := by
  unfold m_Kdf_init at hw
  intro ls H locs cells slots hv F
  refine lv_aload_n C.ex C.by d_Kdf_init_0 rfl (lv_at hv 0 rfl) ?_
  refine fx_objI C (fx_m1 (List.mem_of_getElem? (i := 132) rfl)) (fx_m1 (List.mem_of_getElem? (i := 38) rfl)) (fx_m1 (List.mem_of_getElem? (i := 39) rfl)) hv.1 d_Kdf_init_1 (by decide) (Nat.le_of_ble_eq_true rfl) ?_
  refine lv_aload_n C.ex C.by d_Kdf_init_4 rfl (lv_at hv 0 rfl) ?_
  refine lv_aload_n C.ex C.by d_Kdf_init_5 rfl (lv_at hv 1 rfl) ?_
  obtain ⟨hk1, hw⟩ := hw
  let h1 : AH := up_R h r0 1 (some r1)
  replace hw := hw h1 rfl
  refine fx_putR C F lf_Kdf_7 hk1 rfl rfl (fx_mayF.ini rfl rfl rfl) d_Kdf_init_6 (fun H locs (F : fx_F D h0 h1 H locs _ _) => ?_)
  refine lv_aload_n C.ex C.by d_Kdf_init_9 rfl (lv_at hv 0 rfl) ?_
  refine lv_aload_n C.ex C.by d_Kdf_init_10 rfl (lv_at hv 2 rfl) ?_
  let h2 : AH := up_R h1 r0 2 (some r2)
  replace hw := hw h2 rfl
  refine fx_putR C F lf_Kdf_13 hk1 rfl rfl (fx_mayF.ini rfl rfl rfl) d_Kdf_init_11 (fun H locs (F : fx_F D h0 h2 H locs _ _) => ?_)
  refine lv_aload_n C.ex C.by d_Kdf_init_14 rfl (lv_at hv 0 rfl) ?_
  refine lv_aload_n C.ex C.by d_Kdf_init_15 rfl (lv_at hv 1 rfl) ?_
  obtain ⟨hk2, hw⟩ := hw
  refine fx_getI C F lf_Kdf_16 hk2 rfl d_Kdf_init_16 ?_
  let h3 : AH := up_I h2 r0 0 (hp_I h2 r1 2)
  replace hw := hw h3 rfl
  refine fx_putI C F lf_Kdf_22 hk1 rfl rfl (fx_mayF.ini rfl rfl rfl) d_Kdf_init_19 (fun H locs (F : fx_F D h0 h3 H locs _ _) => ?_)
  refine lv_aload_n C.ex C.by d_Kdf_init_22 rfl (lv_at hv 0 rfl) ?_
  refine lv_aload_n C.ex C.by d_Kdf_init_23 rfl (lv_at hv 1 rfl) ?_
  refine fx_getI C F lf_Kdf_23 hk2 rfl d_Kdf_init_24 ?_
  obtain ⟨hn0, hn1, hs, hw⟩ := hw
  let q1 : Nat := hp_z h3
  let h4 : AH := up_N h3 101 ((hp_I h3 r1 3)).toNatClampNeg ((hp_I h3 r1 3)).toNatClampNeg
  replace hw := hw F.wf q1 rfl h4 rfl
  have hk1 := (F.xN (k := 101) (n := ((hp_I h3 r1 3)).toNatClampNeg) (m := ((hp_I h3 r1 3)).toNatClampNeg)).k hk1
  have hk2 := (F.xN (k := 101) (n := ((hp_I h3 r1 3)).toNatClampNeg) (m := ((hp_I h3 r1 3)).toNatClampNeg)).k hk2
  have hkq1 : hp_k h4 q1 = 101 := fx_nk _ _ _ _
  refine fx_newaB  C F (fx_m1 (List.mem_of_getElem? (i := 55) rfl)) hn0 hn1 hs d_Kdf_init_27 (fun H cells slots (F : fx_F D h0 h4 H locs cells slots) => ?_)
  let h5 : AH := up_R h4 r0 3 (some q1)
  replace hw := hw h5 rfl
  refine fx_putR C F lf_Kdf_26 hk1 rfl rfl (fx_mayF.ini rfl rfl rfl) d_Kdf_init_29 (fun H locs (F : fx_F D h0 h5 H locs _ _) => ?_)
  refine lv_aload_n C.ex C.by d_Kdf_init_32 rfl (lv_at hv 0 rfl) ?_
  refine lv_aload_n C.ex C.by d_Kdf_init_33 rfl (lv_at hv 0 rfl) ?_
  refine fx_getI C F lf_Kdf_22 hk1 rfl d_Kdf_init_34 ?_
  obtain ⟨hn0, hn1, hs, hw⟩ := hw
  let q2 : Nat := hp_z h5
  let h6 : AH := up_N h5 101 ((hp_I h5 r0 0)).toNatClampNeg ((hp_I h5 r0 0)).toNatClampNeg
  replace hw := hw F.wf q2 rfl h6 rfl
  have hkq1 := (F.xN (k := 101) (n := ((hp_I h5 r0 0)).toNatClampNeg) (m := ((hp_I h5 r0 0)).toNatClampNeg)).k hkq1
  have hk1 := (F.xN (k := 101) (n := ((hp_I h5 r0 0)).toNatClampNeg) (m := ((hp_I h5 r0 0)).toNatClampNeg)).k hk1
  have hk2 := (F.xN (k := 101) (n := ((hp_I h5 r0 0)).toNatClampNeg) (m := ((hp_I h5 r0 0)).toNatClampNeg)).k hk2
  have hkq2 : hp_k h6 q2 = 101 := fx_nk _ _ _ _
  refine fx_newaB  C F (fx_m1 (List.mem_of_getElem? (i := 55) rfl)) hn0 hn1 hs d_Kdf_init_37 (fun H cells slots (F : fx_F D h0 h6 H locs cells slots) => ?_)
  let h7 : AH := up_R h6 r0 4 (some q2)
  replace hw := hw h7 rfl
  refine fx_putR C F lf_Kdf_30 hk1 rfl rfl (fx_mayF.ini rfl rfl rfl) d_Kdf_init_39 (fun H locs (F : fx_F D h0 h7 H locs _ _) => ?_)
  refine lv_aload_n C.ex C.by d_Kdf_init_42 rfl (lv_at hv 0 rfl) ?_
  refine lv_aload_n C.ex C.by d_Kdf_init_43 rfl (lv_at hv 0 rfl) ?_
  refine fx_getI C F lf_Kdf_22 hk1 rfl d_Kdf_init_44 ?_
  obtain ⟨hn0, hn1, hs, hw⟩ := hw
  let q3 : Nat := hp_z h7
  let h8 : AH := up_N h7 101 ((hp_I h7 r0 0)).toNatClampNeg ((hp_I h7 r0 0)).toNatClampNeg
  replace hw := hw F.wf q3 rfl h8 rfl
  have hkq1 := (F.xN (k := 101) (n := ((hp_I h7 r0 0)).toNatClampNeg) (m := ((hp_I h7 r0 0)).toNatClampNeg)).k hkq1
  have hkq2 := (F.xN (k := 101) (n := ((hp_I h7 r0 0)).toNatClampNeg) (m := ((hp_I h7 r0 0)).toNatClampNeg)).k hkq2
  have hk1 := (F.xN (k := 101) (n := ((hp_I h7 r0 0)).toNatClampNeg) (m := ((hp_I h7 r0 0)).toNatClampNeg)).k hk1
  have hk2 := (F.xN (k := 101) (n := ((hp_I h7 r0 0)).toNatClampNeg) (m := ((hp_I h7 r0 0)).toNatClampNeg)).k hk2
  have hkq3 : hp_k h8 q3 = 101 := fx_nk _ _ _ _
  refine fx_newaB  C F (fx_m1 (List.mem_of_getElem? (i := 55) rfl)) hn0 hn1 hs d_Kdf_init_47 (fun H cells slots (F : fx_F D h0 h8 H locs cells slots) => ?_)
  let h9 : AH := up_R h8 r0 5 (some q3)
  replace hw := hw h9 rfl
  refine fx_putR C F lf_Kdf_33 hk1 rfl rfl (fx_mayF.ini rfl rfl rfl) d_Kdf_init_49 (fun H locs (F : fx_F D h0 h9 H locs _ _) => ?_)
  exact fx_vret C F d_Kdf_init_52 (Or.inl ⟨rfl, hw⟩)
theorem hm_Kdf_init : fx_hd y_Kdf_init prog_6_method_1_code 3 (none) [] ∈ tables_1 := (fx_m1 (List.mem_of_getElem? (i := 131) rfl))
theorem hi_Kdf_init : Cond.initialized y_Kdf_init.cls ∈ tables_1 := (fx_m1 (List.mem_of_getElem? (i := 7) rfl))
theorem c_Kdf_init {l : Launch} (hl : l.flags = flags0) {D : DD} {Q : AH → Prop} {r0 : Nat} {r1 : Nat} {r2 : Nat} {h : AH} (hw : m_Kdf_init Q r0 r1 r2 h) : fx_Mt l D y_Kdf_init (fx_hd y_Kdf_init prog_6_method_1_code 3 (none) []) 1 12 [.ref r0, .ref r1, .ref r2] h (fx_oV Q fx_no) := by
  refine fx_ofW (plainFor_of_name (by decide)) (fun p e s m below meth c C F => ?_)
  have hv := lv_entry ([.ref r0, .ref r1, .ref r2]) (n := 3) (Nat.le_of_ble_eq_true rfl)
  rw [lg_entry_eq]
  generalize (lg_sl ([.ref r0, .ref r1, .ref r2]) ++ List.replicate (3 - (lg_sl ([.ref r0, .ref r1, .ref r2])).length) Slot.unset).toArray = ls at hv ⊢
  have hv : lv_has ls 3 [(0, .ref r0), (1, .ref r1), (2, .ref r2)] := hv
  exact b_Kdf_init_0 C hl _ _ _ _ hw _ _ _ _ _ hv F
/-! ChainJudge$KeyedMarks.<init>()V: frames 3, words 43 -/
abbrev y_KM_init : MethodName := ⟨"ChainJudge$KeyedMarks", "<init>", "()V"⟩
theorem lf_KM_15 : fx_Lk "ChainJudge$KeyedMarks" 15 3 0 := fx_Lk.mk (C := "ChainJudge$KeyedMarks") (T := fx_T3) (N := 2) rfl (by decide) (by decide) (fx_m1 (List.mem_of_getElem? (i := 152) rfl))
theorem lf_KM_21 : fx_Lk "ChainJudge$KeyedMarks" 21 3 1 := fx_Lk.mk (C := "ChainJudge$KeyedMarks") (T := fx_T3) (N := 2) rfl (by decide) (by decide) (fx_m1 (List.mem_of_getElem? (i := 153) rfl))
theorem lm_KM_11 : Cond.methodLink "ChainJudge$KeyedMarks" 11 y_Sha_init ∈ tables_1 ∨ ∃ host, Cond.methodLinkNest "ChainJudge$KeyedMarks" 11 y_Sha_init host ∈ tables_1 := Or.inl (fx_m1 (List.mem_of_getElem? (i := 94) rfl))
theorem lm_KM_12 : Cond.methodLink "ChainJudge$KeyedMarks" 12 y_Kdf_init ∈ tables_1 ∨ ∃ host, Cond.methodLinkNest "ChainJudge$KeyedMarks" 12 y_Kdf_init host ∈ tables_1 := Or.inl (fx_m1 (List.mem_of_getElem? (i := 129) rfl))
section
variable {p : Program} {l : Launch} {e : Env} {R : Room} {s : State} {m : MethodId} {args : Array Value} {below : List Frame} {meth : Method} {c : Code} {H : Heap} {locs : List Loc} {cells slots : Nat}
variable {D : DD} {y : MethodName} {cc : ByteArray} {nL kf kw : Nat} {ret : Option FieldType} {hh : List (Nat × Nat × Nat × Nat)} {h0 h : AH} {pc : Nat} {ls : Array Slot} {rest : List Value} {b idx : Nat}
theorem iv_Kdf_init {r1 : Nat} {r2 : Nat} (C : fx_CX D y cc nL kf kw ret hh h0 p R s m meth c) (F : fx_F D h0 h H locs cells slots) (hw1 : Cond.methodLink y.cls idx y_Kdf_init ∈ tables_1 ∨ ∃ host, Cond.methodLinkNest y.cls idx y_Kdf_init host ∈ tables_1) (hd : decode cc pc = .ok (.invokespecial idx, 3)) : fx_IV p l e R s m args below meth c H locs cells slots (F0 m pc ls (.ref r2 :: .ref r1 :: .ref b :: rest)) rest y_Kdf_init [.ref b, .ref r1, .ref r2] 3 := fun T hT X => fx_invI (As := [.ref r1, .ref r2]) C X hw1 (fx_m1 (List.mem_of_getElem? (i := 130) rfl)) hm_Kdf_init ⟨by decide, by decide⟩ rfl rfl (n := 2) (by decide +kernel) rfl rfl hd
theorem iv_Sha_init (C : fx_CX D y cc nL kf kw ret hh h0 p R s m meth c) (F : fx_F D h0 h H locs cells slots) (hw1 : Cond.methodLink y.cls idx y_Sha_init ∈ tables_1 ∨ ∃ host, Cond.methodLinkNest y.cls idx y_Sha_init host ∈ tables_1) (hd : decode cc pc = .ok (.invokespecial idx, 3)) : fx_IV p l e R s m args below meth c H locs cells slots (F0 m pc ls (.ref b :: rest)) rest y_Sha_init [.ref b] 3 := fun T hT X => fx_invI (As := []) C X hw1 (fx_m1 (List.mem_of_getElem? (i := 95) rfl)) hm_Sha_init ⟨by decide, by decide⟩ rfl rfl (n := 0) (by decide +kernel) rfl rfl hd
end
def dl_KM_init : List (Nat × Instr × Nat) := [(0, .aload_n 0, 1), (1, .invokespecial 1, 3), (4, .aload_n 0, 1), (5, .new 7, 3), (8, .dup, 1), (9, .new 9, 3), (12, .dup, 1), (13, .invokespecial 11, 3), (16, .new 9, 3), (19, .dup, 1), (20, .invokespecial 11, 3), (23, .invokespecial 12, 3), (26, .putfield 15, 3), (29, .aload_n 0, 1), (30, .bipush 32, 2), (32, .newarray .byte, 2), (34, .putfield 21, 3), (37, .return_, 1)]
theorem dk_KM_init : fx_dec prog_7_method_1_code dl_KM_init = true := by decide +kernel
theorem d_KM_init_0 : decode prog_7_method_1_code 0 = .ok (.aload_n 0, 1) := fx_dat dk_KM_init 0 rfl
theorem d_KM_init_1 : decode prog_7_method_1_code 1 = .ok (.invokespecial 1, 3) := fx_dat dk_KM_init 1 rfl
theorem d_KM_init_4 : decode prog_7_method_1_code 4 = .ok (.aload_n 0, 1) := fx_dat dk_KM_init 2 rfl
theorem d_KM_init_5 : decode prog_7_method_1_code 5 = .ok (.new 7, 3) := fx_dat dk_KM_init 3 rfl
theorem d_KM_init_8 : decode prog_7_method_1_code 8 = .ok (.dup, 1) := fx_dat dk_KM_init 4 rfl
theorem d_KM_init_9 : decode prog_7_method_1_code 9 = .ok (.new 9, 3) := fx_dat dk_KM_init 5 rfl
theorem d_KM_init_12 : decode prog_7_method_1_code 12 = .ok (.dup, 1) := fx_dat dk_KM_init 6 rfl
theorem d_KM_init_13 : decode prog_7_method_1_code 13 = .ok (.invokespecial 11, 3) := fx_dat dk_KM_init 7 rfl
theorem d_KM_init_16 : decode prog_7_method_1_code 16 = .ok (.new 9, 3) := fx_dat dk_KM_init 8 rfl
theorem d_KM_init_19 : decode prog_7_method_1_code 19 = .ok (.dup, 1) := fx_dat dk_KM_init 9 rfl
theorem d_KM_init_20 : decode prog_7_method_1_code 20 = .ok (.invokespecial 11, 3) := fx_dat dk_KM_init 10 rfl
theorem d_KM_init_23 : decode prog_7_method_1_code 23 = .ok (.invokespecial 12, 3) := fx_dat dk_KM_init 11 rfl
theorem d_KM_init_26 : decode prog_7_method_1_code 26 = .ok (.putfield 15, 3) := fx_dat dk_KM_init 12 rfl
theorem d_KM_init_29 : decode prog_7_method_1_code 29 = .ok (.aload_n 0, 1) := fx_dat dk_KM_init 13 rfl
theorem d_KM_init_30 : decode prog_7_method_1_code 30 = .ok (.bipush 32, 2) := fx_dat dk_KM_init 14 rfl
theorem d_KM_init_32 : decode prog_7_method_1_code 32 = .ok (.newarray .byte, 2) := fx_dat dk_KM_init 15 rfl
theorem d_KM_init_34 : decode prog_7_method_1_code 34 = .ok (.putfield 21, 3) := fx_dat dk_KM_init 16 rfl
theorem d_KM_init_37 : decode prog_7_method_1_code 37 = .ok (.return_, 1) := fx_dat dk_KM_init 17 rfl
def m_KM_init (Q : AH → Prop) (r0 : Nat) (h : AH) : Prop := fx_has h 6 ∧ ∀ (_ : fx_wf h) (q1 : Nat), q1 = hp_z h → ∀ h1 : AH, h1 = up_N h 5 0 6 → fx_has h1 8 ∧ ∀ (_ : fx_wf h1) (q2 : Nat), q2 = hp_z h1 → ∀ h2 : AH, h2 = up_N h1 6 0 8 → m_Sha_init (fun h3 => fx_ext h2 h3 → fx_has h3 8 ∧ ∀ (_ : fx_wf h3) (q3 : Nat), q3 = hp_z h3 → ∀ h4 : AH, h4 = up_N h3 6 0 8 → m_Sha_init (fun h5 => fx_ext h4 h5 → m_Kdf_init (fun h6 => fx_ext h5 h6 → hp_k h6 r0 = 4 ∧ ∀ h7 : AH, h7 = up_R h6 r0 0 (some q1) → fx_has h7 32 ∧ ∀ (_ : fx_wf h7) (q4 : Nat), q4 = hp_z h7 → ∀ h8 : AH, h8 = up_N h7 101 32 32 → ∀ h9 : AH, h9 = up_R h8 r0 1 (some q4) → Q h9) q1 q2 q3 h5) q3 h4) q2 h2
theorem b_KM_init_0 {p : Program} {l : Launch} {e : Env} {R : Room} {s : State} {m : MethodId} {args : Array Value} {below : List Frame} {meth : Method} {c : Code} {D : DD} {h0 : AH} {Q : AH → Prop} (C : fx_CX D y_KM_init prog_7_method_1_code 1 3 43 (none) [] h0 p R s m meth c) (hl : l.flags = flags0) (r0 : Nat) (h : AH) (hw : m_KM_init Q r0 h) : ∀ (ls : Array Slot) (H : Heap) (locs : List Loc) (cells slots : Nat), lv_has ls 1 [(0, .ref r0)] → fx_F D h0 h H locs cells slots → W p l e R s m args below meth c H locs cells slots (fx_Z D below s h0 (fx_oV Q fx_no)) (F0 m 0 ls []) := by
  unfold m_KM_init at hw
  intro ls H locs cells slots hv F
  refine lv_aload_n C.ex C.by d_KM_init_0 rfl (lv_at hv 0 rfl) ?_
  refine fx_objI C (fx_m1 (List.mem_of_getElem? (i := 89) rfl)) (fx_m1 (List.mem_of_getElem? (i := 38) rfl)) (fx_m1 (List.mem_of_getElem? (i := 39) rfl)) hv.1 d_KM_init_1 (by decide) (Nat.le_of_ble_eq_true rfl) ?_
  refine lv_aload_n C.ex C.by d_KM_init_4 rfl (lv_at hv 0 rfl) ?_
  obtain ⟨hs, hw⟩ := hw
  let q1 : Nat := hp_z h
  let h1 : AH := up_N h 5 0 6
  replace hw := hw F.wf q1 rfl h1 rfl
  have hkq1 : hp_k h1 q1 = 5 := fx_nk _ _ _ _
  refine fx_new (ci := 4) (r := ("ChainJudge$Kdf", fx_T4, 6)) C F rfl (fx_m1 (List.mem_of_getElem? (i := 90) rfl)) (fx_m1 (List.mem_of_getElem? (i := 91) rfl)) (fx_m1 (List.mem_of_getElem? (i := 7) rfl)) hs d_KM_init_5 (fun H cells slots (F : fx_F D h0 h1 H locs cells slots) => ?_)
  refine lv_dup C.ex C.by d_KM_init_8 rfl ?_
  obtain ⟨hs, hw⟩ := hw
  let q2 : Nat := hp_z h1
  let h2 : AH := up_N h1 6 0 8
  replace hw := hw F.wf q2 rfl h2 rfl
  have hkq1 := (F.xN (k := 6) (n := 0) (m := 8)).k hkq1
  have hkq2 : hp_k h2 q2 = 6 := fx_nk _ _ _ _
  refine fx_new (ci := 5) (r := ("ChainJudge$Sha256", fx_T5, 8)) C F rfl (fx_m1 (List.mem_of_getElem? (i := 92) rfl)) (fx_m1 (List.mem_of_getElem? (i := 93) rfl)) (fx_m1 (List.mem_of_getElem? (i := 9) rfl)) hs d_KM_init_9 (fun H cells slots (F : fx_F D h0 h2 H locs cells slots) => ?_)
  refine lv_dup C.ex C.by d_KM_init_12 rfl ?_
  refine fx_callV C F (c_Sha_init hl hw) hm_Sha_init hi_Sha_init hv.1 (by decide) (Nat.le_of_ble_eq_true rfl) (iv_Sha_init C F lm_KM_11 d_KM_init_13) (fx_out0 _) fx_eno (fun h3 H locs cells slots hw hx1 F => ?_)
  replace hw := hw hx1
  have hkq1 := (hx1).k hkq1
  have hkq2 := (hx1).k hkq2
  obtain ⟨hs, hw⟩ := hw
  let q3 : Nat := hp_z h3
  let h4 : AH := up_N h3 6 0 8
  replace hw := hw F.wf q3 rfl h4 rfl
  have hkq1 := (F.xN (k := 6) (n := 0) (m := 8)).k hkq1
  have hkq2 := (F.xN (k := 6) (n := 0) (m := 8)).k hkq2
  have hkq3 : hp_k h4 q3 = 6 := fx_nk _ _ _ _
  refine fx_new (ci := 5) (r := ("ChainJudge$Sha256", fx_T5, 8)) C F rfl (fx_m1 (List.mem_of_getElem? (i := 92) rfl)) (fx_m1 (List.mem_of_getElem? (i := 93) rfl)) (fx_m1 (List.mem_of_getElem? (i := 9) rfl)) hs d_KM_init_16 (fun H cells slots (F : fx_F D h0 h4 H locs cells slots) => ?_)
  refine lv_dup C.ex C.by d_KM_init_19 rfl ?_
  refine fx_callV C F (c_Sha_init hl hw) hm_Sha_init hi_Sha_init hv.1 (by decide) (Nat.le_of_ble_eq_true rfl) (iv_Sha_init C F lm_KM_11 d_KM_init_20) (fx_out0 _) fx_eno (fun h5 H locs cells slots hw hx2 F => ?_)
  replace hw := hw hx2
  have hkq1 := (hx2).k hkq1
  have hkq2 := (hx2).k hkq2
  have hkq3 := (hx2).k hkq3
  refine fx_callV C F (c_Kdf_init hl hw) hm_Kdf_init hi_Kdf_init hv.1 (by decide) (Nat.le_of_ble_eq_true rfl) (iv_Kdf_init C F lm_KM_12 d_KM_init_23) (fx_out0 _) fx_eno (fun h6 H locs cells slots hw hx3 F => ?_)
  replace hw := hw hx3
  have hkq1 := (hx3).k hkq1
  have hkq2 := (hx3).k hkq2
  have hkq3 := (hx3).k hkq3
  obtain ⟨hk1, hw⟩ := hw
  let h7 : AH := up_R h6 r0 0 (some q1)
  replace hw := hw h7 rfl
  refine fx_putR C F lf_KM_15 hk1 rfl rfl (fx_mayF.ini rfl rfl rfl) d_KM_init_26 (fun H locs (F : fx_F D h0 h7 H locs _ _) => ?_)
  refine lv_aload_n C.ex C.by d_KM_init_29 rfl (lv_at hv 0 rfl) ?_
  refine lv_bipush (v := (32 : Int32)) C.ex C.by d_KM_init_30 (by decide) ?_
  obtain ⟨hs, hw⟩ := hw
  let q4 : Nat := hp_z h7
  let h8 : AH := up_N h7 101 32 32
  replace hw := hw F.wf q4 rfl h8 rfl
  have hkq1 := (F.xN (k := 101) (n := 32) (m := 32)).k hkq1
  have hkq2 := (F.xN (k := 101) (n := 32) (m := 32)).k hkq2
  have hkq3 := (F.xN (k := 101) (n := 32) (m := 32)).k hkq3
  have hk1 := (F.xN (k := 101) (n := 32) (m := 32)).k hk1
  have hkq4 : hp_k h8 q4 = 101 := fx_nk _ _ _ _
  refine fx_newaB (n := (32 : Int32)) C F (fx_m1 (List.mem_of_getElem? (i := 55) rfl)) (by decide) (by decide) hs d_KM_init_32 (fun H cells slots (F : fx_F D h0 h8 H locs cells slots) => ?_)
  let h9 : AH := up_R h8 r0 1 (some q4)
  replace hw := hw h9 rfl
  refine fx_putR C F lf_KM_21 hk1 rfl rfl (fx_mayF.ini rfl rfl rfl) d_KM_init_34 (fun H locs (F : fx_F D h0 h9 H locs _ _) => ?_)
  exact fx_vret C F d_KM_init_37 (Or.inl ⟨rfl, hw⟩)
theorem hm_KM_init : fx_hd y_KM_init prog_7_method_1_code 1 (none) [] ∈ tables_1 := (fx_m1 (List.mem_of_getElem? (i := 88) rfl))
theorem hi_KM_init : Cond.initialized y_KM_init.cls ∈ tables_1 := (fx_m1 (List.mem_of_getElem? (i := 6) rfl))
theorem c_KM_init {l : Launch} (hl : l.flags = flags0) {D : DD} {Q : AH → Prop} {r0 : Nat} {h : AH} (hw : m_KM_init Q r0 h) : fx_Mt l D y_KM_init (fx_hd y_KM_init prog_7_method_1_code 1 (none) []) 3 43 [.ref r0] h (fx_oV Q fx_no) := by
  refine fx_ofW (plainFor_of_name (by decide)) (fun p e s m below meth c C F => ?_)
  have hv := lv_entry ([.ref r0]) (n := 1) (Nat.le_of_ble_eq_true rfl)
  rw [lg_entry_eq]
  generalize (lg_sl ([.ref r0]) ++ List.replicate (1 - (lg_sl ([.ref r0])).length) Slot.unset).toArray = ls at hv ⊢
  have hv : lv_has ls 1 [(0, .ref r0)] := hv
  exact b_KM_init_0 C hl _ _ hw _ _ _ _ _ hv F
/-! ChainJudge$Paths.<init>(LChainJudge$Marks;)V: frames 4, words 50 -/
abbrev y_Paths_init : MethodName := ⟨"ChainJudge$Paths", "<init>", "(LChainJudge$Marks;)V"⟩
theorem lf_Paths_10 : fx_Lk "ChainJudge$Paths" 10 6 1 := fx_Lk.mk (C := "ChainJudge$Paths") (T := fx_T6) (N := 8) rfl (by decide) (by decide) (fx_m1 (List.mem_of_getElem? (i := 168) rfl))
theorem lf_Paths_16 : fx_Lk "ChainJudge$Paths" 16 6 2 := fx_Lk.mk (C := "ChainJudge$Paths") (T := fx_T6) (N := 8) rfl (by decide) (by decide) (fx_m1 (List.mem_of_getElem? (i := 169) rfl))
theorem lf_Paths_19 : fx_Lk "ChainJudge$Paths" 19 6 3 := fx_Lk.mk (C := "ChainJudge$Paths") (T := fx_T6) (N := 8) rfl (by decide) (by decide) (fx_m1 (List.mem_of_getElem? (i := 171) rfl))
theorem lf_Paths_23 : fx_Lk "ChainJudge$Paths" 23 6 4 := fx_Lk.mk (C := "ChainJudge$Paths") (T := fx_T6) (N := 8) rfl (by decide) (by decide) (fx_m1 (List.mem_of_getElem? (i := 172) rfl))
theorem lf_Paths_27 : fx_Lk "ChainJudge$Paths" 27 6 5 := fx_Lk.mk (C := "ChainJudge$Paths") (T := fx_T6) (N := 8) rfl (by decide) (by decide) (fx_m1 (List.mem_of_getElem? (i := 173) rfl))
theorem lf_Paths_31 : fx_Lk "ChainJudge$Paths" 31 6 6 := fx_Lk.mk (C := "ChainJudge$Paths") (T := fx_T6) (N := 8) rfl (by decide) (by decide) (fx_m1 (List.mem_of_getElem? (i := 175) rfl))
theorem lf_Paths_34 : fx_Lk "ChainJudge$Paths" 34 6 7 := fx_Lk.mk (C := "ChainJudge$Paths") (T := fx_T6) (N := 8) rfl (by decide) (by decide) (fx_m1 (List.mem_of_getElem? (i := 177) rfl))
theorem lf_Paths_38 : fx_Lk "ChainJudge$Paths" 38 6 0 := fx_Lk.mk (C := "ChainJudge$Paths") (T := fx_T6) (N := 8) rfl (by decide) (by decide) (fx_m1 (List.mem_of_getElem? (i := 167) rfl))
theorem lm_Paths_9 : Cond.methodLink "ChainJudge$Paths" 9 y_AL_init ∈ tables_1 ∨ ∃ host, Cond.methodLinkNest "ChainJudge$Paths" 9 y_AL_init host ∈ tables_1 := Or.inl (fx_m1 (List.mem_of_getElem? (i := 166) rfl))
section
variable {p : Program} {l : Launch} {e : Env} {R : Room} {s : State} {m : MethodId} {args : Array Value} {below : List Frame} {meth : Method} {c : Code} {H : Heap} {locs : List Loc} {cells slots : Nat}
variable {D : DD} {y : MethodName} {cc : ByteArray} {nL kf kw : Nat} {ret : Option FieldType} {hh : List (Nat × Nat × Nat × Nat)} {h0 h : AH} {pc : Nat} {ls : Array Slot} {rest : List Value} {b idx : Nat}
theorem iv_AL_init (C : fx_CX D y cc nL kf kw ret hh h0 p R s m meth c) (F : fx_F D h0 h H locs cells slots) (hw1 : Cond.methodLink y.cls idx y_AL_init ∈ tables_1 ∨ ∃ host, Cond.methodLinkNest y.cls idx y_AL_init host ∈ tables_1) (hd : decode cc pc = .ok (.invokespecial idx, 3)) : fx_IV p l e R s m args below meth c H locs cells slots (F0 m pc ls (.ref b :: rest)) rest y_AL_init [.ref b] 3 := fun T hT X => fx_invI (As := []) C X hw1 (fx_m1 (List.mem_of_getElem? (i := 61) rfl)) hm_AL_init ⟨by decide, by decide⟩ rfl rfl (n := 0) (by decide +kernel) rfl rfl hd
end
def dl_Paths_init : List (Nat × Instr × Nat) := [(0, .aload_n 0, 1), (1, .invokespecial 1, 3), (4, .aload_n 0, 1), (5, .new 7, 3), (8, .dup, 1), (9, .invokespecial 9, 3), (12, .putfield 10, 3), (15, .aload_n 0, 1), (16, .new 7, 3), (19, .dup, 1), (20, .invokespecial 9, 3), (23, .putfield 16, 3), (26, .aload_n 0, 1), (27, .iconst 0, 1), (28, .putfield 19, 3), (31, .aload_n 0, 1), (32, .iconst 0, 1), (33, .putfield 23, 3), (36, .aload_n 0, 1), (37, .bipush 8, 2), (39, .newarray .int, 2), (41, .putfield 27, 3), (44, .aload_n 0, 1), (45, .iconst 0, 1), (46, .putfield 31, 3), (49, .aload_n 0, 1), (50, .aconst_null, 1), (51, .putfield 34, 3), (54, .aload_n 0, 1), (55, .aload_n 1, 1), (56, .putfield 38, 3), (59, .return_, 1)]
theorem dk_Paths_init : fx_dec prog_9_method_1_code dl_Paths_init = true := by decide +kernel
theorem d_Paths_init_0 : decode prog_9_method_1_code 0 = .ok (.aload_n 0, 1) := fx_dat dk_Paths_init 0 rfl
theorem d_Paths_init_1 : decode prog_9_method_1_code 1 = .ok (.invokespecial 1, 3) := fx_dat dk_Paths_init 1 rfl
theorem d_Paths_init_4 : decode prog_9_method_1_code 4 = .ok (.aload_n 0, 1) := fx_dat dk_Paths_init 2 rfl
theorem d_Paths_init_5 : decode prog_9_method_1_code 5 = .ok (.new 7, 3) := fx_dat dk_Paths_init 3 rfl
theorem d_Paths_init_8 : decode prog_9_method_1_code 8 = .ok (.dup, 1) := fx_dat dk_Paths_init 4 rfl
theorem d_Paths_init_9 : decode prog_9_method_1_code 9 = .ok (.invokespecial 9, 3) := fx_dat dk_Paths_init 5 rfl
theorem d_Paths_init_12 : decode prog_9_method_1_code 12 = .ok (.putfield 10, 3) := fx_dat dk_Paths_init 6 rfl
theorem d_Paths_init_15 : decode prog_9_method_1_code 15 = .ok (.aload_n 0, 1) := fx_dat dk_Paths_init 7 rfl
theorem d_Paths_init_16 : decode prog_9_method_1_code 16 = .ok (.new 7, 3) := fx_dat dk_Paths_init 8 rfl
theorem d_Paths_init_19 : decode prog_9_method_1_code 19 = .ok (.dup, 1) := fx_dat dk_Paths_init 9 rfl
theorem d_Paths_init_20 : decode prog_9_method_1_code 20 = .ok (.invokespecial 9, 3) := fx_dat dk_Paths_init 10 rfl
theorem d_Paths_init_23 : decode prog_9_method_1_code 23 = .ok (.putfield 16, 3) := fx_dat dk_Paths_init 11 rfl
theorem d_Paths_init_26 : decode prog_9_method_1_code 26 = .ok (.aload_n 0, 1) := fx_dat dk_Paths_init 12 rfl
theorem d_Paths_init_27 : decode prog_9_method_1_code 27 = .ok (.iconst 0, 1) := fx_dat dk_Paths_init 13 rfl
theorem d_Paths_init_28 : decode prog_9_method_1_code 28 = .ok (.putfield 19, 3) := fx_dat dk_Paths_init 14 rfl
theorem d_Paths_init_31 : decode prog_9_method_1_code 31 = .ok (.aload_n 0, 1) := fx_dat dk_Paths_init 15 rfl
theorem d_Paths_init_32 : decode prog_9_method_1_code 32 = .ok (.iconst 0, 1) := fx_dat dk_Paths_init 16 rfl
theorem d_Paths_init_33 : decode prog_9_method_1_code 33 = .ok (.putfield 23, 3) := fx_dat dk_Paths_init 17 rfl
theorem d_Paths_init_36 : decode prog_9_method_1_code 36 = .ok (.aload_n 0, 1) := fx_dat dk_Paths_init 18 rfl
theorem d_Paths_init_37 : decode prog_9_method_1_code 37 = .ok (.bipush 8, 2) := fx_dat dk_Paths_init 19 rfl
theorem d_Paths_init_39 : decode prog_9_method_1_code 39 = .ok (.newarray .int, 2) := fx_dat dk_Paths_init 20 rfl
theorem d_Paths_init_41 : decode prog_9_method_1_code 41 = .ok (.putfield 27, 3) := fx_dat dk_Paths_init 21 rfl
theorem d_Paths_init_44 : decode prog_9_method_1_code 44 = .ok (.aload_n 0, 1) := fx_dat dk_Paths_init 22 rfl
theorem d_Paths_init_45 : decode prog_9_method_1_code 45 = .ok (.iconst 0, 1) := fx_dat dk_Paths_init 23 rfl
theorem d_Paths_init_46 : decode prog_9_method_1_code 46 = .ok (.putfield 31, 3) := fx_dat dk_Paths_init 24 rfl
theorem d_Paths_init_49 : decode prog_9_method_1_code 49 = .ok (.aload_n 0, 1) := fx_dat dk_Paths_init 25 rfl
theorem d_Paths_init_50 : decode prog_9_method_1_code 50 = .ok (.aconst_null, 1) := fx_dat dk_Paths_init 26 rfl
theorem d_Paths_init_51 : decode prog_9_method_1_code 51 = .ok (.putfield 34, 3) := fx_dat dk_Paths_init 27 rfl
theorem d_Paths_init_54 : decode prog_9_method_1_code 54 = .ok (.aload_n 0, 1) := fx_dat dk_Paths_init 28 rfl
theorem d_Paths_init_55 : decode prog_9_method_1_code 55 = .ok (.aload_n 1, 1) := fx_dat dk_Paths_init 29 rfl
theorem d_Paths_init_56 : decode prog_9_method_1_code 56 = .ok (.putfield 38, 3) := fx_dat dk_Paths_init 30 rfl
theorem d_Paths_init_59 : decode prog_9_method_1_code 59 = .ok (.return_, 1) := fx_dat dk_Paths_init 31 rfl
def m_Paths_init (Q : AH → Prop) (r0 : Nat) (r1 : Nat) (h : AH) : Prop := fx_has h 3 ∧ ∀ (_ : fx_wf h) (q1 : Nat), q1 = hp_z h → ∀ h1 : AH, h1 = up_N h 12 0 3 → m_AL_init (fun h2 => fx_ext h1 h2 → hp_k h2 r0 = 7 ∧ ∀ h3 : AH, h3 = up_R h2 r0 1 (some q1) → fx_has h3 3 ∧ ∀ (_ : fx_wf h3) (q2 : Nat), q2 = hp_z h3 → ∀ h4 : AH, h4 = up_N h3 12 0 3 → m_AL_init (fun h5 => fx_ext h4 h5 → ∀ h6 : AH, h6 = up_R h5 r0 2 (some q2) → ∀ h7 : AH, h7 = up_I h6 r0 3 (0 : Int32) → ∀ h8 : AH, h8 = up_I h7 r0 4 (0 : Int32) → fx_has h8 8 ∧ ∀ (_ : fx_wf h8) (q3 : Nat), q3 = hp_z h8 → ∀ h9 : AH, h9 = up_N h8 102 8 8 → ∀ h10 : AH, h10 = up_R h9 r0 5 (some q3) → ∀ h11 : AH, h11 = up_I h10 r0 6 (0 : Int32) → ∀ h12 : AH, h12 = up_R h11 r0 7 none → ∀ h13 : AH, h13 = up_R h12 r0 0 (some r1) → Q h13) q2 h4) q1 h1
theorem b_Paths_init_0 {p : Program} {l : Launch} {e : Env} {R : Room} {s : State} {m : MethodId} {args : Array Value} {below : List Frame} {meth : Method} {c : Code} {D : DD} {h0 : AH} {Q : AH → Prop} (C : fx_CX D y_Paths_init prog_9_method_1_code 2 4 50 (none) [] h0 p R s m meth c) (hl : l.flags = flags0) (r0 : Nat) (r1 : Nat) (h : AH) (hw : m_Paths_init Q r0 r1 h) : ∀ (ls : Array Slot) (H : Heap) (locs : List Loc) (cells slots : Nat), lv_has ls 2 [(0, .ref r0), (1, .ref r1)] → fx_F D h0 h H locs cells slots → W p l e R s m args below meth c H locs cells slots (fx_Z D below s h0 (fx_oV Q fx_no)) (F0 m 0 ls []) := by
  unfold m_Paths_init at hw
  intro ls H locs cells slots hv F
  refine lv_aload_n C.ex C.by d_Paths_init_0 rfl (lv_at hv 0 rfl) ?_
  refine fx_objI C (fx_m1 (List.mem_of_getElem? (i := 164) rfl)) (fx_m1 (List.mem_of_getElem? (i := 38) rfl)) (fx_m1 (List.mem_of_getElem? (i := 39) rfl)) hv.1 d_Paths_init_1 (by decide) (Nat.le_of_ble_eq_true rfl) ?_
  refine lv_aload_n C.ex C.by d_Paths_init_4 rfl (lv_at hv 0 rfl) ?_
  obtain ⟨hs, hw⟩ := hw
  let q1 : Nat := hp_z h
  let h1 : AH := up_N h 12 0 3
  replace hw := hw F.wf q1 rfl h1 rfl
  have hkq1 : hp_k h1 q1 = 12 := fx_nk _ _ _ _
  refine fx_new (ci := 11) (r := ("java/util/ArrayList", fx_T11, 3)) C F rfl (fx_m1 (List.mem_of_getElem? (i := 165) rfl)) (fx_m1 (List.mem_of_getElem? (i := 59) rfl)) (fx_m1 (List.mem_of_getElem? (i := 5) rfl)) hs d_Paths_init_5 (fun H cells slots (F : fx_F D h0 h1 H locs cells slots) => ?_)
  refine lv_dup C.ex C.by d_Paths_init_8 rfl ?_
  refine fx_callV C F (c_AL_init hl hw) hm_AL_init hi_AL_init hv.1 (by decide) (Nat.le_of_ble_eq_true rfl) (iv_AL_init C F lm_Paths_9 d_Paths_init_9) (fx_out0 _) fx_eno (fun h2 H locs cells slots hw hx1 F => ?_)
  replace hw := hw hx1
  have hkq1 := (hx1).k hkq1
  obtain ⟨hk1, hw⟩ := hw
  let h3 : AH := up_R h2 r0 1 (some q1)
  replace hw := hw h3 rfl
  refine fx_putR C F lf_Paths_10 hk1 rfl rfl (fx_mayF.ini rfl rfl rfl) d_Paths_init_12 (fun H locs (F : fx_F D h0 h3 H locs _ _) => ?_)
  refine lv_aload_n C.ex C.by d_Paths_init_15 rfl (lv_at hv 0 rfl) ?_
  obtain ⟨hs, hw⟩ := hw
  let q2 : Nat := hp_z h3
  let h4 : AH := up_N h3 12 0 3
  replace hw := hw F.wf q2 rfl h4 rfl
  have hkq1 := (F.xN (k := 12) (n := 0) (m := 3)).k hkq1
  have hk1 := (F.xN (k := 12) (n := 0) (m := 3)).k hk1
  have hkq2 : hp_k h4 q2 = 12 := fx_nk _ _ _ _
  refine fx_new (ci := 11) (r := ("java/util/ArrayList", fx_T11, 3)) C F rfl (fx_m1 (List.mem_of_getElem? (i := 165) rfl)) (fx_m1 (List.mem_of_getElem? (i := 59) rfl)) (fx_m1 (List.mem_of_getElem? (i := 5) rfl)) hs d_Paths_init_16 (fun H cells slots (F : fx_F D h0 h4 H locs cells slots) => ?_)
  refine lv_dup C.ex C.by d_Paths_init_19 rfl ?_
  refine fx_callV C F (c_AL_init hl hw) hm_AL_init hi_AL_init hv.1 (by decide) (Nat.le_of_ble_eq_true rfl) (iv_AL_init C F lm_Paths_9 d_Paths_init_20) (fx_out0 _) fx_eno (fun h5 H locs cells slots hw hx2 F => ?_)
  replace hw := hw hx2
  have hkq1 := (hx2).k hkq1
  have hkq2 := (hx2).k hkq2
  have hk1 := (hx2).k hk1
  let h6 : AH := up_R h5 r0 2 (some q2)
  replace hw := hw h6 rfl
  refine fx_putR C F lf_Paths_16 hk1 rfl rfl (fx_mayF.ini rfl rfl rfl) d_Paths_init_23 (fun H locs (F : fx_F D h0 h6 H locs _ _) => ?_)
  refine lv_aload_n C.ex C.by d_Paths_init_26 rfl (lv_at hv 0 rfl) ?_
  refine lv_iconst (v := (0 : Int32)) C.ex C.by d_Paths_init_27 (by decide) ?_
  let h7 : AH := up_I h6 r0 3 (0 : Int32)
  replace hw := hw h7 rfl
  refine fx_putI C F lf_Paths_19 hk1 rfl rfl (fx_mayF.no rfl rfl) d_Paths_init_28 (fun H locs (F : fx_F D h0 h7 H locs _ _) => ?_)
  refine lv_aload_n C.ex C.by d_Paths_init_31 rfl (lv_at hv 0 rfl) ?_
  refine lv_iconst (v := (0 : Int32)) C.ex C.by d_Paths_init_32 (by decide) ?_
  let h8 : AH := up_I h7 r0 4 (0 : Int32)
  replace hw := hw h8 rfl
  refine fx_putZ C F lf_Paths_23 hk1 rfl rfl (Or.inl rfl) (fx_mayF.no rfl rfl) d_Paths_init_33 (fun H locs (F : fx_F D h0 h8 H locs _ _) => ?_)
  refine lv_aload_n C.ex C.by d_Paths_init_36 rfl (lv_at hv 0 rfl) ?_
  refine lv_bipush (v := (8 : Int32)) C.ex C.by d_Paths_init_37 (by decide) ?_
  obtain ⟨hs, hw⟩ := hw
  let q3 : Nat := hp_z h8
  let h9 : AH := up_N h8 102 8 8
  replace hw := hw F.wf q3 rfl h9 rfl
  have hkq1 := (F.xN (k := 102) (n := 8) (m := 8)).k hkq1
  have hkq2 := (F.xN (k := 102) (n := 8) (m := 8)).k hkq2
  have hk1 := (F.xN (k := 102) (n := 8) (m := 8)).k hk1
  have hkq3 : hp_k h9 q3 = 102 := fx_nk _ _ _ _
  refine fx_newaI (n := (8 : Int32)) C F (fx_m1 (List.mem_of_getElem? (i := 128) rfl)) (by decide) (by decide) hs d_Paths_init_39 (fun H cells slots (F : fx_F D h0 h9 H locs cells slots) => ?_)
  let h10 : AH := up_R h9 r0 5 (some q3)
  replace hw := hw h10 rfl
  refine fx_putR C F lf_Paths_27 hk1 rfl rfl (fx_mayF.ini rfl rfl rfl) d_Paths_init_41 (fun H locs (F : fx_F D h0 h10 H locs _ _) => ?_)
  refine lv_aload_n C.ex C.by d_Paths_init_44 rfl (lv_at hv 0 rfl) ?_
  refine lv_iconst (v := (0 : Int32)) C.ex C.by d_Paths_init_45 (by decide) ?_
  let h11 : AH := up_I h10 r0 6 (0 : Int32)
  replace hw := hw h11 rfl
  refine fx_putI C F lf_Paths_31 hk1 rfl rfl (fx_mayF.no rfl rfl) d_Paths_init_46 (fun H locs (F : fx_F D h0 h11 H locs _ _) => ?_)
  refine lv_aload_n C.ex C.by d_Paths_init_49 rfl (lv_at hv 0 rfl) ?_
  refine lv_null C.ex C.by d_Paths_init_50 ?_
  let h12 : AH := up_R h11 r0 7 none
  replace hw := hw h12 rfl
  refine fx_putN C F lf_Paths_34 hk1 rfl rfl (fx_mayF.no rfl rfl) d_Paths_init_51 (fun H locs (F : fx_F D h0 h12 H locs _ _) => ?_)
  refine lv_aload_n C.ex C.by d_Paths_init_54 rfl (lv_at hv 0 rfl) ?_
  refine lv_aload_n C.ex C.by d_Paths_init_55 rfl (lv_at hv 1 rfl) ?_
  let h13 : AH := up_R h12 r0 0 (some r1)
  replace hw := hw h13 rfl
  refine fx_putR C F lf_Paths_38 hk1 rfl rfl (fx_mayF.ini rfl rfl rfl) d_Paths_init_56 (fun H locs (F : fx_F D h0 h13 H locs _ _) => ?_)
  exact fx_vret C F d_Paths_init_59 (Or.inl ⟨rfl, hw⟩)
theorem hm_Paths_init : fx_hd y_Paths_init prog_9_method_1_code 2 (none) [] ∈ tables_1 := (fx_m1 (List.mem_of_getElem? (i := 163) rfl))
theorem hi_Paths_init : Cond.initialized y_Paths_init.cls ∈ tables_1 := (fx_m1 (List.mem_of_getElem? (i := 10) rfl))
theorem c_Paths_init {l : Launch} (hl : l.flags = flags0) {D : DD} {Q : AH → Prop} {r0 : Nat} {r1 : Nat} {h : AH} (hw : m_Paths_init Q r0 r1 h) : fx_Mt l D y_Paths_init (fx_hd y_Paths_init prog_9_method_1_code 2 (none) []) 4 50 [.ref r0, .ref r1] h (fx_oV Q fx_no) := by
  refine fx_ofW (plainFor_of_name (by decide)) (fun p e s m below meth c C F => ?_)
  have hv := lv_entry ([.ref r0, .ref r1]) (n := 2) (Nat.le_of_ble_eq_true rfl)
  rw [lg_entry_eq]
  generalize (lg_sl ([.ref r0, .ref r1]) ++ List.replicate (2 - (lg_sl ([.ref r0, .ref r1])).length) Slot.unset).toArray = ls at hv ⊢
  have hv : lv_has ls 2 [(0, .ref r0), (1, .ref r1)] := hv
  exact b_Paths_init_0 C hl _ _ _ hw _ _ _ _ _ hv F
/-! ChainJudge$Reader.<init>()V: frames 1, words 12 -/
abbrev y_Rd_init : MethodName := ⟨"ChainJudge$Reader", "<init>", "()V"⟩
theorem lf_Rd_7 : fx_Lk "ChainJudge$Reader" 7 8 0 := fx_Lk.mk (C := "ChainJudge$Reader") (T := fx_T8) (N := 2) rfl (by decide) (by decide) (fx_m1 (List.mem_of_getElem? (i := 208) rfl))
theorem lf_Rd_13 : fx_Lk "ChainJudge$Reader" 13 8 1 := fx_Lk.mk (C := "ChainJudge$Reader") (T := fx_T8) (N := 2) rfl (by decide) (by decide) (fx_m1 (List.mem_of_getElem? (i := 210) rfl))
def dl_Rd_init : List (Nat × Instr × Nat) := [(0, .aload_n 0, 1), (1, .invokespecial 1, 3), (4, .aload_n 0, 1), (5, .aconst_null, 1), (6, .putfield 7, 3), (9, .aload_n 0, 1), (10, .iconst 0, 1), (11, .putfield 13, 3), (14, .return_, 1)]
theorem dk_Rd_init : fx_dec prog_10_method_1_code dl_Rd_init = true := by decide +kernel
theorem d_Rd_init_0 : decode prog_10_method_1_code 0 = .ok (.aload_n 0, 1) := fx_dat dk_Rd_init 0 rfl
theorem d_Rd_init_1 : decode prog_10_method_1_code 1 = .ok (.invokespecial 1, 3) := fx_dat dk_Rd_init 1 rfl
theorem d_Rd_init_4 : decode prog_10_method_1_code 4 = .ok (.aload_n 0, 1) := fx_dat dk_Rd_init 2 rfl
theorem d_Rd_init_5 : decode prog_10_method_1_code 5 = .ok (.aconst_null, 1) := fx_dat dk_Rd_init 3 rfl
theorem d_Rd_init_6 : decode prog_10_method_1_code 6 = .ok (.putfield 7, 3) := fx_dat dk_Rd_init 4 rfl
theorem d_Rd_init_9 : decode prog_10_method_1_code 9 = .ok (.aload_n 0, 1) := fx_dat dk_Rd_init 5 rfl
theorem d_Rd_init_10 : decode prog_10_method_1_code 10 = .ok (.iconst 0, 1) := fx_dat dk_Rd_init 6 rfl
theorem d_Rd_init_11 : decode prog_10_method_1_code 11 = .ok (.putfield 13, 3) := fx_dat dk_Rd_init 7 rfl
theorem d_Rd_init_14 : decode prog_10_method_1_code 14 = .ok (.return_, 1) := fx_dat dk_Rd_init 8 rfl
def m_Rd_init (Q : AH → Prop) (r0 : Nat) (h : AH) : Prop := hp_k h r0 = 9 ∧ ∀ h1 : AH, h1 = up_R h r0 0 none → ∀ h2 : AH, h2 = up_I h1 r0 1 (0 : Int32) → Q h2
theorem b_Rd_init_0 {p : Program} {l : Launch} {e : Env} {R : Room} {s : State} {m : MethodId} {args : Array Value} {below : List Frame} {meth : Method} {c : Code} {D : DD} {h0 : AH} {Q : AH → Prop} (C : fx_CX D y_Rd_init prog_10_method_1_code 1 1 12 (none) [] h0 p R s m meth c) (hl : l.flags = flags0) (r0 : Nat) (h : AH) (hw : m_Rd_init Q r0 h) : ∀ (ls : Array Slot) (H : Heap) (locs : List Loc) (cells slots : Nat), lv_has ls 1 [(0, .ref r0)] → fx_F D h0 h H locs cells slots → W p l e R s m args below meth c H locs cells slots (fx_Z D below s h0 (fx_oV Q fx_no)) (F0 m 0 ls []) := by
  unfold m_Rd_init at hw
  intro ls H locs cells slots hv F
  refine lv_aload_n C.ex C.by d_Rd_init_0 rfl (lv_at hv 0 rfl) ?_
  refine fx_objI C (fx_m1 (List.mem_of_getElem? (i := 207) rfl)) (fx_m1 (List.mem_of_getElem? (i := 38) rfl)) (fx_m1 (List.mem_of_getElem? (i := 39) rfl)) hv.1 d_Rd_init_1 (by decide) (Nat.le_of_ble_eq_true rfl) ?_
  refine lv_aload_n C.ex C.by d_Rd_init_4 rfl (lv_at hv 0 rfl) ?_
  refine lv_null C.ex C.by d_Rd_init_5 ?_
  obtain ⟨hk1, hw⟩ := hw
  let h1 : AH := up_R h r0 0 none
  replace hw := hw h1 rfl
  refine fx_putN C F lf_Rd_7 hk1 rfl rfl (fx_mayF.no rfl rfl) d_Rd_init_6 (fun H locs (F : fx_F D h0 h1 H locs _ _) => ?_)
  refine lv_aload_n C.ex C.by d_Rd_init_9 rfl (lv_at hv 0 rfl) ?_
  refine lv_iconst (v := (0 : Int32)) C.ex C.by d_Rd_init_10 (by decide) ?_
  let h2 : AH := up_I h1 r0 1 (0 : Int32)
  replace hw := hw h2 rfl
  refine fx_putI C F lf_Rd_13 hk1 rfl rfl (fx_mayF.no rfl rfl) d_Rd_init_11 (fun H locs (F : fx_F D h0 h2 H locs _ _) => ?_)
  exact fx_vret C F d_Rd_init_14 (Or.inl ⟨rfl, hw⟩)
theorem hm_Rd_init : fx_hd y_Rd_init prog_10_method_1_code 1 (none) [] ∈ tables_1 := (fx_m1 (List.mem_of_getElem? (i := 206) rfl))
theorem hi_Rd_init : Cond.initialized y_Rd_init.cls ∈ tables_1 := (fx_m1 (List.mem_of_getElem? (i := 12) rfl))
theorem c_Rd_init {l : Launch} (hl : l.flags = flags0) {D : DD} {Q : AH → Prop} {r0 : Nat} {h : AH} (hw : m_Rd_init Q r0 h) : fx_Mt l D y_Rd_init (fx_hd y_Rd_init prog_10_method_1_code 1 (none) []) 1 12 [.ref r0] h (fx_oV Q fx_no) := by
  refine fx_ofW (plainFor_of_name (by decide)) (fun p e s m below meth c C F => ?_)
  have hv := lv_entry ([.ref r0]) (n := 1) (Nat.le_of_ble_eq_true rfl)
  rw [lg_entry_eq]
  generalize (lg_sl ([.ref r0]) ++ List.replicate (1 - (lg_sl ([.ref r0])).length) Slot.unset).toArray = ls at hv ⊢
  have hv : lv_has ls 1 [(0, .ref r0)] := hv
  exact b_Rd_init_0 C hl _ _ hw _ _ _ _ _ hv F
/-! ChainJudge$Certificate.<init>(LChainJudge$Marks;)V: frames 2, words 26 -/
abbrev y_Cert_init : MethodName := ⟨"ChainJudge$Certificate", "<init>", "(LChainJudge$Marks;)V"⟩
theorem lf_Cert_10 : fx_Lk "ChainJudge$Certificate" 10 7 1 := fx_Lk.mk (C := "ChainJudge$Certificate") (T := fx_T7) (N := 29) rfl (by decide) (by decide) (fx_m1 (List.mem_of_getElem? (i := 218) rfl))
theorem lf_Cert_16 : fx_Lk "ChainJudge$Certificate" 16 7 2 := fx_Lk.mk (C := "ChainJudge$Certificate") (T := fx_T7) (N := 29) rfl (by decide) (by decide) (fx_m1 (List.mem_of_getElem? (i := 219) rfl))
theorem lf_Cert_20 : fx_Lk "ChainJudge$Certificate" 20 7 3 := fx_Lk.mk (C := "ChainJudge$Certificate") (T := fx_T7) (N := 29) rfl (by decide) (by decide) (fx_m1 (List.mem_of_getElem? (i := 221) rfl))
theorem lf_Cert_24 : fx_Lk "ChainJudge$Certificate" 24 7 4 := fx_Lk.mk (C := "ChainJudge$Certificate") (T := fx_T7) (N := 29) rfl (by decide) (by decide) (fx_m1 (List.mem_of_getElem? (i := 222) rfl))
theorem lf_Cert_27 : fx_Lk "ChainJudge$Certificate" 27 7 5 := fx_Lk.mk (C := "ChainJudge$Certificate") (T := fx_T7) (N := 29) rfl (by decide) (by decide) (fx_m1 (List.mem_of_getElem? (i := 223) rfl))
theorem lf_Cert_30 : fx_Lk "ChainJudge$Certificate" 30 7 6 := fx_Lk.mk (C := "ChainJudge$Certificate") (T := fx_T7) (N := 29) rfl (by decide) (by decide) (fx_m1 (List.mem_of_getElem? (i := 224) rfl))
theorem lf_Cert_33 : fx_Lk "ChainJudge$Certificate" 33 7 7 := fx_Lk.mk (C := "ChainJudge$Certificate") (T := fx_T7) (N := 29) rfl (by decide) (by decide) (fx_m1 (List.mem_of_getElem? (i := 225) rfl))
theorem lf_Cert_36 : fx_Lk "ChainJudge$Certificate" 36 7 8 := fx_Lk.mk (C := "ChainJudge$Certificate") (T := fx_T7) (N := 29) rfl (by decide) (by decide) (fx_m1 (List.mem_of_getElem? (i := 227) rfl))
theorem lf_Cert_39 : fx_Lk "ChainJudge$Certificate" 39 7 9 := fx_Lk.mk (C := "ChainJudge$Certificate") (T := fx_T7) (N := 29) rfl (by decide) (by decide) (fx_m1 (List.mem_of_getElem? (i := 229) rfl))
theorem lf_Cert_42 : fx_Lk "ChainJudge$Certificate" 42 7 10 := fx_Lk.mk (C := "ChainJudge$Certificate") (T := fx_T7) (N := 29) rfl (by decide) (by decide) (fx_m1 (List.mem_of_getElem? (i := 230) rfl))
theorem lf_Cert_45 : fx_Lk "ChainJudge$Certificate" 45 7 11 := fx_Lk.mk (C := "ChainJudge$Certificate") (T := fx_T7) (N := 29) rfl (by decide) (by decide) (fx_m1 (List.mem_of_getElem? (i := 231) rfl))
theorem lf_Cert_48 : fx_Lk "ChainJudge$Certificate" 48 7 12 := fx_Lk.mk (C := "ChainJudge$Certificate") (T := fx_T7) (N := 29) rfl (by decide) (by decide) (fx_m1 (List.mem_of_getElem? (i := 233) rfl))
theorem lf_Cert_51 : fx_Lk "ChainJudge$Certificate" 51 7 13 := fx_Lk.mk (C := "ChainJudge$Certificate") (T := fx_T7) (N := 29) rfl (by decide) (by decide) (fx_m1 (List.mem_of_getElem? (i := 235) rfl))
theorem lf_Cert_54 : fx_Lk "ChainJudge$Certificate" 54 7 14 := fx_Lk.mk (C := "ChainJudge$Certificate") (T := fx_T7) (N := 29) rfl (by decide) (by decide) (fx_m1 (List.mem_of_getElem? (i := 236) rfl))
theorem lf_Cert_57 : fx_Lk "ChainJudge$Certificate" 57 7 15 := fx_Lk.mk (C := "ChainJudge$Certificate") (T := fx_T7) (N := 29) rfl (by decide) (by decide) (fx_m1 (List.mem_of_getElem? (i := 237) rfl))
theorem lf_Cert_60 : fx_Lk "ChainJudge$Certificate" 60 7 16 := fx_Lk.mk (C := "ChainJudge$Certificate") (T := fx_T7) (N := 29) rfl (by decide) (by decide) (fx_m1 (List.mem_of_getElem? (i := 239) rfl))
theorem lf_Cert_64 : fx_Lk "ChainJudge$Certificate" 64 7 17 := fx_Lk.mk (C := "ChainJudge$Certificate") (T := fx_T7) (N := 29) rfl (by decide) (by decide) (fx_m2 (List.mem_of_getElem? (i := 2) rfl))
theorem lf_Cert_67 : fx_Lk "ChainJudge$Certificate" 67 7 18 := fx_Lk.mk (C := "ChainJudge$Certificate") (T := fx_T7) (N := 29) rfl (by decide) (by decide) (fx_m2 (List.mem_of_getElem? (i := 5) rfl))
theorem lf_Cert_71 : fx_Lk "ChainJudge$Certificate" 71 7 19 := fx_Lk.mk (C := "ChainJudge$Certificate") (T := fx_T7) (N := 29) rfl (by decide) (by decide) (fx_m2 (List.mem_of_getElem? (i := 7) rfl))
theorem lf_Cert_74 : fx_Lk "ChainJudge$Certificate" 74 7 20 := fx_Lk.mk (C := "ChainJudge$Certificate") (T := fx_T7) (N := 29) rfl (by decide) (by decide) (fx_m2 (List.mem_of_getElem? (i := 10) rfl))
theorem lf_Cert_77 : fx_Lk "ChainJudge$Certificate" 77 7 21 := fx_Lk.mk (C := "ChainJudge$Certificate") (T := fx_T7) (N := 29) rfl (by decide) (by decide) (fx_m2 (List.mem_of_getElem? (i := 12) rfl))
theorem lf_Cert_80 : fx_Lk "ChainJudge$Certificate" 80 7 22 := fx_Lk.mk (C := "ChainJudge$Certificate") (T := fx_T7) (N := 29) rfl (by decide) (by decide) (fx_m2 (List.mem_of_getElem? (i := 15) rfl))
theorem lf_Cert_83 : fx_Lk "ChainJudge$Certificate" 83 7 23 := fx_Lk.mk (C := "ChainJudge$Certificate") (T := fx_T7) (N := 29) rfl (by decide) (by decide) (fx_m2 (List.mem_of_getElem? (i := 17) rfl))
theorem lf_Cert_86 : fx_Lk "ChainJudge$Certificate" 86 7 24 := fx_Lk.mk (C := "ChainJudge$Certificate") (T := fx_T7) (N := 29) rfl (by decide) (by decide) (fx_m2 (List.mem_of_getElem? (i := 19) rfl))
theorem lf_Cert_89 : fx_Lk "ChainJudge$Certificate" 89 7 25 := fx_Lk.mk (C := "ChainJudge$Certificate") (T := fx_T7) (N := 29) rfl (by decide) (by decide) (fx_m2 (List.mem_of_getElem? (i := 20) rfl))
theorem lf_Cert_92 : fx_Lk "ChainJudge$Certificate" 92 7 26 := fx_Lk.mk (C := "ChainJudge$Certificate") (T := fx_T7) (N := 29) rfl (by decide) (by decide) (fx_m2 (List.mem_of_getElem? (i := 21) rfl))
theorem lf_Cert_95 : fx_Lk "ChainJudge$Certificate" 95 7 27 := fx_Lk.mk (C := "ChainJudge$Certificate") (T := fx_T7) (N := 29) rfl (by decide) (by decide) (fx_m2 (List.mem_of_getElem? (i := 23) rfl))
theorem lf_Cert_98 : fx_Lk "ChainJudge$Certificate" 98 7 28 := fx_Lk.mk (C := "ChainJudge$Certificate") (T := fx_T7) (N := 29) rfl (by decide) (by decide) (fx_m2 (List.mem_of_getElem? (i := 24) rfl))
theorem lf_Cert_101 : fx_Lk "ChainJudge$Certificate" 101 7 0 := fx_Lk.mk (C := "ChainJudge$Certificate") (T := fx_T7) (N := 29) rfl (by decide) (by decide) (fx_m1 (List.mem_of_getElem? (i := 217) rfl))
theorem lm_Cert_9 : Cond.methodLink "ChainJudge$Certificate" 9 y_Rd_init ∈ tables_1 ∨ ∃ host, Cond.methodLinkNest "ChainJudge$Certificate" 9 y_Rd_init host ∈ tables_1 := Or.inr ⟨_, (fx_m1 (List.mem_of_getElem? (i := 204) rfl))⟩
section
variable {p : Program} {l : Launch} {e : Env} {R : Room} {s : State} {m : MethodId} {args : Array Value} {below : List Frame} {meth : Method} {c : Code} {H : Heap} {locs : List Loc} {cells slots : Nat}
variable {D : DD} {y : MethodName} {cc : ByteArray} {nL kf kw : Nat} {ret : Option FieldType} {hh : List (Nat × Nat × Nat × Nat)} {h0 h : AH} {pc : Nat} {ls : Array Slot} {rest : List Value} {b idx : Nat}
theorem iv_Rd_init (C : fx_CX D y cc nL kf kw ret hh h0 p R s m meth c) (F : fx_F D h0 h H locs cells slots) (hw1 : Cond.methodLink y.cls idx y_Rd_init ∈ tables_1 ∨ ∃ host, Cond.methodLinkNest y.cls idx y_Rd_init host ∈ tables_1) (hd : decode cc pc = .ok (.invokespecial idx, 3)) : fx_IV p l e R s m args below meth c H locs cells slots (F0 m pc ls (.ref b :: rest)) rest y_Rd_init [.ref b] 3 := fun T hT X => fx_invI (As := []) C X hw1 (fx_m1 (List.mem_of_getElem? (i := 205) rfl)) hm_Rd_init ⟨by decide, by decide⟩ rfl rfl (n := 0) (by decide +kernel) rfl rfl hd
end
def dl_Cert_init : List (Nat × Instr × Nat) := [(0, .aload_n 0, 1), (1, .invokespecial 1, 3), (4, .aload_n 0, 1), (5, .new 7, 3), (8, .dup, 1), (9, .invokespecial 9, 3), (12, .putfield 10, 3), (15, .aload_n 0, 1), (16, .aconst_null, 1), (17, .putfield 16, 3), (20, .aload_n 0, 1), (21, .iconst 0, 1), (22, .putfield 20, 3), (25, .aload_n 0, 1), (26, .iconst 0, 1), (27, .putfield 24, 3), (30, .aload_n 0, 1), (31, .iconst 0, 1), (32, .putfield 27, 3), (35, .aload_n 0, 1), (36, .iconst 0, 1), (37, .putfield 30, 3), (40, .aload_n 0, 1), (41, .iconst 0, 1), (42, .putfield 33, 3), (45, .aload_n 0, 1), (46, .iconst 0, 1), (47, .putfield 36, 3), (50, .aload_n 0, 1), (51, .iconst 0, 1), (52, .putfield 39, 3), (55, .aload_n 0, 1), (56, .iconst 0, 1), (57, .putfield 42, 3), (60, .aload_n 0, 1), (61, .iconst 0, 1), (62, .putfield 45, 3), (65, .aload_n 0, 1), (66, .iconst 0, 1), (67, .putfield 48, 3), (70, .aload_n 0, 1), (71, .iconst 0, 1), (72, .putfield 51, 3), (75, .aload_n 0, 1), (76, .iconst 0, 1), (77, .putfield 54, 3), (80, .aload_n 0, 1), (81, .iconst 0, 1), (82, .putfield 57, 3), (85, .aload_n 0, 1), (86, .lconst 0, 1), (87, .putfield 60, 3), (90, .aload_n 0, 1), (91, .lconst 0, 1), (92, .putfield 64, 3), (95, .aload_n 0, 1), (96, .iconst 0, 1), (97, .putfield 67, 3), (100, .aload_n 0, 1), (101, .iconst 0, 1), (102, .putfield 71, 3), (105, .aload_n 0, 1), (106, .iconst 0, 1), (107, .putfield 74, 3), (110, .aload_n 0, 1), (111, .iconst (-1), 1), (112, .putfield 77, 3), (115, .aload_n 0, 1), (116, .iconst (-1), 1), (117, .putfield 80, 3), (120, .aload_n 0, 1), (121, .iconst (-1), 1), (122, .putfield 83, 3), (125, .aload_n 0, 1), (126, .iconst 0, 1), (127, .putfield 86, 3), (130, .aload_n 0, 1), (131, .iconst 0, 1), (132, .putfield 89, 3), (135, .aload_n 0, 1), (136, .iconst 0, 1), (137, .putfield 92, 3), (140, .aload_n 0, 1), (141, .iconst 0, 1), (142, .putfield 95, 3), (145, .aload_n 0, 1), (146, .iconst 0, 1), (147, .putfield 98, 3), (150, .aload_n 0, 1), (151, .aload_n 1, 1), (152, .putfield 101, 3), (155, .return_, 1)]
theorem dk_Cert_init : fx_dec prog_2_method_1_code dl_Cert_init = true := by decide +kernel
theorem d_Cert_init_0 : decode prog_2_method_1_code 0 = .ok (.aload_n 0, 1) := fx_dat dk_Cert_init 0 rfl
theorem d_Cert_init_1 : decode prog_2_method_1_code 1 = .ok (.invokespecial 1, 3) := fx_dat dk_Cert_init 1 rfl
theorem d_Cert_init_4 : decode prog_2_method_1_code 4 = .ok (.aload_n 0, 1) := fx_dat dk_Cert_init 2 rfl
theorem d_Cert_init_5 : decode prog_2_method_1_code 5 = .ok (.new 7, 3) := fx_dat dk_Cert_init 3 rfl
theorem d_Cert_init_8 : decode prog_2_method_1_code 8 = .ok (.dup, 1) := fx_dat dk_Cert_init 4 rfl
theorem d_Cert_init_9 : decode prog_2_method_1_code 9 = .ok (.invokespecial 9, 3) := fx_dat dk_Cert_init 5 rfl
theorem d_Cert_init_12 : decode prog_2_method_1_code 12 = .ok (.putfield 10, 3) := fx_dat dk_Cert_init 6 rfl
theorem d_Cert_init_15 : decode prog_2_method_1_code 15 = .ok (.aload_n 0, 1) := fx_dat dk_Cert_init 7 rfl
theorem d_Cert_init_16 : decode prog_2_method_1_code 16 = .ok (.aconst_null, 1) := fx_dat dk_Cert_init 8 rfl
theorem d_Cert_init_17 : decode prog_2_method_1_code 17 = .ok (.putfield 16, 3) := fx_dat dk_Cert_init 9 rfl
theorem d_Cert_init_20 : decode prog_2_method_1_code 20 = .ok (.aload_n 0, 1) := fx_dat dk_Cert_init 10 rfl
theorem d_Cert_init_21 : decode prog_2_method_1_code 21 = .ok (.iconst 0, 1) := fx_dat dk_Cert_init 11 rfl
theorem d_Cert_init_22 : decode prog_2_method_1_code 22 = .ok (.putfield 20, 3) := fx_dat dk_Cert_init 12 rfl
theorem d_Cert_init_25 : decode prog_2_method_1_code 25 = .ok (.aload_n 0, 1) := fx_dat dk_Cert_init 13 rfl
theorem d_Cert_init_26 : decode prog_2_method_1_code 26 = .ok (.iconst 0, 1) := fx_dat dk_Cert_init 14 rfl
theorem d_Cert_init_27 : decode prog_2_method_1_code 27 = .ok (.putfield 24, 3) := fx_dat dk_Cert_init 15 rfl
theorem d_Cert_init_30 : decode prog_2_method_1_code 30 = .ok (.aload_n 0, 1) := fx_dat dk_Cert_init 16 rfl
theorem d_Cert_init_31 : decode prog_2_method_1_code 31 = .ok (.iconst 0, 1) := fx_dat dk_Cert_init 17 rfl
theorem d_Cert_init_32 : decode prog_2_method_1_code 32 = .ok (.putfield 27, 3) := fx_dat dk_Cert_init 18 rfl
theorem d_Cert_init_35 : decode prog_2_method_1_code 35 = .ok (.aload_n 0, 1) := fx_dat dk_Cert_init 19 rfl
theorem d_Cert_init_36 : decode prog_2_method_1_code 36 = .ok (.iconst 0, 1) := fx_dat dk_Cert_init 20 rfl
theorem d_Cert_init_37 : decode prog_2_method_1_code 37 = .ok (.putfield 30, 3) := fx_dat dk_Cert_init 21 rfl
theorem d_Cert_init_40 : decode prog_2_method_1_code 40 = .ok (.aload_n 0, 1) := fx_dat dk_Cert_init 22 rfl
theorem d_Cert_init_41 : decode prog_2_method_1_code 41 = .ok (.iconst 0, 1) := fx_dat dk_Cert_init 23 rfl
theorem d_Cert_init_42 : decode prog_2_method_1_code 42 = .ok (.putfield 33, 3) := fx_dat dk_Cert_init 24 rfl
theorem d_Cert_init_45 : decode prog_2_method_1_code 45 = .ok (.aload_n 0, 1) := fx_dat dk_Cert_init 25 rfl
theorem d_Cert_init_46 : decode prog_2_method_1_code 46 = .ok (.iconst 0, 1) := fx_dat dk_Cert_init 26 rfl
theorem d_Cert_init_47 : decode prog_2_method_1_code 47 = .ok (.putfield 36, 3) := fx_dat dk_Cert_init 27 rfl
theorem d_Cert_init_50 : decode prog_2_method_1_code 50 = .ok (.aload_n 0, 1) := fx_dat dk_Cert_init 28 rfl
theorem d_Cert_init_51 : decode prog_2_method_1_code 51 = .ok (.iconst 0, 1) := fx_dat dk_Cert_init 29 rfl
theorem d_Cert_init_52 : decode prog_2_method_1_code 52 = .ok (.putfield 39, 3) := fx_dat dk_Cert_init 30 rfl
theorem d_Cert_init_55 : decode prog_2_method_1_code 55 = .ok (.aload_n 0, 1) := fx_dat dk_Cert_init 31 rfl
theorem d_Cert_init_56 : decode prog_2_method_1_code 56 = .ok (.iconst 0, 1) := fx_dat dk_Cert_init 32 rfl
theorem d_Cert_init_57 : decode prog_2_method_1_code 57 = .ok (.putfield 42, 3) := fx_dat dk_Cert_init 33 rfl
theorem d_Cert_init_60 : decode prog_2_method_1_code 60 = .ok (.aload_n 0, 1) := fx_dat dk_Cert_init 34 rfl
theorem d_Cert_init_61 : decode prog_2_method_1_code 61 = .ok (.iconst 0, 1) := fx_dat dk_Cert_init 35 rfl
theorem d_Cert_init_62 : decode prog_2_method_1_code 62 = .ok (.putfield 45, 3) := fx_dat dk_Cert_init 36 rfl
theorem d_Cert_init_65 : decode prog_2_method_1_code 65 = .ok (.aload_n 0, 1) := fx_dat dk_Cert_init 37 rfl
theorem d_Cert_init_66 : decode prog_2_method_1_code 66 = .ok (.iconst 0, 1) := fx_dat dk_Cert_init 38 rfl
theorem d_Cert_init_67 : decode prog_2_method_1_code 67 = .ok (.putfield 48, 3) := fx_dat dk_Cert_init 39 rfl
theorem d_Cert_init_70 : decode prog_2_method_1_code 70 = .ok (.aload_n 0, 1) := fx_dat dk_Cert_init 40 rfl
theorem d_Cert_init_71 : decode prog_2_method_1_code 71 = .ok (.iconst 0, 1) := fx_dat dk_Cert_init 41 rfl
theorem d_Cert_init_72 : decode prog_2_method_1_code 72 = .ok (.putfield 51, 3) := fx_dat dk_Cert_init 42 rfl
theorem d_Cert_init_75 : decode prog_2_method_1_code 75 = .ok (.aload_n 0, 1) := fx_dat dk_Cert_init 43 rfl
theorem d_Cert_init_76 : decode prog_2_method_1_code 76 = .ok (.iconst 0, 1) := fx_dat dk_Cert_init 44 rfl
theorem d_Cert_init_77 : decode prog_2_method_1_code 77 = .ok (.putfield 54, 3) := fx_dat dk_Cert_init 45 rfl
theorem d_Cert_init_80 : decode prog_2_method_1_code 80 = .ok (.aload_n 0, 1) := fx_dat dk_Cert_init 46 rfl
theorem d_Cert_init_81 : decode prog_2_method_1_code 81 = .ok (.iconst 0, 1) := fx_dat dk_Cert_init 47 rfl
theorem d_Cert_init_82 : decode prog_2_method_1_code 82 = .ok (.putfield 57, 3) := fx_dat dk_Cert_init 48 rfl
theorem d_Cert_init_85 : decode prog_2_method_1_code 85 = .ok (.aload_n 0, 1) := fx_dat dk_Cert_init 49 rfl
theorem d_Cert_init_86 : decode prog_2_method_1_code 86 = .ok (.lconst 0, 1) := fx_dat dk_Cert_init 50 rfl
theorem d_Cert_init_87 : decode prog_2_method_1_code 87 = .ok (.putfield 60, 3) := fx_dat dk_Cert_init 51 rfl
theorem d_Cert_init_90 : decode prog_2_method_1_code 90 = .ok (.aload_n 0, 1) := fx_dat dk_Cert_init 52 rfl
theorem d_Cert_init_91 : decode prog_2_method_1_code 91 = .ok (.lconst 0, 1) := fx_dat dk_Cert_init 53 rfl
theorem d_Cert_init_92 : decode prog_2_method_1_code 92 = .ok (.putfield 64, 3) := fx_dat dk_Cert_init 54 rfl
theorem d_Cert_init_95 : decode prog_2_method_1_code 95 = .ok (.aload_n 0, 1) := fx_dat dk_Cert_init 55 rfl
theorem d_Cert_init_96 : decode prog_2_method_1_code 96 = .ok (.iconst 0, 1) := fx_dat dk_Cert_init 56 rfl
theorem d_Cert_init_97 : decode prog_2_method_1_code 97 = .ok (.putfield 67, 3) := fx_dat dk_Cert_init 57 rfl
theorem d_Cert_init_100 : decode prog_2_method_1_code 100 = .ok (.aload_n 0, 1) := fx_dat dk_Cert_init 58 rfl
theorem d_Cert_init_101 : decode prog_2_method_1_code 101 = .ok (.iconst 0, 1) := fx_dat dk_Cert_init 59 rfl
theorem d_Cert_init_102 : decode prog_2_method_1_code 102 = .ok (.putfield 71, 3) := fx_dat dk_Cert_init 60 rfl
theorem d_Cert_init_105 : decode prog_2_method_1_code 105 = .ok (.aload_n 0, 1) := fx_dat dk_Cert_init 61 rfl
theorem d_Cert_init_106 : decode prog_2_method_1_code 106 = .ok (.iconst 0, 1) := fx_dat dk_Cert_init 62 rfl
theorem d_Cert_init_107 : decode prog_2_method_1_code 107 = .ok (.putfield 74, 3) := fx_dat dk_Cert_init 63 rfl
theorem d_Cert_init_110 : decode prog_2_method_1_code 110 = .ok (.aload_n 0, 1) := fx_dat dk_Cert_init 64 rfl
theorem d_Cert_init_111 : decode prog_2_method_1_code 111 = .ok (.iconst (-1), 1) := fx_dat dk_Cert_init 65 rfl
theorem d_Cert_init_112 : decode prog_2_method_1_code 112 = .ok (.putfield 77, 3) := fx_dat dk_Cert_init 66 rfl
theorem d_Cert_init_115 : decode prog_2_method_1_code 115 = .ok (.aload_n 0, 1) := fx_dat dk_Cert_init 67 rfl
theorem d_Cert_init_116 : decode prog_2_method_1_code 116 = .ok (.iconst (-1), 1) := fx_dat dk_Cert_init 68 rfl
theorem d_Cert_init_117 : decode prog_2_method_1_code 117 = .ok (.putfield 80, 3) := fx_dat dk_Cert_init 69 rfl
theorem d_Cert_init_120 : decode prog_2_method_1_code 120 = .ok (.aload_n 0, 1) := fx_dat dk_Cert_init 70 rfl
theorem d_Cert_init_121 : decode prog_2_method_1_code 121 = .ok (.iconst (-1), 1) := fx_dat dk_Cert_init 71 rfl
theorem d_Cert_init_122 : decode prog_2_method_1_code 122 = .ok (.putfield 83, 3) := fx_dat dk_Cert_init 72 rfl
theorem d_Cert_init_125 : decode prog_2_method_1_code 125 = .ok (.aload_n 0, 1) := fx_dat dk_Cert_init 73 rfl
theorem d_Cert_init_126 : decode prog_2_method_1_code 126 = .ok (.iconst 0, 1) := fx_dat dk_Cert_init 74 rfl
theorem d_Cert_init_127 : decode prog_2_method_1_code 127 = .ok (.putfield 86, 3) := fx_dat dk_Cert_init 75 rfl
theorem d_Cert_init_130 : decode prog_2_method_1_code 130 = .ok (.aload_n 0, 1) := fx_dat dk_Cert_init 76 rfl
theorem d_Cert_init_131 : decode prog_2_method_1_code 131 = .ok (.iconst 0, 1) := fx_dat dk_Cert_init 77 rfl
theorem d_Cert_init_132 : decode prog_2_method_1_code 132 = .ok (.putfield 89, 3) := fx_dat dk_Cert_init 78 rfl
theorem d_Cert_init_135 : decode prog_2_method_1_code 135 = .ok (.aload_n 0, 1) := fx_dat dk_Cert_init 79 rfl
theorem d_Cert_init_136 : decode prog_2_method_1_code 136 = .ok (.iconst 0, 1) := fx_dat dk_Cert_init 80 rfl
theorem d_Cert_init_137 : decode prog_2_method_1_code 137 = .ok (.putfield 92, 3) := fx_dat dk_Cert_init 81 rfl
theorem d_Cert_init_140 : decode prog_2_method_1_code 140 = .ok (.aload_n 0, 1) := fx_dat dk_Cert_init 82 rfl
theorem d_Cert_init_141 : decode prog_2_method_1_code 141 = .ok (.iconst 0, 1) := fx_dat dk_Cert_init 83 rfl
theorem d_Cert_init_142 : decode prog_2_method_1_code 142 = .ok (.putfield 95, 3) := fx_dat dk_Cert_init 84 rfl
theorem d_Cert_init_145 : decode prog_2_method_1_code 145 = .ok (.aload_n 0, 1) := fx_dat dk_Cert_init 85 rfl
theorem d_Cert_init_146 : decode prog_2_method_1_code 146 = .ok (.iconst 0, 1) := fx_dat dk_Cert_init 86 rfl
theorem d_Cert_init_147 : decode prog_2_method_1_code 147 = .ok (.putfield 98, 3) := fx_dat dk_Cert_init 87 rfl
theorem d_Cert_init_150 : decode prog_2_method_1_code 150 = .ok (.aload_n 0, 1) := fx_dat dk_Cert_init 88 rfl
theorem d_Cert_init_151 : decode prog_2_method_1_code 151 = .ok (.aload_n 1, 1) := fx_dat dk_Cert_init 89 rfl
theorem d_Cert_init_152 : decode prog_2_method_1_code 152 = .ok (.putfield 101, 3) := fx_dat dk_Cert_init 90 rfl
theorem d_Cert_init_155 : decode prog_2_method_1_code 155 = .ok (.return_, 1) := fx_dat dk_Cert_init 91 rfl
def m_Cert_init (Q : AH → Prop) (r0 : Nat) (r1 : Nat) (h : AH) : Prop := fx_has h 2 ∧ ∀ (_ : fx_wf h) (q1 : Nat), q1 = hp_z h → ∀ h1 : AH, h1 = up_N h 9 0 2 → m_Rd_init (fun h2 => fx_ext h1 h2 → hp_k h2 r0 = 8 ∧ ∀ h3 : AH, h3 = up_R h2 r0 1 (some q1) → ∀ h4 : AH, h4 = up_R h3 r0 2 none → ∀ h5 : AH, h5 = up_I h4 r0 3 (0 : Int32) → ∀ h6 : AH, h6 = up_I h5 r0 4 (0 : Int32) → ∀ h7 : AH, h7 = up_I h6 r0 5 (0 : Int32) → ∀ h8 : AH, h8 = up_I h7 r0 6 (0 : Int32) → ∀ h9 : AH, h9 = up_I h8 r0 7 (0 : Int32) → ∀ h10 : AH, h10 = up_I h9 r0 8 (0 : Int32) → ∀ h11 : AH, h11 = up_I h10 r0 9 (0 : Int32) → ∀ h12 : AH, h12 = up_I h11 r0 10 (0 : Int32) → ∀ h13 : AH, h13 = up_I h12 r0 11 (0 : Int32) → ∀ h14 : AH, h14 = up_I h13 r0 12 (0 : Int32) → ∀ h15 : AH, h15 = up_I h14 r0 13 (0 : Int32) → ∀ h16 : AH, h16 = up_I h15 r0 14 (0 : Int32) → ∀ h17 : AH, h17 = up_I h16 r0 15 (0 : Int32) → ∀ h18 : AH, h18 = up_L h17 r0 16 (0 : Int64) → ∀ h19 : AH, h19 = up_L h18 r0 17 (0 : Int64) → ∀ h20 : AH, h20 = up_I h19 r0 18 (0 : Int32) → ∀ h21 : AH, h21 = up_I h20 r0 19 (0 : Int32) → ∀ h22 : AH, h22 = up_I h21 r0 20 (0 : Int32) → ∀ h23 : AH, h23 = up_I h22 r0 21 (-1 : Int32) → ∀ h24 : AH, h24 = up_I h23 r0 22 (-1 : Int32) → ∀ h25 : AH, h25 = up_I h24 r0 23 (-1 : Int32) → ∀ h26 : AH, h26 = up_I h25 r0 24 (0 : Int32) → ∀ h27 : AH, h27 = up_I h26 r0 25 (0 : Int32) → ∀ h28 : AH, h28 = up_I h27 r0 26 (0 : Int32) → ∀ h29 : AH, h29 = up_I h28 r0 27 (0 : Int32) → ∀ h30 : AH, h30 = up_I h29 r0 28 (0 : Int32) → ∀ h31 : AH, h31 = up_R h30 r0 0 (some r1) → Q h31) q1 h1
theorem b_Cert_init_0 {p : Program} {l : Launch} {e : Env} {R : Room} {s : State} {m : MethodId} {args : Array Value} {below : List Frame} {meth : Method} {c : Code} {D : DD} {h0 : AH} {Q : AH → Prop} (C : fx_CX D y_Cert_init prog_2_method_1_code 2 2 26 (none) [] h0 p R s m meth c) (hl : l.flags = flags0) (r0 : Nat) (r1 : Nat) (h : AH) (hw : m_Cert_init Q r0 r1 h) : ∀ (ls : Array Slot) (H : Heap) (locs : List Loc) (cells slots : Nat), lv_has ls 2 [(0, .ref r0), (1, .ref r1)] → fx_F D h0 h H locs cells slots → W p l e R s m args below meth c H locs cells slots (fx_Z D below s h0 (fx_oV Q fx_no)) (F0 m 0 ls []) := by
  unfold m_Cert_init at hw
  intro ls H locs cells slots hv F
  refine lv_aload_n C.ex C.by d_Cert_init_0 rfl (lv_at hv 0 rfl) ?_
  refine fx_objI C (fx_m1 (List.mem_of_getElem? (i := 201) rfl)) (fx_m1 (List.mem_of_getElem? (i := 38) rfl)) (fx_m1 (List.mem_of_getElem? (i := 39) rfl)) hv.1 d_Cert_init_1 (by decide) (Nat.le_of_ble_eq_true rfl) ?_
  refine lv_aload_n C.ex C.by d_Cert_init_4 rfl (lv_at hv 0 rfl) ?_
  obtain ⟨hs, hw⟩ := hw
  let q1 : Nat := hp_z h
  let h1 : AH := up_N h 9 0 2
  replace hw := hw F.wf q1 rfl h1 rfl
  have hkq1 : hp_k h1 q1 = 9 := fx_nk _ _ _ _
  refine fx_new (ci := 8) (r := ("ChainJudge$Reader", fx_T8, 2)) C F rfl (fx_m1 (List.mem_of_getElem? (i := 202) rfl)) (fx_m1 (List.mem_of_getElem? (i := 203) rfl)) (fx_m1 (List.mem_of_getElem? (i := 12) rfl)) hs d_Cert_init_5 (fun H cells slots (F : fx_F D h0 h1 H locs cells slots) => ?_)
  refine lv_dup C.ex C.by d_Cert_init_8 rfl ?_
  refine fx_callV C F (c_Rd_init hl hw) hm_Rd_init hi_Rd_init hv.1 (by decide) (Nat.le_of_ble_eq_true rfl) (iv_Rd_init C F lm_Cert_9 d_Cert_init_9) (fx_out0 _) fx_eno (fun h2 H locs cells slots hw hx1 F => ?_)
  replace hw := hw hx1
  have hkq1 := (hx1).k hkq1
  obtain ⟨hk1, hw⟩ := hw
  let h3 : AH := up_R h2 r0 1 (some q1)
  replace hw := hw h3 rfl
  refine fx_putR C F lf_Cert_10 hk1 rfl rfl (fx_mayF.ini rfl rfl rfl) d_Cert_init_12 (fun H locs (F : fx_F D h0 h3 H locs _ _) => ?_)
  refine lv_aload_n C.ex C.by d_Cert_init_15 rfl (lv_at hv 0 rfl) ?_
  refine lv_null C.ex C.by d_Cert_init_16 ?_
  let h4 : AH := up_R h3 r0 2 none
  replace hw := hw h4 rfl
  refine fx_putN C F lf_Cert_16 hk1 rfl rfl (fx_mayF.no rfl rfl) d_Cert_init_17 (fun H locs (F : fx_F D h0 h4 H locs _ _) => ?_)
  refine lv_aload_n C.ex C.by d_Cert_init_20 rfl (lv_at hv 0 rfl) ?_
  refine lv_iconst (v := (0 : Int32)) C.ex C.by d_Cert_init_21 (by decide) ?_
  let h5 : AH := up_I h4 r0 3 (0 : Int32)
  replace hw := hw h5 rfl
  refine fx_putI C F lf_Cert_20 hk1 rfl rfl (fx_mayF.no rfl rfl) d_Cert_init_22 (fun H locs (F : fx_F D h0 h5 H locs _ _) => ?_)
  refine lv_aload_n C.ex C.by d_Cert_init_25 rfl (lv_at hv 0 rfl) ?_
  refine lv_iconst (v := (0 : Int32)) C.ex C.by d_Cert_init_26 (by decide) ?_
  let h6 : AH := up_I h5 r0 4 (0 : Int32)
  replace hw := hw h6 rfl
  refine fx_putI C F lf_Cert_24 hk1 rfl rfl (fx_mayF.no rfl rfl) d_Cert_init_27 (fun H locs (F : fx_F D h0 h6 H locs _ _) => ?_)
  refine lv_aload_n C.ex C.by d_Cert_init_30 rfl (lv_at hv 0 rfl) ?_
  refine lv_iconst (v := (0 : Int32)) C.ex C.by d_Cert_init_31 (by decide) ?_
  let h7 : AH := up_I h6 r0 5 (0 : Int32)
  replace hw := hw h7 rfl
  refine fx_putI C F lf_Cert_27 hk1 rfl rfl (fx_mayF.no rfl rfl) d_Cert_init_32 (fun H locs (F : fx_F D h0 h7 H locs _ _) => ?_)
  refine lv_aload_n C.ex C.by d_Cert_init_35 rfl (lv_at hv 0 rfl) ?_
  refine lv_iconst (v := (0 : Int32)) C.ex C.by d_Cert_init_36 (by decide) ?_
  let h8 : AH := up_I h7 r0 6 (0 : Int32)
  replace hw := hw h8 rfl
  refine fx_putI C F lf_Cert_30 hk1 rfl rfl (fx_mayF.no rfl rfl) d_Cert_init_37 (fun H locs (F : fx_F D h0 h8 H locs _ _) => ?_)
  refine lv_aload_n C.ex C.by d_Cert_init_40 rfl (lv_at hv 0 rfl) ?_
  refine lv_iconst (v := (0 : Int32)) C.ex C.by d_Cert_init_41 (by decide) ?_
  let h9 : AH := up_I h8 r0 7 (0 : Int32)
  replace hw := hw h9 rfl
  refine fx_putI C F lf_Cert_33 hk1 rfl rfl (fx_mayF.no rfl rfl) d_Cert_init_42 (fun H locs (F : fx_F D h0 h9 H locs _ _) => ?_)
  refine lv_aload_n C.ex C.by d_Cert_init_45 rfl (lv_at hv 0 rfl) ?_
  refine lv_iconst (v := (0 : Int32)) C.ex C.by d_Cert_init_46 (by decide) ?_
  let h10 : AH := up_I h9 r0 8 (0 : Int32)
  replace hw := hw h10 rfl
  refine fx_putI C F lf_Cert_36 hk1 rfl rfl (fx_mayF.no rfl rfl) d_Cert_init_47 (fun H locs (F : fx_F D h0 h10 H locs _ _) => ?_)
  refine lv_aload_n C.ex C.by d_Cert_init_50 rfl (lv_at hv 0 rfl) ?_
  refine lv_iconst (v := (0 : Int32)) C.ex C.by d_Cert_init_51 (by decide) ?_
  let h11 : AH := up_I h10 r0 9 (0 : Int32)
  replace hw := hw h11 rfl
  refine fx_putI C F lf_Cert_39 hk1 rfl rfl (fx_mayF.no rfl rfl) d_Cert_init_52 (fun H locs (F : fx_F D h0 h11 H locs _ _) => ?_)
  refine lv_aload_n C.ex C.by d_Cert_init_55 rfl (lv_at hv 0 rfl) ?_
  refine lv_iconst (v := (0 : Int32)) C.ex C.by d_Cert_init_56 (by decide) ?_
  let h12 : AH := up_I h11 r0 10 (0 : Int32)
  replace hw := hw h12 rfl
  refine fx_putI C F lf_Cert_42 hk1 rfl rfl (fx_mayF.no rfl rfl) d_Cert_init_57 (fun H locs (F : fx_F D h0 h12 H locs _ _) => ?_)
  refine lv_aload_n C.ex C.by d_Cert_init_60 rfl (lv_at hv 0 rfl) ?_
  refine lv_iconst (v := (0 : Int32)) C.ex C.by d_Cert_init_61 (by decide) ?_
  let h13 : AH := up_I h12 r0 11 (0 : Int32)
  replace hw := hw h13 rfl
  refine fx_putI C F lf_Cert_45 hk1 rfl rfl (fx_mayF.no rfl rfl) d_Cert_init_62 (fun H locs (F : fx_F D h0 h13 H locs _ _) => ?_)
  refine lv_aload_n C.ex C.by d_Cert_init_65 rfl (lv_at hv 0 rfl) ?_
  refine lv_iconst (v := (0 : Int32)) C.ex C.by d_Cert_init_66 (by decide) ?_
  let h14 : AH := up_I h13 r0 12 (0 : Int32)
  replace hw := hw h14 rfl
  refine fx_putI C F lf_Cert_48 hk1 rfl rfl (fx_mayF.no rfl rfl) d_Cert_init_67 (fun H locs (F : fx_F D h0 h14 H locs _ _) => ?_)
  refine lv_aload_n C.ex C.by d_Cert_init_70 rfl (lv_at hv 0 rfl) ?_
  refine lv_iconst (v := (0 : Int32)) C.ex C.by d_Cert_init_71 (by decide) ?_
  let h15 : AH := up_I h14 r0 13 (0 : Int32)
  replace hw := hw h15 rfl
  refine fx_putI C F lf_Cert_51 hk1 rfl rfl (fx_mayF.no rfl rfl) d_Cert_init_72 (fun H locs (F : fx_F D h0 h15 H locs _ _) => ?_)
  refine lv_aload_n C.ex C.by d_Cert_init_75 rfl (lv_at hv 0 rfl) ?_
  refine lv_iconst (v := (0 : Int32)) C.ex C.by d_Cert_init_76 (by decide) ?_
  let h16 : AH := up_I h15 r0 14 (0 : Int32)
  replace hw := hw h16 rfl
  refine fx_putI C F lf_Cert_54 hk1 rfl rfl (fx_mayF.no rfl rfl) d_Cert_init_77 (fun H locs (F : fx_F D h0 h16 H locs _ _) => ?_)
  refine lv_aload_n C.ex C.by d_Cert_init_80 rfl (lv_at hv 0 rfl) ?_
  refine lv_iconst (v := (0 : Int32)) C.ex C.by d_Cert_init_81 (by decide) ?_
  let h17 : AH := up_I h16 r0 15 (0 : Int32)
  replace hw := hw h17 rfl
  refine fx_putI C F lf_Cert_57 hk1 rfl rfl (fx_mayF.no rfl rfl) d_Cert_init_82 (fun H locs (F : fx_F D h0 h17 H locs _ _) => ?_)
  refine lv_aload_n C.ex C.by d_Cert_init_85 rfl (lv_at hv 0 rfl) ?_
  refine lv_lconst (v := (0 : Int64)) C.ex C.by d_Cert_init_86 (by decide) ?_
  let h18 : AH := up_L h17 r0 16 (0 : Int64)
  replace hw := hw h18 rfl
  refine fx_putL C F lf_Cert_60 hk1 rfl rfl (fx_mayF.no rfl rfl) d_Cert_init_87 (fun H locs (F : fx_F D h0 h18 H locs _ _) => ?_)
  refine lv_aload_n C.ex C.by d_Cert_init_90 rfl (lv_at hv 0 rfl) ?_
  refine lv_lconst (v := (0 : Int64)) C.ex C.by d_Cert_init_91 (by decide) ?_
  let h19 : AH := up_L h18 r0 17 (0 : Int64)
  replace hw := hw h19 rfl
  refine fx_putL C F lf_Cert_64 hk1 rfl rfl (fx_mayF.no rfl rfl) d_Cert_init_92 (fun H locs (F : fx_F D h0 h19 H locs _ _) => ?_)
  refine lv_aload_n C.ex C.by d_Cert_init_95 rfl (lv_at hv 0 rfl) ?_
  refine lv_iconst (v := (0 : Int32)) C.ex C.by d_Cert_init_96 (by decide) ?_
  let h20 : AH := up_I h19 r0 18 (0 : Int32)
  replace hw := hw h20 rfl
  refine fx_putZ C F lf_Cert_67 hk1 rfl rfl (Or.inl rfl) (fx_mayF.no rfl rfl) d_Cert_init_97 (fun H locs (F : fx_F D h0 h20 H locs _ _) => ?_)
  refine lv_aload_n C.ex C.by d_Cert_init_100 rfl (lv_at hv 0 rfl) ?_
  refine lv_iconst (v := (0 : Int32)) C.ex C.by d_Cert_init_101 (by decide) ?_
  let h21 : AH := up_I h20 r0 19 (0 : Int32)
  replace hw := hw h21 rfl
  refine fx_putZ C F lf_Cert_71 hk1 rfl rfl (Or.inl rfl) (fx_mayF.no rfl rfl) d_Cert_init_102 (fun H locs (F : fx_F D h0 h21 H locs _ _) => ?_)
  refine lv_aload_n C.ex C.by d_Cert_init_105 rfl (lv_at hv 0 rfl) ?_
  refine lv_iconst (v := (0 : Int32)) C.ex C.by d_Cert_init_106 (by decide) ?_
  let h22 : AH := up_I h21 r0 20 (0 : Int32)
  replace hw := hw h22 rfl
  refine fx_putI C F lf_Cert_74 hk1 rfl rfl (fx_mayF.no rfl rfl) d_Cert_init_107 (fun H locs (F : fx_F D h0 h22 H locs _ _) => ?_)
  refine lv_aload_n C.ex C.by d_Cert_init_110 rfl (lv_at hv 0 rfl) ?_
  refine lv_iconst (v := (-1 : Int32)) C.ex C.by d_Cert_init_111 (by decide) ?_
  let h23 : AH := up_I h22 r0 21 (-1 : Int32)
  replace hw := hw h23 rfl
  refine fx_putI C F lf_Cert_77 hk1 rfl rfl (fx_mayF.no rfl rfl) d_Cert_init_112 (fun H locs (F : fx_F D h0 h23 H locs _ _) => ?_)
  refine lv_aload_n C.ex C.by d_Cert_init_115 rfl (lv_at hv 0 rfl) ?_
  refine lv_iconst (v := (-1 : Int32)) C.ex C.by d_Cert_init_116 (by decide) ?_
  let h24 : AH := up_I h23 r0 22 (-1 : Int32)
  replace hw := hw h24 rfl
  refine fx_putI C F lf_Cert_80 hk1 rfl rfl (fx_mayF.no rfl rfl) d_Cert_init_117 (fun H locs (F : fx_F D h0 h24 H locs _ _) => ?_)
  refine lv_aload_n C.ex C.by d_Cert_init_120 rfl (lv_at hv 0 rfl) ?_
  refine lv_iconst (v := (-1 : Int32)) C.ex C.by d_Cert_init_121 (by decide) ?_
  let h25 : AH := up_I h24 r0 23 (-1 : Int32)
  replace hw := hw h25 rfl
  refine fx_putI C F lf_Cert_83 hk1 rfl rfl (fx_mayF.no rfl rfl) d_Cert_init_122 (fun H locs (F : fx_F D h0 h25 H locs _ _) => ?_)
  refine lv_aload_n C.ex C.by d_Cert_init_125 rfl (lv_at hv 0 rfl) ?_
  refine lv_iconst (v := (0 : Int32)) C.ex C.by d_Cert_init_126 (by decide) ?_
  let h26 : AH := up_I h25 r0 24 (0 : Int32)
  replace hw := hw h26 rfl
  refine fx_putI C F lf_Cert_86 hk1 rfl rfl (fx_mayF.no rfl rfl) d_Cert_init_127 (fun H locs (F : fx_F D h0 h26 H locs _ _) => ?_)
  refine lv_aload_n C.ex C.by d_Cert_init_130 rfl (lv_at hv 0 rfl) ?_
  refine lv_iconst (v := (0 : Int32)) C.ex C.by d_Cert_init_131 (by decide) ?_
  let h27 : AH := up_I h26 r0 25 (0 : Int32)
  replace hw := hw h27 rfl
  refine fx_putI C F lf_Cert_89 hk1 rfl rfl (fx_mayF.no rfl rfl) d_Cert_init_132 (fun H locs (F : fx_F D h0 h27 H locs _ _) => ?_)
  refine lv_aload_n C.ex C.by d_Cert_init_135 rfl (lv_at hv 0 rfl) ?_
  refine lv_iconst (v := (0 : Int32)) C.ex C.by d_Cert_init_136 (by decide) ?_
  let h28 : AH := up_I h27 r0 26 (0 : Int32)
  replace hw := hw h28 rfl
  refine fx_putI C F lf_Cert_92 hk1 rfl rfl (fx_mayF.no rfl rfl) d_Cert_init_137 (fun H locs (F : fx_F D h0 h28 H locs _ _) => ?_)
  refine lv_aload_n C.ex C.by d_Cert_init_140 rfl (lv_at hv 0 rfl) ?_
  refine lv_iconst (v := (0 : Int32)) C.ex C.by d_Cert_init_141 (by decide) ?_
  let h29 : AH := up_I h28 r0 27 (0 : Int32)
  replace hw := hw h29 rfl
  refine fx_putI C F lf_Cert_95 hk1 rfl rfl (fx_mayF.no rfl rfl) d_Cert_init_142 (fun H locs (F : fx_F D h0 h29 H locs _ _) => ?_)
  refine lv_aload_n C.ex C.by d_Cert_init_145 rfl (lv_at hv 0 rfl) ?_
  refine lv_iconst (v := (0 : Int32)) C.ex C.by d_Cert_init_146 (by decide) ?_
  let h30 : AH := up_I h29 r0 28 (0 : Int32)
  replace hw := hw h30 rfl
  refine fx_putI C F lf_Cert_98 hk1 rfl rfl (fx_mayF.no rfl rfl) d_Cert_init_147 (fun H locs (F : fx_F D h0 h30 H locs _ _) => ?_)
  refine lv_aload_n C.ex C.by d_Cert_init_150 rfl (lv_at hv 0 rfl) ?_
  refine lv_aload_n C.ex C.by d_Cert_init_151 rfl (lv_at hv 1 rfl) ?_
  let h31 : AH := up_R h30 r0 0 (some r1)
  replace hw := hw h31 rfl
  refine fx_putR C F lf_Cert_101 hk1 rfl rfl (fx_mayF.ini rfl rfl rfl) d_Cert_init_152 (fun H locs (F : fx_F D h0 h31 H locs _ _) => ?_)
  exact fx_vret C F d_Cert_init_155 (Or.inl ⟨rfl, hw⟩)
theorem hm_Cert_init : fx_hd y_Cert_init prog_2_method_1_code 2 (none) [] ∈ tables_1 := (fx_m1 (List.mem_of_getElem? (i := 200) rfl))
theorem hi_Cert_init : Cond.initialized y_Cert_init.cls ∈ tables_1 := (fx_m1 (List.mem_of_getElem? (i := 11) rfl))
theorem c_Cert_init {l : Launch} (hl : l.flags = flags0) {D : DD} {Q : AH → Prop} {r0 : Nat} {r1 : Nat} {h : AH} (hw : m_Cert_init Q r0 r1 h) : fx_Mt l D y_Cert_init (fx_hd y_Cert_init prog_2_method_1_code 2 (none) []) 2 26 [.ref r0, .ref r1] h (fx_oV Q fx_no) := by
  refine fx_ofW (plainFor_of_name (by decide)) (fun p e s m below meth c C F => ?_)
  have hv := lv_entry ([.ref r0, .ref r1]) (n := 2) (Nat.le_of_ble_eq_true rfl)
  rw [lg_entry_eq]
  generalize (lg_sl ([.ref r0, .ref r1]) ++ List.replicate (2 - (lg_sl ([.ref r0, .ref r1])).length) Slot.unset).toArray = ls at hv ⊢
  have hv : lv_has ls 2 [(0, .ref r0), (1, .ref r1)] := hv
  exact b_Cert_init_0 C hl _ _ _ hw _ _ _ _ _ hv F
/-! ChainJudge$Writer.<init>()V: frames 1, words 12 -/
abbrev y_Wr_init : MethodName := ⟨"ChainJudge$Writer", "<init>", "()V"⟩
theorem lf_Wr_7 : fx_Lk "ChainJudge$Writer" 7 10 0 := fx_Lk.mk (C := "ChainJudge$Writer") (T := fx_T10) (N := 2) rfl (by decide) (by decide) (fx_m2 (List.mem_of_getElem? (i := 96) rfl))
theorem lf_Wr_13 : fx_Lk "ChainJudge$Writer" 13 10 1 := fx_Lk.mk (C := "ChainJudge$Writer") (T := fx_T10) (N := 2) rfl (by decide) (by decide) (fx_m2 (List.mem_of_getElem? (i := 98) rfl))
def dl_Wr_init : List (Nat × Instr × Nat) := [(0, .aload_n 0, 1), (1, .invokespecial 1, 3), (4, .aload_n 0, 1), (5, .sipush 512, 3), (8, .newarray .byte, 2), (10, .putfield 7, 3), (13, .aload_n 0, 1), (14, .sipush 512, 3), (17, .putfield 13, 3), (20, .return_, 1)]
theorem dk_Wr_init : fx_dec prog_13_method_1_code dl_Wr_init = true := by decide +kernel
theorem d_Wr_init_0 : decode prog_13_method_1_code 0 = .ok (.aload_n 0, 1) := fx_dat dk_Wr_init 0 rfl
theorem d_Wr_init_1 : decode prog_13_method_1_code 1 = .ok (.invokespecial 1, 3) := fx_dat dk_Wr_init 1 rfl
theorem d_Wr_init_4 : decode prog_13_method_1_code 4 = .ok (.aload_n 0, 1) := fx_dat dk_Wr_init 2 rfl
theorem d_Wr_init_5 : decode prog_13_method_1_code 5 = .ok (.sipush 512, 3) := fx_dat dk_Wr_init 3 rfl
theorem d_Wr_init_8 : decode prog_13_method_1_code 8 = .ok (.newarray .byte, 2) := fx_dat dk_Wr_init 4 rfl
theorem d_Wr_init_10 : decode prog_13_method_1_code 10 = .ok (.putfield 7, 3) := fx_dat dk_Wr_init 5 rfl
theorem d_Wr_init_13 : decode prog_13_method_1_code 13 = .ok (.aload_n 0, 1) := fx_dat dk_Wr_init 6 rfl
theorem d_Wr_init_14 : decode prog_13_method_1_code 14 = .ok (.sipush 512, 3) := fx_dat dk_Wr_init 7 rfl
theorem d_Wr_init_17 : decode prog_13_method_1_code 17 = .ok (.putfield 13, 3) := fx_dat dk_Wr_init 8 rfl
theorem d_Wr_init_20 : decode prog_13_method_1_code 20 = .ok (.return_, 1) := fx_dat dk_Wr_init 9 rfl
def m_Wr_init (Q : AH → Prop) (r0 : Nat) (h : AH) : Prop := fx_has h 512 ∧ ∀ (_ : fx_wf h) (q1 : Nat), q1 = hp_z h → ∀ h1 : AH, h1 = up_N h 101 512 512 → hp_k h1 r0 = 11 ∧ ∀ h2 : AH, h2 = up_R h1 r0 0 (some q1) → ∀ h3 : AH, h3 = up_I h2 r0 1 (512 : Int32) → Q h3
theorem b_Wr_init_0 {p : Program} {l : Launch} {e : Env} {R : Room} {s : State} {m : MethodId} {args : Array Value} {below : List Frame} {meth : Method} {c : Code} {D : DD} {h0 : AH} {Q : AH → Prop} (C : fx_CX D y_Wr_init prog_13_method_1_code 1 1 12 (none) [] h0 p R s m meth c) (hl : l.flags = flags0) (r0 : Nat) (h : AH) (hw : m_Wr_init Q r0 h) : ∀ (ls : Array Slot) (H : Heap) (locs : List Loc) (cells slots : Nat), lv_has ls 1 [(0, .ref r0)] → fx_F D h0 h H locs cells slots → W p l e R s m args below meth c H locs cells slots (fx_Z D below s h0 (fx_oV Q fx_no)) (F0 m 0 ls []) := by
  unfold m_Wr_init at hw
  intro ls H locs cells slots hv F
  refine lv_aload_n C.ex C.by d_Wr_init_0 rfl (lv_at hv 0 rfl) ?_
  refine fx_objI C (fx_m2 (List.mem_of_getElem? (i := 95) rfl)) (fx_m1 (List.mem_of_getElem? (i := 38) rfl)) (fx_m1 (List.mem_of_getElem? (i := 39) rfl)) hv.1 d_Wr_init_1 (by decide) (Nat.le_of_ble_eq_true rfl) ?_
  refine lv_aload_n C.ex C.by d_Wr_init_4 rfl (lv_at hv 0 rfl) ?_
  refine lv_sipush (v := (512 : Int32)) C.ex C.by d_Wr_init_5 (by decide) ?_
  obtain ⟨hs, hw⟩ := hw
  let q1 : Nat := hp_z h
  let h1 : AH := up_N h 101 512 512
  replace hw := hw F.wf q1 rfl h1 rfl
  have hkq1 : hp_k h1 q1 = 101 := fx_nk _ _ _ _
  refine fx_newaB (n := (512 : Int32)) C F (fx_m1 (List.mem_of_getElem? (i := 55) rfl)) (by decide) (by decide) hs d_Wr_init_8 (fun H cells slots (F : fx_F D h0 h1 H locs cells slots) => ?_)
  obtain ⟨hk1, hw⟩ := hw
  let h2 : AH := up_R h1 r0 0 (some q1)
  replace hw := hw h2 rfl
  refine fx_putR C F lf_Wr_7 hk1 rfl rfl (fx_mayF.no rfl rfl) d_Wr_init_10 (fun H locs (F : fx_F D h0 h2 H locs _ _) => ?_)
  refine lv_aload_n C.ex C.by d_Wr_init_13 rfl (lv_at hv 0 rfl) ?_
  refine lv_sipush (v := (512 : Int32)) C.ex C.by d_Wr_init_14 (by decide) ?_
  let h3 : AH := up_I h2 r0 1 (512 : Int32)
  replace hw := hw h3 rfl
  refine fx_putI C F lf_Wr_13 hk1 rfl rfl (fx_mayF.no rfl rfl) d_Wr_init_17 (fun H locs (F : fx_F D h0 h3 H locs _ _) => ?_)
  exact fx_vret C F d_Wr_init_20 (Or.inl ⟨rfl, hw⟩)
theorem hm_Wr_init : fx_hd y_Wr_init prog_13_method_1_code 1 (none) [] ∈ tables_1 := (fx_m2 (List.mem_of_getElem? (i := 94) rfl))
theorem hi_Wr_init : Cond.initialized y_Wr_init.cls ∈ tables_1 := (fx_m1 (List.mem_of_getElem? (i := 14) rfl))
theorem c_Wr_init {l : Launch} (hl : l.flags = flags0) {D : DD} {Q : AH → Prop} {r0 : Nat} {h : AH} (hw : m_Wr_init Q r0 h) : fx_Mt l D y_Wr_init (fx_hd y_Wr_init prog_13_method_1_code 1 (none) []) 1 12 [.ref r0] h (fx_oV Q fx_no) := by
  refine fx_ofW (plainFor_of_name (by decide)) (fun p e s m below meth c C F => ?_)
  have hv := lv_entry ([.ref r0]) (n := 1) (Nat.le_of_ble_eq_true rfl)
  rw [lg_entry_eq]
  generalize (lg_sl ([.ref r0]) ++ List.replicate (1 - (lg_sl ([.ref r0])).length) Slot.unset).toArray = ls at hv ⊢
  have hv : lv_has ls 1 [(0, .ref r0)] := hv
  exact b_Wr_init_0 C hl _ _ hw _ _ _ _ _ hv F
