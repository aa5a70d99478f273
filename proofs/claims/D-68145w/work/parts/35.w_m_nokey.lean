set_option maxRecDepth 10000
/-! ChainJudgeModel.noKey(I)Z: frames 0, words 0 -/
abbrev y_M_noKey : MethodName := ⟨"ChainJudgeModel", "noKey", "(I)Z"⟩
theorem lf_M_353 : fx_Lk "ChainJudgeModel" 353 12 5 := fx_Lk.mk (C := "ChainJudgeModel") (T := fx_T12) (N := 57) rfl (by decide) (by decide) (fx_m6 (List.mem_of_getElem? (i := 11) rfl))
def dl_M_noKey : List (Nat × Instr × Nat) := [(0, .iload_n 1, 1), (1, .ifCond .lt 11, 3), (4, .iload_n 1, 1), (5, .aload_n 0, 1), (6, .getfield 353, 3), (9, .if_icmp .lt 7, 3), (12, .iconst 1, 1), (13, .goto 4, 3), (16, .iconst 0, 1), (17, .ireturn, 1)]
theorem dk_M_noKey : fx_dec prog_15_method_51_code dl_M_noKey = true := by decide +kernel
theorem d_M_noKey_0 : decode prog_15_method_51_code 0 = .ok (.iload_n 1, 1) := fx_dat dk_M_noKey 0 rfl
theorem d_M_noKey_1 : decode prog_15_method_51_code 1 = .ok (.ifCond .lt 11, 3) := fx_dat dk_M_noKey 1 rfl
theorem d_M_noKey_4 : decode prog_15_method_51_code 4 = .ok (.iload_n 1, 1) := fx_dat dk_M_noKey 2 rfl
theorem d_M_noKey_5 : decode prog_15_method_51_code 5 = .ok (.aload_n 0, 1) := fx_dat dk_M_noKey 3 rfl
theorem d_M_noKey_6 : decode prog_15_method_51_code 6 = .ok (.getfield 353, 3) := fx_dat dk_M_noKey 4 rfl
theorem d_M_noKey_9 : decode prog_15_method_51_code 9 = .ok (.if_icmp .lt 7, 3) := fx_dat dk_M_noKey 5 rfl
theorem d_M_noKey_12 : decode prog_15_method_51_code 12 = .ok (.iconst 1, 1) := fx_dat dk_M_noKey 6 rfl
theorem d_M_noKey_13 : decode prog_15_method_51_code 13 = .ok (.goto 4, 3) := fx_dat dk_M_noKey 7 rfl
theorem d_M_noKey_16 : decode prog_15_method_51_code 16 = .ok (.iconst 0, 1) := fx_dat dk_M_noKey 8 rfl
theorem d_M_noKey_17 : decode prog_15_method_51_code 17 = .ok (.ireturn, 1) := fx_dat dk_M_noKey 9 rfl
def m_M_noKey_17 (Q : Int32 → AH → Prop) (sx0 : Int32) (h : AH) : Prop := zb sx0 ∧ Q sx0 h
def m_M_noKey_12 (Q : Int32 → AH → Prop) (h : AH) : Prop := m_M_noKey_17 Q (1 : Int32) h
def m_M_noKey (Q : Int32 → AH → Prop) (r0 : Nat) (x1 : Int32) (h : AH) : Prop := (x1 < 0 → m_M_noKey_12 Q h) ∧ (¬ x1 < 0 → hp_k h r0 = 13 ∧ (x1 < (hp_I h r0 5) → m_M_noKey_17 Q (0 : Int32) h) ∧ (¬ x1 < (hp_I h r0 5) → m_M_noKey_12 Q h))
theorem b_M_noKey_17 {p : Program} {l : Launch} {e : Env} {R : Room} {s : State} {m : MethodId} {args : Array Value} {below : List Frame} {meth : Method} {c : Code} {D : DD} {h0 : AH} {Q : Int32 → AH → Prop} (C : fx_CX D y_M_noKey prog_15_method_51_code 2 0 0 (Option.some FieldType.boolean) [] h0 p R s m meth c) (hl : l.flags = flags0) (sx0 : Int32) (h : AH) (hw : m_M_noKey_17 Q sx0 h) : ∀ (ls : Array Slot) (H : Heap) (locs : List Loc) (cells slots : Nat), lv_has ls 2 [] → fx_F D h0 h H locs cells slots → W p l e R s m args below meth c H locs cells slots (fx_Z D below s h0 (fx_oZ Q fx_no)) (F0 m 17 ls [.int sx0]) := by
  unfold m_M_noKey_17 at hw
  intro ls H locs cells slots hv F
  exact fx_zret C F d_M_noKey_17 hw.1 (Or.inl ⟨_, rfl, hw.1, hw.2⟩)
theorem b_M_noKey_12 {p : Program} {l : Launch} {e : Env} {R : Room} {s : State} {m : MethodId} {args : Array Value} {below : List Frame} {meth : Method} {c : Code} {D : DD} {h0 : AH} {Q : Int32 → AH → Prop} (C : fx_CX D y_M_noKey prog_15_method_51_code 2 0 0 (Option.some FieldType.boolean) [] h0 p R s m meth c) (hl : l.flags = flags0) (h : AH) (hw : m_M_noKey_12 Q h) : ∀ (ls : Array Slot) (H : Heap) (locs : List Loc) (cells slots : Nat), lv_has ls 2 [] → fx_F D h0 h H locs cells slots → W p l e R s m args below meth c H locs cells slots (fx_Z D below s h0 (fx_oZ Q fx_no)) (F0 m 12 ls []) := by
  unfold m_M_noKey_12 at hw
  intro ls H locs cells slots hv F
  refine lv_iconst (v := (1 : Int32)) C.ex C.by d_M_noKey_12 (by decide) ?_
  refine lv_goto C.ex C.by d_M_noKey_13 rfl ?_
  exact b_M_noKey_17 C hl _ _ hw _ _ _ _ _ hv F
theorem b_M_noKey_0 {p : Program} {l : Launch} {e : Env} {R : Room} {s : State} {m : MethodId} {args : Array Value} {below : List Frame} {meth : Method} {c : Code} {D : DD} {h0 : AH} {Q : Int32 → AH → Prop} (C : fx_CX D y_M_noKey prog_15_method_51_code 2 0 0 (Option.some FieldType.boolean) [] h0 p R s m meth c) (hl : l.flags = flags0) (r0 : Nat) (x1 : Int32) (h : AH) (hw : m_M_noKey Q r0 x1 h) : ∀ (ls : Array Slot) (H : Heap) (locs : List Loc) (cells slots : Nat), lv_has ls 2 [(0, .ref r0), (1, .int x1)] → fx_F D h0 h H locs cells slots → W p l e R s m args below meth c H locs cells slots (fx_Z D below s h0 (fx_oZ Q fx_no)) (F0 m 0 ls []) := by
  unfold m_M_noKey at hw
  intro ls H locs cells slots hv F
  refine lv_iload_n C.ex C.by d_M_noKey_0 rfl (lv_at hv 1 rfl) ?_
  refine lv_if_lt C.ex C.by d_M_noKey_1 rfl (fun hc => ?_) (fun hc => ?_)
  · replace hw := hw.1 hc
    exact b_M_noKey_12 C hl _ hw _ _ _ _ _ (lv_sub hv [] rfl) F
  · replace hw := hw.2 hc
    refine lv_iload_n C.ex C.by d_M_noKey_4 rfl (lv_at hv 1 rfl) ?_
    refine lv_aload_n C.ex C.by d_M_noKey_5 rfl (lv_at hv 0 rfl) ?_
    obtain ⟨hk1, hw⟩ := hw
    refine fx_getI C F lf_M_353 hk1 rfl d_M_noKey_6 ?_
    refine lv_icmp_lt C.ex C.by d_M_noKey_9 rfl (fun hc => ?_) (fun hc => ?_)
    · replace hw := hw.1 hc
      refine lv_iconst (v := (0 : Int32)) C.ex C.by d_M_noKey_16 (by decide) ?_
      exact b_M_noKey_17 C hl _ _ hw _ _ _ _ _ (lv_sub hv [] rfl) F
    · replace hw := hw.2 hc
      exact b_M_noKey_12 C hl _ hw _ _ _ _ _ (lv_sub hv [] rfl) F
theorem hm_M_noKey : fx_hd y_M_noKey prog_15_method_51_code 2 (Option.some FieldType.boolean) [] ∈ tables_1 := (fx_m6 (List.mem_of_getElem? (i := 190) rfl))
theorem hi_M_noKey : Cond.initialized y_M_noKey.cls ∈ tables_1 := (fx_m1 (List.mem_of_getElem? (i := 15) rfl))
theorem c_M_noKey {l : Launch} (hl : l.flags = flags0) {D : DD} {Q : Int32 → AH → Prop} {r0 : Nat} {x1 : Int32} {h : AH} (hw : m_M_noKey Q r0 x1 h) : fx_Mt l D y_M_noKey (fx_hd y_M_noKey prog_15_method_51_code 2 (Option.some FieldType.boolean) []) 0 0 [.ref r0, .int x1] h (fx_oZ Q fx_no) := by
  refine fx_ofW (plainFor_of_name (by decide)) (fun p e s m below meth c C F => ?_)
  have hv := lv_entry ([.ref r0, .int x1]) (n := 2) (Nat.le_of_ble_eq_true rfl)
  rw [lg_entry_eq]
  generalize (lg_sl ([.ref r0, .int x1]) ++ List.replicate (2 - (lg_sl ([.ref r0, .int x1])).length) Slot.unset).toArray = ls at hv ⊢
  have hv : lv_has ls 2 [(0, .ref r0), (1, .int x1)] := hv
  exact b_M_noKey_0 C hl _ _ _ hw _ _ _ _ _ hv F
/-! ChainJudgeModel.none(I)Z: frames 0, words 0 -/
abbrev y_M_none : MethodName := ⟨"ChainJudgeModel", "none", "(I)Z"⟩
theorem lf_M_350 : fx_Lk "ChainJudgeModel" 350 12 10 := fx_Lk.mk (C := "ChainJudgeModel") (T := fx_T12) (N := 57) rfl (by decide) (by decide) (fx_m6 (List.mem_of_getElem? (i := 16) rfl))
def dl_M_none : List (Nat × Instr × Nat) := [(0, .iload_n 1, 1), (1, .ifCond .lt 11, 3), (4, .iload_n 1, 1), (5, .aload_n 0, 1), (6, .getfield 350, 3), (9, .if_icmp .lt 7, 3), (12, .iconst 1, 1), (13, .goto 4, 3), (16, .iconst 0, 1), (17, .ireturn, 1)]
theorem dk_M_none : fx_dec prog_15_method_52_code dl_M_none = true := by decide +kernel
theorem d_M_none_0 : decode prog_15_method_52_code 0 = .ok (.iload_n 1, 1) := fx_dat dk_M_none 0 rfl
theorem d_M_none_1 : decode prog_15_method_52_code 1 = .ok (.ifCond .lt 11, 3) := fx_dat dk_M_none 1 rfl
theorem d_M_none_4 : decode prog_15_method_52_code 4 = .ok (.iload_n 1, 1) := fx_dat dk_M_none 2 rfl
theorem d_M_none_5 : decode prog_15_method_52_code 5 = .ok (.aload_n 0, 1) := fx_dat dk_M_none 3 rfl
theorem d_M_none_6 : decode prog_15_method_52_code 6 = .ok (.getfield 350, 3) := fx_dat dk_M_none 4 rfl
theorem d_M_none_9 : decode prog_15_method_52_code 9 = .ok (.if_icmp .lt 7, 3) := fx_dat dk_M_none 5 rfl
theorem d_M_none_12 : decode prog_15_method_52_code 12 = .ok (.iconst 1, 1) := fx_dat dk_M_none 6 rfl
theorem d_M_none_13 : decode prog_15_method_52_code 13 = .ok (.goto 4, 3) := fx_dat dk_M_none 7 rfl
theorem d_M_none_16 : decode prog_15_method_52_code 16 = .ok (.iconst 0, 1) := fx_dat dk_M_none 8 rfl
theorem d_M_none_17 : decode prog_15_method_52_code 17 = .ok (.ireturn, 1) := fx_dat dk_M_none 9 rfl
def m_M_none_17 (Q : Int32 → AH → Prop) (sx0 : Int32) (h : AH) : Prop := zb sx0 ∧ Q sx0 h
def m_M_none_12 (Q : Int32 → AH → Prop) (h : AH) : Prop := m_M_none_17 Q (1 : Int32) h
def m_M_none (Q : Int32 → AH → Prop) (r0 : Nat) (x1 : Int32) (h : AH) : Prop := (x1 < 0 → m_M_none_12 Q h) ∧ (¬ x1 < 0 → hp_k h r0 = 13 ∧ (x1 < (hp_I h r0 10) → m_M_none_17 Q (0 : Int32) h) ∧ (¬ x1 < (hp_I h r0 10) → m_M_none_12 Q h))
theorem b_M_none_17 {p : Program} {l : Launch} {e : Env} {R : Room} {s : State} {m : MethodId} {args : Array Value} {below : List Frame} {meth : Method} {c : Code} {D : DD} {h0 : AH} {Q : Int32 → AH → Prop} (C : fx_CX D y_M_none prog_15_method_52_code 2 0 0 (Option.some FieldType.boolean) [] h0 p R s m meth c) (hl : l.flags = flags0) (sx0 : Int32) (h : AH) (hw : m_M_none_17 Q sx0 h) : ∀ (ls : Array Slot) (H : Heap) (locs : List Loc) (cells slots : Nat), lv_has ls 2 [] → fx_F D h0 h H locs cells slots → W p l e R s m args below meth c H locs cells slots (fx_Z D below s h0 (fx_oZ Q fx_no)) (F0 m 17 ls [.int sx0]) := by
  unfold m_M_none_17 at hw
  intro ls H locs cells slots hv F
  exact fx_zret C F d_M_none_17 hw.1 (Or.inl ⟨_, rfl, hw.1, hw.2⟩)
theorem b_M_none_12 {p : Program} {l : Launch} {e : Env} {R : Room} {s : State} {m : MethodId} {args : Array Value} {below : List Frame} {meth : Method} {c : Code} {D : DD} {h0 : AH} {Q : Int32 → AH → Prop} (C : fx_CX D y_M_none prog_15_method_52_code 2 0 0 (Option.some FieldType.boolean) [] h0 p R s m meth c) (hl : l.flags = flags0) (h : AH) (hw : m_M_none_12 Q h) : ∀ (ls : Array Slot) (H : Heap) (locs : List Loc) (cells slots : Nat), lv_has ls 2 [] → fx_F D h0 h H locs cells slots → W p l e R s m args below meth c H locs cells slots (fx_Z D below s h0 (fx_oZ Q fx_no)) (F0 m 12 ls []) := by
  unfold m_M_none_12 at hw
  intro ls H locs cells slots hv F
  refine lv_iconst (v := (1 : Int32)) C.ex C.by d_M_none_12 (by decide) ?_
  refine lv_goto C.ex C.by d_M_none_13 rfl ?_
  exact b_M_none_17 C hl _ _ hw _ _ _ _ _ hv F
theorem b_M_none_0 {p : Program} {l : Launch} {e : Env} {R : Room} {s : State} {m : MethodId} {args : Array Value} {below : List Frame} {meth : Method} {c : Code} {D : DD} {h0 : AH} {Q : Int32 → AH → Prop} (C : fx_CX D y_M_none prog_15_method_52_code 2 0 0 (Option.some FieldType.boolean) [] h0 p R s m meth c) (hl : l.flags = flags0) (r0 : Nat) (x1 : Int32) (h : AH) (hw : m_M_none Q r0 x1 h) : ∀ (ls : Array Slot) (H : Heap) (locs : List Loc) (cells slots : Nat), lv_has ls 2 [(0, .ref r0), (1, .int x1)] → fx_F D h0 h H locs cells slots → W p l e R s m args below meth c H locs cells slots (fx_Z D below s h0 (fx_oZ Q fx_no)) (F0 m 0 ls []) := by
  unfold m_M_none at hw
  intro ls H locs cells slots hv F
  refine lv_iload_n C.ex C.by d_M_none_0 rfl (lv_at hv 1 rfl) ?_
  refine lv_if_lt C.ex C.by d_M_none_1 rfl (fun hc => ?_) (fun hc => ?_)
  · replace hw := hw.1 hc
    exact b_M_none_12 C hl _ hw _ _ _ _ _ (lv_sub hv [] rfl) F
  · replace hw := hw.2 hc
    refine lv_iload_n C.ex C.by d_M_none_4 rfl (lv_at hv 1 rfl) ?_
    refine lv_aload_n C.ex C.by d_M_none_5 rfl (lv_at hv 0 rfl) ?_
    obtain ⟨hk1, hw⟩ := hw
    refine fx_getI C F lf_M_350 hk1 rfl d_M_none_6 ?_
    refine lv_icmp_lt C.ex C.by d_M_none_9 rfl (fun hc => ?_) (fun hc => ?_)
    · replace hw := hw.1 hc
      refine lv_iconst (v := (0 : Int32)) C.ex C.by d_M_none_16 (by decide) ?_
      exact b_M_none_17 C hl _ _ hw _ _ _ _ _ (lv_sub hv [] rfl) F
    · replace hw := hw.2 hc
      exact b_M_none_12 C hl _ hw _ _ _ _ _ (lv_sub hv [] rfl) F
theorem hm_M_none : fx_hd y_M_none prog_15_method_52_code 2 (Option.some FieldType.boolean) [] ∈ tables_1 := (fx_m6 (List.mem_of_getElem? (i := 194) rfl))
theorem hi_M_none : Cond.initialized y_M_none.cls ∈ tables_1 := (fx_m1 (List.mem_of_getElem? (i := 15) rfl))
theorem c_M_none {l : Launch} (hl : l.flags = flags0) {D : DD} {Q : Int32 → AH → Prop} {r0 : Nat} {x1 : Int32} {h : AH} (hw : m_M_none Q r0 x1 h) : fx_Mt l D y_M_none (fx_hd y_M_none prog_15_method_52_code 2 (Option.some FieldType.boolean) []) 0 0 [.ref r0, .int x1] h (fx_oZ Q fx_no) := by
  refine fx_ofW (plainFor_of_name (by decide)) (fun p e s m below meth c C F => ?_)
  have hv := lv_entry ([.ref r0, .int x1]) (n := 2) (Nat.le_of_ble_eq_true rfl)
  rw [lg_entry_eq]
  generalize (lg_sl ([.ref r0, .int x1]) ++ List.replicate (2 - (lg_sl ([.ref r0, .int x1])).length) Slot.unset).toArray = ls at hv ⊢
  have hv : lv_has ls 2 [(0, .ref r0), (1, .int x1)] := hv
  exact b_M_none_0 C hl _ _ _ hw _ _ _ _ _ hv F
/-! ChainJudgeModel.fail(I)I: frames 0, words 0 -/
abbrev y_M_fail : MethodName := ⟨"ChainJudgeModel", "fail", "(I)I"⟩
def dl_M_fail : List (Nat × Instr × Nat) := [(0, .aload_n 0, 1), (1, .iload_n 1, 1), (2, .putfield 83, 3), (5, .iconst 0, 1), (6, .ireturn, 1)]
theorem dk_M_fail : fx_dec prog_15_method_3_code dl_M_fail = true := by decide +kernel
theorem d_M_fail_0 : decode prog_15_method_3_code 0 = .ok (.aload_n 0, 1) := fx_dat dk_M_fail 0 rfl
theorem d_M_fail_1 : decode prog_15_method_3_code 1 = .ok (.iload_n 1, 1) := fx_dat dk_M_fail 1 rfl
theorem d_M_fail_2 : decode prog_15_method_3_code 2 = .ok (.putfield 83, 3) := fx_dat dk_M_fail 2 rfl
theorem d_M_fail_5 : decode prog_15_method_3_code 5 = .ok (.iconst 0, 1) := fx_dat dk_M_fail 3 rfl
theorem d_M_fail_6 : decode prog_15_method_3_code 6 = .ok (.ireturn, 1) := fx_dat dk_M_fail 4 rfl
def m_M_fail (Q : Int32 → AH → Prop) (r0 : Nat) (x1 : Int32) (h : AH) : Prop := hp_k h r0 = 13 ∧ ∀ h1 : AH, h1 = up_I h r0 0 x1 → Q (0 : Int32) h1
theorem b_M_fail_0 {p : Program} {l : Launch} {e : Env} {R : Room} {s : State} {m : MethodId} {args : Array Value} {below : List Frame} {meth : Method} {c : Code} {D : DD} {h0 : AH} {Q : Int32 → AH → Prop} (C : fx_CX D y_M_fail prog_15_method_3_code 2 0 0 (Option.some FieldType.int) [] h0 p R s m meth c) (hl : l.flags = flags0) (r0 : Nat) (x1 : Int32) (h : AH) (hw : m_M_fail Q r0 x1 h) : ∀ (ls : Array Slot) (H : Heap) (locs : List Loc) (cells slots : Nat), lv_has ls 2 [(0, .ref r0), (1, .int x1)] → fx_F D h0 h H locs cells slots → W p l e R s m args below meth c H locs cells slots (fx_Z D below s h0 (fx_oI Q fx_no)) (F0 m 0 ls []) := by
  unfold m_M_fail at hw
  intro ls H locs cells slots hv F
  refine lv_aload_n C.ex C.by d_M_fail_0 rfl (lv_at hv 0 rfl) ?_
  refine lv_iload_n C.ex C.by d_M_fail_1 rfl (lv_at hv 1 rfl) ?_
  obtain ⟨hk1, hw⟩ := hw
  let h1 : AH := up_I h r0 0 x1
  replace hw := hw h1 rfl
  refine fx_putI C F lf_M_83 hk1 rfl rfl (fx_mayF.no rfl rfl) d_M_fail_2 (fun H locs (F : fx_F D h0 h1 H locs _ _) => ?_)
  refine lv_iconst (v := (0 : Int32)) C.ex C.by d_M_fail_5 (by decide) ?_
  exact fx_iret C F d_M_fail_6 (Or.inl ⟨_, rfl, hw⟩)
theorem hm_M_fail : fx_hd y_M_fail prog_15_method_3_code 2 (Option.some FieldType.int) [] ∈ tables_1 := (fx_m6 (List.mem_of_getElem? (i := 198) rfl))
theorem hi_M_fail : Cond.initialized y_M_fail.cls ∈ tables_1 := (fx_m1 (List.mem_of_getElem? (i := 15) rfl))
theorem c_M_fail {l : Launch} (hl : l.flags = flags0) {D : DD} {Q : Int32 → AH → Prop} {r0 : Nat} {x1 : Int32} {h : AH} (hw : m_M_fail Q r0 x1 h) : fx_Mt l D y_M_fail (fx_hd y_M_fail prog_15_method_3_code 2 (Option.some FieldType.int) []) 0 0 [.ref r0, .int x1] h (fx_oI Q fx_no) := by
  refine fx_ofW (plainFor_of_name (by decide)) (fun p e s m below meth c C F => ?_)
  have hv := lv_entry ([.ref r0, .int x1]) (n := 2) (Nat.le_of_ble_eq_true rfl)
  rw [lg_entry_eq]
  generalize (lg_sl ([.ref r0, .int x1]) ++ List.replicate (2 - (lg_sl ([.ref r0, .int x1])).length) Slot.unset).toArray = ls at hv ⊢
  have hv : lv_has ls 2 [(0, .ref r0), (1, .int x1)] := hv
  exact b_M_fail_0 C hl _ _ _ hw _ _ _ _ _ hv F
/-! ChainJudgeModel.comma()I: frames 0, words 0 -/
abbrev y_M_comma : MethodName := ⟨"ChainJudgeModel", "comma", "()I"⟩
theorem lf_M_328 : fx_Lk "ChainJudgeModel" 328 12 4 := fx_Lk.mk (C := "ChainJudgeModel") (T := fx_T12) (N := 57) rfl (by decide) (by decide) (fx_m6 (List.mem_of_getElem? (i := 10) rfl))
def dl_M_comma : List (Nat × Instr × Nat) := [(0, .iconst (-1), 1), (1, .istore_n 1, 1), (2, .iconst 0, 1), (3, .istore_n 2, 1), (4, .iconst 0, 1), (5, .istore_n 3, 1), (6, .iload_n 3, 1), (7, .aload_n 0, 1), (8, .getfield 328, 3), (11, .if_icmp .gt 92, 3), (14, .iload_n 3, 1), (15, .aload_n 0, 1), (16, .getfield 328, 3), (19, .if_icmp .ge 38, 3), (22, .aload_n 0, 1), (23, .getfield 8, 3), (26, .iload_n 3, 1), (27, .baload, 1), (28, .bipush 44, 2), (30, .if_icmp .eq 27, 3), (33, .aload_n 0, 1), (34, .getfield 8, 3), (37, .iload_n 3, 1), (38, .baload, 1), (39, .bipush 33, 2), (41, .if_icmp .lt 14, 3), (44, .aload_n 0, 1), (45, .getfield 8, 3), (48, .iload_n 3, 1), (49, .baload, 1), (50, .bipush 126, 2), (52, .if_icmp .le 45, 3), (55, .iconst (-1), 1), (56, .ireturn, 1), (57, .iload_n 3, 1), (58, .iload_n 2, 1), (59, .isub, 1), (60, .istore 4, 2), (62, .iload 4, 2), (64, .iconst 1, 1), (65, .if_icmp .lt 20, 3), (68, .iload 4, 2), (70, .iload_n 1, 1), (71, .ifCond .ge 8, 3), (74, .bipush 64, 2), (76, .goto 6, 3), (79, .sipush 250, 3), (82, .if_icmp .le 5, 3), (85, .iconst (-1), 1), (86, .ireturn, 1), (87, .iload_n 1, 1), (88, .ifCond .ge 5, 3), (91, .iload_n 3, 1), (92, .istore_n 1, 1), (93, .iload_n 3, 1), (94, .iconst 1, 1), (95, .iadd, 1), (96, .istore_n 2, 1), (97, .iinc 3 1, 3), (100, .goto (-94), 3), (103, .iload_n 1, 1), (104, .ireturn, 1)]
theorem dk_M_comma : fx_dec prog_15_method_53_code dl_M_comma = true := by decide +kernel
theorem d_M_comma_0 : decode prog_15_method_53_code 0 = .ok (.iconst (-1), 1) := fx_dat dk_M_comma 0 rfl
theorem d_M_comma_1 : decode prog_15_method_53_code 1 = .ok (.istore_n 1, 1) := fx_dat dk_M_comma 1 rfl
theorem d_M_comma_2 : decode prog_15_method_53_code 2 = .ok (.iconst 0, 1) := fx_dat dk_M_comma 2 rfl
theorem d_M_comma_3 : decode prog_15_method_53_code 3 = .ok (.istore_n 2, 1) := fx_dat dk_M_comma 3 rfl
theorem d_M_comma_4 : decode prog_15_method_53_code 4 = .ok (.iconst 0, 1) := fx_dat dk_M_comma 4 rfl
theorem d_M_comma_5 : decode prog_15_method_53_code 5 = .ok (.istore_n 3, 1) := fx_dat dk_M_comma 5 rfl
theorem d_M_comma_6 : decode prog_15_method_53_code 6 = .ok (.iload_n 3, 1) := fx_dat dk_M_comma 6 rfl
theorem d_M_comma_7 : decode prog_15_method_53_code 7 = .ok (.aload_n 0, 1) := fx_dat dk_M_comma 7 rfl
theorem d_M_comma_8 : decode prog_15_method_53_code 8 = .ok (.getfield 328, 3) := fx_dat dk_M_comma 8 rfl
theorem d_M_comma_11 : decode prog_15_method_53_code 11 = .ok (.if_icmp .gt 92, 3) := fx_dat dk_M_comma 9 rfl
theorem d_M_comma_14 : decode prog_15_method_53_code 14 = .ok (.iload_n 3, 1) := fx_dat dk_M_comma 10 rfl
theorem d_M_comma_15 : decode prog_15_method_53_code 15 = .ok (.aload_n 0, 1) := fx_dat dk_M_comma 11 rfl
theorem d_M_comma_16 : decode prog_15_method_53_code 16 = .ok (.getfield 328, 3) := fx_dat dk_M_comma 12 rfl
theorem d_M_comma_19 : decode prog_15_method_53_code 19 = .ok (.if_icmp .ge 38, 3) := fx_dat dk_M_comma 13 rfl
theorem d_M_comma_22 : decode prog_15_method_53_code 22 = .ok (.aload_n 0, 1) := fx_dat dk_M_comma 14 rfl
theorem d_M_comma_23 : decode prog_15_method_53_code 23 = .ok (.getfield 8, 3) := fx_dat dk_M_comma 15 rfl
theorem d_M_comma_26 : decode prog_15_method_53_code 26 = .ok (.iload_n 3, 1) := fx_dat dk_M_comma 16 rfl
theorem d_M_comma_27 : decode prog_15_method_53_code 27 = .ok (.baload, 1) := fx_dat dk_M_comma 17 rfl
theorem d_M_comma_28 : decode prog_15_method_53_code 28 = .ok (.bipush 44, 2) := fx_dat dk_M_comma 18 rfl
theorem d_M_comma_30 : decode prog_15_method_53_code 30 = .ok (.if_icmp .eq 27, 3) := fx_dat dk_M_comma 19 rfl
theorem d_M_comma_33 : decode prog_15_method_53_code 33 = .ok (.aload_n 0, 1) := fx_dat dk_M_comma 20 rfl
theorem d_M_comma_34 : decode prog_15_method_53_code 34 = .ok (.getfield 8, 3) := fx_dat dk_M_comma 21 rfl
theorem d_M_comma_37 : decode prog_15_method_53_code 37 = .ok (.iload_n 3, 1) := fx_dat dk_M_comma 22 rfl
theorem d_M_comma_38 : decode prog_15_method_53_code 38 = .ok (.baload, 1) := fx_dat dk_M_comma 23 rfl
theorem d_M_comma_39 : decode prog_15_method_53_code 39 = .ok (.bipush 33, 2) := fx_dat dk_M_comma 24 rfl
theorem d_M_comma_41 : decode prog_15_method_53_code 41 = .ok (.if_icmp .lt 14, 3) := fx_dat dk_M_comma 25 rfl
theorem d_M_comma_44 : decode prog_15_method_53_code 44 = .ok (.aload_n 0, 1) := fx_dat dk_M_comma 26 rfl
theorem d_M_comma_45 : decode prog_15_method_53_code 45 = .ok (.getfield 8, 3) := fx_dat dk_M_comma 27 rfl
theorem d_M_comma_48 : decode prog_15_method_53_code 48 = .ok (.iload_n 3, 1) := fx_dat dk_M_comma 28 rfl
theorem d_M_comma_49 : decode prog_15_method_53_code 49 = .ok (.baload, 1) := fx_dat dk_M_comma 29 rfl
theorem d_M_comma_50 : decode prog_15_method_53_code 50 = .ok (.bipush 126, 2) := fx_dat dk_M_comma 30 rfl
theorem d_M_comma_52 : decode prog_15_method_53_code 52 = .ok (.if_icmp .le 45, 3) := fx_dat dk_M_comma 31 rfl
theorem d_M_comma_55 : decode prog_15_method_53_code 55 = .ok (.iconst (-1), 1) := fx_dat dk_M_comma 32 rfl
theorem d_M_comma_56 : decode prog_15_method_53_code 56 = .ok (.ireturn, 1) := fx_dat dk_M_comma 33 rfl
theorem d_M_comma_57 : decode prog_15_method_53_code 57 = .ok (.iload_n 3, 1) := fx_dat dk_M_comma 34 rfl
theorem d_M_comma_58 : decode prog_15_method_53_code 58 = .ok (.iload_n 2, 1) := fx_dat dk_M_comma 35 rfl
theorem d_M_comma_59 : decode prog_15_method_53_code 59 = .ok (.isub, 1) := fx_dat dk_M_comma 36 rfl
theorem d_M_comma_60 : decode prog_15_method_53_code 60 = .ok (.istore 4, 2) := fx_dat dk_M_comma 37 rfl
theorem d_M_comma_62 : decode prog_15_method_53_code 62 = .ok (.iload 4, 2) := fx_dat dk_M_comma 38 rfl
theorem d_M_comma_64 : decode prog_15_method_53_code 64 = .ok (.iconst 1, 1) := fx_dat dk_M_comma 39 rfl
theorem d_M_comma_65 : decode prog_15_method_53_code 65 = .ok (.if_icmp .lt 20, 3) := fx_dat dk_M_comma 40 rfl
theorem d_M_comma_68 : decode prog_15_method_53_code 68 = .ok (.iload 4, 2) := fx_dat dk_M_comma 41 rfl
theorem d_M_comma_70 : decode prog_15_method_53_code 70 = .ok (.iload_n 1, 1) := fx_dat dk_M_comma 42 rfl
theorem d_M_comma_71 : decode prog_15_method_53_code 71 = .ok (.ifCond .ge 8, 3) := fx_dat dk_M_comma 43 rfl
theorem d_M_comma_74 : decode prog_15_method_53_code 74 = .ok (.bipush 64, 2) := fx_dat dk_M_comma 44 rfl
theorem d_M_comma_76 : decode prog_15_method_53_code 76 = .ok (.goto 6, 3) := fx_dat dk_M_comma 45 rfl
theorem d_M_comma_79 : decode prog_15_method_53_code 79 = .ok (.sipush 250, 3) := fx_dat dk_M_comma 46 rfl
theorem d_M_comma_82 : decode prog_15_method_53_code 82 = .ok (.if_icmp .le 5, 3) := fx_dat dk_M_comma 47 rfl
theorem d_M_comma_85 : decode prog_15_method_53_code 85 = .ok (.iconst (-1), 1) := fx_dat dk_M_comma 48 rfl
theorem d_M_comma_86 : decode prog_15_method_53_code 86 = .ok (.ireturn, 1) := fx_dat dk_M_comma 49 rfl
theorem d_M_comma_87 : decode prog_15_method_53_code 87 = .ok (.iload_n 1, 1) := fx_dat dk_M_comma 50 rfl
theorem d_M_comma_88 : decode prog_15_method_53_code 88 = .ok (.ifCond .ge 5, 3) := fx_dat dk_M_comma 51 rfl
theorem d_M_comma_91 : decode prog_15_method_53_code 91 = .ok (.iload_n 3, 1) := fx_dat dk_M_comma 52 rfl
theorem d_M_comma_92 : decode prog_15_method_53_code 92 = .ok (.istore_n 1, 1) := fx_dat dk_M_comma 53 rfl
theorem d_M_comma_93 : decode prog_15_method_53_code 93 = .ok (.iload_n 3, 1) := fx_dat dk_M_comma 54 rfl
theorem d_M_comma_94 : decode prog_15_method_53_code 94 = .ok (.iconst 1, 1) := fx_dat dk_M_comma 55 rfl
theorem d_M_comma_95 : decode prog_15_method_53_code 95 = .ok (.iadd, 1) := fx_dat dk_M_comma 56 rfl
theorem d_M_comma_96 : decode prog_15_method_53_code 96 = .ok (.istore_n 2, 1) := fx_dat dk_M_comma 57 rfl
theorem d_M_comma_97 : decode prog_15_method_53_code 97 = .ok (.iinc 3 1, 3) := fx_dat dk_M_comma 58 rfl
theorem d_M_comma_100 : decode prog_15_method_53_code 100 = .ok (.goto (-94), 3) := fx_dat dk_M_comma 59 rfl
theorem d_M_comma_103 : decode prog_15_method_53_code 103 = .ok (.iload_n 1, 1) := fx_dat dk_M_comma 60 rfl
theorem d_M_comma_104 : decode prog_15_method_53_code 104 = .ok (.ireturn, 1) := fx_dat dk_M_comma 61 rfl
def m_M_comma_85 (Q : Int32 → AH → Prop) (h : AH) : Prop := Q (-1 : Int32) h
def m_M_comma_97 (Q : Int32 → AH → Prop) (X6 : Int32 × Int32 × Int32 × AH → Prop) (r0 : Nat) (x1 : Int32) (x2 : Int32) (x3 : Int32) (h : AH) : Prop := ∀ v1 : Int32, v1 = (x3 + (1 : Int32)) → X6 (x1, x2, v1, h)
def m_M_comma_93 (Q : Int32 → AH → Prop) (X6 : Int32 × Int32 × Int32 × AH → Prop) (r0 : Nat) (x1 : Int32) (x3 : Int32) (h : AH) : Prop := ∀ v1 : Int32, v1 = (x3 + (1 : Int32)) → m_M_comma_97 Q X6 r0 x1 v1 x3 h
def m_M_comma_82 (Q : Int32 → AH → Prop) (X6 : Int32 × Int32 × Int32 × AH → Prop) (r0 : Nat) (x1 : Int32) (x3 : Int32) (sx0 : Int32) (sx1 : Int32) (h : AH) : Prop := (sx0 ≤ sx1 → (0 ≤ x1 → m_M_comma_93 Q X6 r0 x1 x3 h) ∧ (¬ 0 ≤ x1 → m_M_comma_93 Q X6 r0 x3 x3 h)) ∧ (¬ sx0 ≤ sx1 → m_M_comma_85 Q h)
def m_M_comma_57 (Q : Int32 → AH → Prop) (X6 : Int32 × Int32 × Int32 × AH → Prop) (r0 : Nat) (x1 : Int32) (x2 : Int32) (x3 : Int32) (h : AH) : Prop := ∀ v1 : Int32, v1 = (x3 - x2) → (v1 < (1 : Int32) → m_M_comma_85 Q h) ∧ (¬ v1 < (1 : Int32) → (0 ≤ x1 → m_M_comma_82 Q X6 r0 x1 x3 v1 (250 : Int32) h) ∧ (¬ 0 ≤ x1 → m_M_comma_82 Q X6 r0 x1 x3 v1 (64 : Int32) h))
def m_M_comma_55 (Q : Int32 → AH → Prop) (h : AH) : Prop := Q (-1 : Int32) h
def m_M_comma_6_b (Q : Int32 → AH → Prop) (X6 : Int32 × Int32 × Int32 × AH → Prop) (r0 : Nat) (x1 : Int32) (x2 : Int32) (x3 : Int32) (h : AH) : Prop := hp_k h r0 = 13 ∧ ((hp_I h r0 4) < x3 → Q x1 h) ∧ (¬ (hp_I h r0 4) < x3 → ((hp_I h r0 4) ≤ x3 → m_M_comma_57 Q X6 r0 x1 x2 x3 h) ∧ (¬ (hp_I h r0 4) ≤ x3 → ∃ b1, hp_R h r0 1 = some b1 ∧ bk (hp_k h b1) ∧ vp_in x3 (hp_n h b1) ∧ (by8 (hp_I h b1 x3.toNatClampNeg) → ((hp_I h b1 x3.toNatClampNeg) = (44 : Int32) → m_M_comma_57 Q X6 r0 x1 x2 x3 h) ∧ (¬ (hp_I h b1 x3.toNatClampNeg) = (44 : Int32) → vp_in x3 (hp_n h b1) ∧ (by8 (hp_I h b1 x3.toNatClampNeg) → ((hp_I h b1 x3.toNatClampNeg) < (33 : Int32) → m_M_comma_55 Q h) ∧ (¬ (hp_I h b1 x3.toNatClampNeg) < (33 : Int32) → vp_in x3 (hp_n h b1) ∧ (by8 (hp_I h b1 x3.toNatClampNeg) → ((hp_I h b1 x3.toNatClampNeg) ≤ (126 : Int32) → m_M_comma_97 Q X6 r0 x1 x2 x3 h) ∧ (¬ (hp_I h b1 x3.toNatClampNeg) ≤ (126 : Int32) → m_M_comma_55 Q h))))))))
def m_M_comma_6 (Q : Int32 → AH → Prop) (r0 : Nat) (x1 : Int32) (x2 : Int32) (x3 : Int32) (h : AH) : Prop := fx_loop (fun (X6 : Int32 × Int32 × Int32 × AH → Prop) (st : Int32 × Int32 × Int32 × AH) => m_M_comma_6_b Q X6 r0 st.1 st.2.1 st.2.2.1 st.2.2.2) (x1, x2, x3, h)
def m_M_comma (Q : Int32 → AH → Prop) (r0 : Nat) (h : AH) : Prop := m_M_comma_6 Q r0 (-1 : Int32) (0 : Int32) (0 : Int32) h
theorem b_M_comma_85 {p : Program} {l : Launch} {e : Env} {R : Room} {s : State} {m : MethodId} {args : Array Value} {below : List Frame} {meth : Method} {c : Code} {D : DD} {h0 : AH} {Q : Int32 → AH → Prop} (C : fx_CX D y_M_comma prog_15_method_53_code 5 0 0 (Option.some FieldType.int) [] h0 p R s m meth c) (hl : l.flags = flags0) (h : AH) (hw : m_M_comma_85 Q h) : ∀ (ls : Array Slot) (H : Heap) (locs : List Loc) (cells slots : Nat), lv_has ls 5 [] → fx_F D h0 h H locs cells slots → W p l e R s m args below meth c H locs cells slots (fx_Z D below s h0 (fx_oI Q fx_no)) (F0 m 85 ls []) := by
  unfold m_M_comma_85 at hw
  intro ls H locs cells slots hv F
  refine lv_iconst (v := (-1 : Int32)) C.ex C.by d_M_comma_85 (by decide) ?_
  exact fx_iret C F d_M_comma_86 (Or.inl ⟨_, rfl, hw⟩)
theorem b_M_comma_97 {p : Program} {l : Launch} {e : Env} {R : Room} {s : State} {m : MethodId} {args : Array Value} {below : List Frame} {meth : Method} {c : Code} {D : DD} {h0 : AH} {Q : Int32 → AH → Prop} {X6 : Int32 × Int32 × Int32 × AH → Prop} (C : fx_CX D y_M_comma prog_15_method_53_code 5 0 0 (Option.some FieldType.int) [] h0 p R s m meth c) (hl : l.flags = flags0) (r0 : Nat) (x1 : Int32) (x2 : Int32) (x3 : Int32) (h : AH) (hX6 : ∀ st, X6 st → ∀ (ls : Array Slot) (H : Heap) (locs : List Loc) (cells slots : Nat), lv_has ls 5 [(0, .ref r0), (1, .int st.1), (2, .int st.2.1), (3, .int st.2.2.1)] → fx_F D h0 st.2.2.2 H locs cells slots → W p l e R s m args below meth c H locs cells slots (fx_Z D below s h0 (fx_oI Q fx_no)) (F0 m 6 ls [])) (hw : m_M_comma_97 Q X6 r0 x1 x2 x3 h) : ∀ (ls : Array Slot) (H : Heap) (locs : List Loc) (cells slots : Nat), lv_has ls 5 [(0, .ref r0), (1, .int x1), (2, .int x2), (3, .int x3)] → fx_F D h0 h H locs cells slots → W p l e R s m args below meth c H locs cells slots (fx_Z D below s h0 (fx_oI Q fx_no)) (F0 m 97 ls []) := by
  unfold m_M_comma_97 at hw
  intro ls H locs cells slots hv F
  let v1 : Int32 := (x3 + (1 : Int32))
  replace hw := hw v1 rfl
  refine lv_iinc (v := v1) (k := 3) (lv' := [(3, .int v1), (0, .ref r0), (1, .int x1), (2, .int x2)]) C.ex C.by d_M_comma_97 hv rfl (congrArg (fun z => x3 + z) (by decide)) (by decide) rfl (fun ls hv => ?_)
  refine lv_goto C.ex C.by d_M_comma_100 rfl ?_
  exact hX6 _ hw _ _ _ _ _ (lv_sub hv [1, 2, 3, 0] rfl) F
theorem b_M_comma_93 {p : Program} {l : Launch} {e : Env} {R : Room} {s : State} {m : MethodId} {args : Array Value} {below : List Frame} {meth : Method} {c : Code} {D : DD} {h0 : AH} {Q : Int32 → AH → Prop} {X6 : Int32 × Int32 × Int32 × AH → Prop} (C : fx_CX D y_M_comma prog_15_method_53_code 5 0 0 (Option.some FieldType.int) [] h0 p R s m meth c) (hl : l.flags = flags0) (r0 : Nat) (x1 : Int32) (x3 : Int32) (h : AH) (hX6 : ∀ st, X6 st → ∀ (ls : Array Slot) (H : Heap) (locs : List Loc) (cells slots : Nat), lv_has ls 5 [(0, .ref r0), (1, .int st.1), (2, .int st.2.1), (3, .int st.2.2.1)] → fx_F D h0 st.2.2.2 H locs cells slots → W p l e R s m args below meth c H locs cells slots (fx_Z D below s h0 (fx_oI Q fx_no)) (F0 m 6 ls [])) (hw : m_M_comma_93 Q X6 r0 x1 x3 h) : ∀ (ls : Array Slot) (H : Heap) (locs : List Loc) (cells slots : Nat), lv_has ls 5 [(0, .ref r0), (1, .int x1), (3, .int x3)] → fx_F D h0 h H locs cells slots → W p l e R s m args below meth c H locs cells slots (fx_Z D below s h0 (fx_oI Q fx_no)) (F0 m 93 ls []) := by
  unfold m_M_comma_93 at hw
  intro ls H locs cells slots hv F
  refine lv_iload_n C.ex C.by d_M_comma_93 rfl (lv_at hv 2 rfl) ?_
  refine lv_iconst (v := (1 : Int32)) C.ex C.by d_M_comma_94 (by decide) ?_
  refine lv_iadd C.ex C.by d_M_comma_95 ?_
  let v1 : Int32 := (x3 + (1 : Int32))
  replace hw := hw v1 rfl
  refine lv_istore_n (lv' := [(2, .int v1), (0, .ref r0), (1, .int x1), (3, .int x3)]) C.ex C.by d_M_comma_96 rfl hv (by decide) rfl (fun ls hv => ?_)
  exact b_M_comma_97 C hl _ _ _ _ _ hX6 hw _ _ _ _ _ (lv_sub hv [1, 2, 0, 3] rfl) F
theorem b_M_comma_82 {p : Program} {l : Launch} {e : Env} {R : Room} {s : State} {m : MethodId} {args : Array Value} {below : List Frame} {meth : Method} {c : Code} {D : DD} {h0 : AH} {Q : Int32 → AH → Prop} {X6 : Int32 × Int32 × Int32 × AH → Prop} (C : fx_CX D y_M_comma prog_15_method_53_code 5 0 0 (Option.some FieldType.int) [] h0 p R s m meth c) (hl : l.flags = flags0) (r0 : Nat) (x1 : Int32) (x3 : Int32) (sx0 : Int32) (sx1 : Int32) (h : AH) (hX6 : ∀ st, X6 st → ∀ (ls : Array Slot) (H : Heap) (locs : List Loc) (cells slots : Nat), lv_has ls 5 [(0, .ref r0), (1, .int st.1), (2, .int st.2.1), (3, .int st.2.2.1)] → fx_F D h0 st.2.2.2 H locs cells slots → W p l e R s m args below meth c H locs cells slots (fx_Z D below s h0 (fx_oI Q fx_no)) (F0 m 6 ls [])) (hw : m_M_comma_82 Q X6 r0 x1 x3 sx0 sx1 h) : ∀ (ls : Array Slot) (H : Heap) (locs : List Loc) (cells slots : Nat), lv_has ls 5 [(0, .ref r0), (1, .int x1), (3, .int x3)] → fx_F D h0 h H locs cells slots → W p l e R s m args below meth c H locs cells slots (fx_Z D below s h0 (fx_oI Q fx_no)) (F0 m 82 ls [.int sx1, .int sx0]) := by
  unfold m_M_comma_82 at hw
  intro ls H locs cells slots hv F
  refine lv_icmp_le C.ex C.by d_M_comma_82 rfl (fun hc => ?_) (fun hc => ?_)
  · replace hw := hw.1 hc
    refine lv_iload_n C.ex C.by d_M_comma_87 rfl (lv_at hv 1 rfl) ?_
    refine lv_if_ge C.ex C.by d_M_comma_88 rfl (fun hc => ?_) (fun hc => ?_)
    · replace hw := hw.1 hc
      exact b_M_comma_93 C hl _ _ _ _ hX6 hw _ _ _ _ _ hv F
    · replace hw := hw.2 hc
      refine lv_iload_n C.ex C.by d_M_comma_91 rfl (lv_at hv 2 rfl) ?_
      refine lv_istore_n (lv' := [(1, .int x3), (0, .ref r0), (3, .int x3)]) C.ex C.by d_M_comma_92 rfl hv (by decide) rfl (fun ls hv => ?_)
      exact b_M_comma_93 C hl _ _ _ _ hX6 hw _ _ _ _ _ (lv_sub hv [1, 0, 2] rfl) F
  · replace hw := hw.2 hc
    exact b_M_comma_85 C hl _ hw _ _ _ _ _ (lv_sub hv [] rfl) F
theorem b_M_comma_57 {p : Program} {l : Launch} {e : Env} {R : Room} {s : State} {m : MethodId} {args : Array Value} {below : List Frame} {meth : Method} {c : Code} {D : DD} {h0 : AH} {Q : Int32 → AH → Prop} {X6 : Int32 × Int32 × Int32 × AH → Prop} (C : fx_CX D y_M_comma prog_15_method_53_code 5 0 0 (Option.some FieldType.int) [] h0 p R s m meth c) (hl : l.flags = flags0) (r0 : Nat) (x1 : Int32) (x2 : Int32) (x3 : Int32) (h : AH) (hX6 : ∀ st, X6 st → ∀ (ls : Array Slot) (H : Heap) (locs : List Loc) (cells slots : Nat), lv_has ls 5 [(0, .ref r0), (1, .int st.1), (2, .int st.2.1), (3, .int st.2.2.1)] → fx_F D h0 st.2.2.2 H locs cells slots → W p l e R s m args below meth c H locs cells slots (fx_Z D below s h0 (fx_oI Q fx_no)) (F0 m 6 ls [])) (hw : m_M_comma_57 Q X6 r0 x1 x2 x3 h) : ∀ (ls : Array Slot) (H : Heap) (locs : List Loc) (cells slots : Nat), lv_has ls 5 [(0, .ref r0), (1, .int x1), (2, .int x2), (3, .int x3)] → fx_F D h0 h H locs cells slots → W p l e R s m args below meth c H locs cells slots (fx_Z D below s h0 (fx_oI Q fx_no)) (F0 m 57 ls []) := by
  unfold m_M_comma_57 at hw
  intro ls H locs cells slots hv F
  refine lv_iload_n C.ex C.by d_M_comma_57 rfl (lv_at hv 3 rfl) ?_
  refine lv_iload_n C.ex C.by d_M_comma_58 rfl (lv_at hv 2 rfl) ?_
  refine lv_isub C.ex C.by d_M_comma_59 ?_
  let v1 : Int32 := (x3 - x2)
  replace hw := hw v1 rfl
  refine lv_istore (lv' := [(4, .int v1), (0, .ref r0), (1, .int x1), (2, .int x2), (3, .int x3)]) C.ex C.by d_M_comma_60 hv (by decide) rfl (fun ls hv => ?_)
  refine lv_iload C.ex C.by d_M_comma_62 (lv_at hv 0 rfl) ?_
  refine lv_iconst (v := (1 : Int32)) C.ex C.by d_M_comma_64 (by decide) ?_
  refine lv_icmp_lt C.ex C.by d_M_comma_65 rfl (fun hc => ?_) (fun hc => ?_)
  · replace hw := hw.1 hc
    exact b_M_comma_85 C hl _ hw _ _ _ _ _ (lv_sub hv [] rfl) F
  · replace hw := hw.2 hc
    refine lv_iload C.ex C.by d_M_comma_68 (lv_at hv 0 rfl) ?_
    refine lv_iload_n C.ex C.by d_M_comma_70 rfl (lv_at hv 2 rfl) ?_
    refine lv_if_ge C.ex C.by d_M_comma_71 rfl (fun hc => ?_) (fun hc => ?_)
    · replace hw := hw.1 hc
      refine lv_sipush (v := (250 : Int32)) C.ex C.by d_M_comma_79 (by decide) ?_
      exact b_M_comma_82 C hl _ _ _ _ _ _ hX6 hw _ _ _ _ _ (lv_sub hv [1, 2, 4] rfl) F
    · replace hw := hw.2 hc
      refine lv_bipush (v := (64 : Int32)) C.ex C.by d_M_comma_74 (by decide) ?_
      refine lv_goto C.ex C.by d_M_comma_76 rfl ?_
      exact b_M_comma_82 C hl _ _ _ _ _ _ hX6 hw _ _ _ _ _ (lv_sub hv [1, 2, 4] rfl) F
theorem b_M_comma_55 {p : Program} {l : Launch} {e : Env} {R : Room} {s : State} {m : MethodId} {args : Array Value} {below : List Frame} {meth : Method} {c : Code} {D : DD} {h0 : AH} {Q : Int32 → AH → Prop} (C : fx_CX D y_M_comma prog_15_method_53_code 5 0 0 (Option.some FieldType.int) [] h0 p R s m meth c) (hl : l.flags = flags0) (h : AH) (hw : m_M_comma_55 Q h) : ∀ (ls : Array Slot) (H : Heap) (locs : List Loc) (cells slots : Nat), lv_has ls 5 [] → fx_F D h0 h H locs cells slots → W p l e R s m args below meth c H locs cells slots (fx_Z D below s h0 (fx_oI Q fx_no)) (F0 m 55 ls []) := by
  unfold m_M_comma_55 at hw
  intro ls H locs cells slots hv F
  refine lv_iconst (v := (-1 : Int32)) C.ex C.by d_M_comma_55 (by decide) ?_
  exact fx_iret C F d_M_comma_56 (Or.inl ⟨_, rfl, hw⟩)
theorem b_M_comma_6 {p : Program} {l : Launch} {e : Env} {R : Room} {s : State} {m : MethodId} {args : Array Value} {below : List Frame} {meth : Method} {c : Code} {D : DD} {h0 : AH} {Q : Int32 → AH → Prop} (C : fx_CX D y_M_comma prog_15_method_53_code 5 0 0 (Option.some FieldType.int) [] h0 p R s m meth c) (hl : l.flags = flags0) (r0 : Nat) (x1 : Int32) (x2 : Int32) (x3 : Int32) (h : AH) (hw : m_M_comma_6 Q r0 x1 x2 x3 h) : ∀ (ls : Array Slot) (H : Heap) (locs : List Loc) (cells slots : Nat), lv_has ls 5 [(0, .ref r0), (1, .int x1), (2, .int x2), (3, .int x3)] → fx_F D h0 h H locs cells slots → W p l e R s m args below meth c H locs cells slots (fx_Z D below s h0 (fx_oI Q fx_no)) (F0 m 6 ls []) := by
  refine fx_loop.use hw (fun st => ∀ (ls : Array Slot) (H : Heap) (locs : List Loc) (cells slots : Nat), lv_has ls 5 [(0, .ref r0), (1, .int st.1), (2, .int st.2.1), (3, .int st.2.2.1)] → fx_F D h0 st.2.2.2 H locs cells slots → W p l e R s m args below meth c H locs cells slots (fx_Z D below s h0 (fx_oI Q fx_no)) (F0 m 6 ls [])) (fun X6 st hX6 hw => ?_)
  obtain ⟨x1, x2, x3, h⟩ := st
  replace hw : m_M_comma_6_b Q X6 r0 x1 x2 x3 h := hw
  unfold m_M_comma_6_b at hw
  intro ls H locs cells slots hv F
  refine lv_iload_n C.ex C.by d_M_comma_6 rfl (lv_at hv 3 rfl) ?_
  refine lv_aload_n C.ex C.by d_M_comma_7 rfl (lv_at hv 0 rfl) ?_
  obtain ⟨hk1, hw⟩ := hw
  refine fx_getI C F lf_M_328 hk1 rfl d_M_comma_8 ?_
  refine lv_icmp_gt C.ex C.by d_M_comma_11 rfl (fun hc => ?_) (fun hc => ?_)
  · replace hw := hw.1 hc
    refine lv_iload_n C.ex C.by d_M_comma_103 rfl (lv_at hv 1 rfl) ?_
    exact fx_iret C F d_M_comma_104 (Or.inl ⟨_, rfl, hw⟩)
  · replace hw := hw.2 hc
    refine lv_iload_n C.ex C.by d_M_comma_14 rfl (lv_at hv 3 rfl) ?_
    refine lv_aload_n C.ex C.by d_M_comma_15 rfl (lv_at hv 0 rfl) ?_
    refine fx_getI C F lf_M_328 hk1 rfl d_M_comma_16 ?_
    refine lv_icmp_ge C.ex C.by d_M_comma_19 rfl (fun hc => ?_) (fun hc => ?_)
    · replace hw := hw.1 hc
      exact b_M_comma_57 C hl _ _ _ _ _ hX6 hw _ _ _ _ _ hv F
    · replace hw := hw.2 hc
      refine lv_aload_n C.ex C.by d_M_comma_22 rfl (lv_at hv 0 rfl) ?_
      obtain ⟨b1, hb1, hw⟩ := hw
      refine fx_getR C F lf_M_8 hk1 rfl hb1 d_M_comma_23 ?_
      refine lv_iload_n C.ex C.by d_M_comma_26 rfl (lv_at hv 3 rfl) ?_
      obtain ⟨hk2, hw⟩ := hw
      obtain ⟨hi1, hw⟩ := hw
      refine fx_bald C F hk2 hi1 d_M_comma_27 (fun h8 => ?_)
      replace hw := hw h8
      refine lv_bipush (v := (44 : Int32)) C.ex C.by d_M_comma_28 (by decide) ?_
      refine lv_icmp_eq C.ex C.by d_M_comma_30 rfl (fun hc => ?_) (fun hc => ?_)
      · replace hw := hw.1 hc
        exact b_M_comma_57 C hl _ _ _ _ _ hX6 hw _ _ _ _ _ hv F
      · replace hw := hw.2 hc
        refine lv_aload_n C.ex C.by d_M_comma_33 rfl (lv_at hv 0 rfl) ?_
        refine fx_getR C F lf_M_8 hk1 rfl hb1 d_M_comma_34 ?_
        refine lv_iload_n C.ex C.by d_M_comma_37 rfl (lv_at hv 3 rfl) ?_
        obtain ⟨hi2, hw⟩ := hw
        refine fx_bald C F hk2 hi2 d_M_comma_38 (fun h8 => ?_)
        replace hw := hw h8
        refine lv_bipush (v := (33 : Int32)) C.ex C.by d_M_comma_39 (by decide) ?_
        refine lv_icmp_lt C.ex C.by d_M_comma_41 rfl (fun hc => ?_) (fun hc => ?_)
        · replace hw := hw.1 hc
          exact b_M_comma_55 C hl _ hw _ _ _ _ _ (lv_sub hv [] rfl) F
        · replace hw := hw.2 hc
          refine lv_aload_n C.ex C.by d_M_comma_44 rfl (lv_at hv 0 rfl) ?_
          refine fx_getR C F lf_M_8 hk1 rfl hb1 d_M_comma_45 ?_
          refine lv_iload_n C.ex C.by d_M_comma_48 rfl (lv_at hv 3 rfl) ?_
          obtain ⟨hi3, hw⟩ := hw
          refine fx_bald C F hk2 hi3 d_M_comma_49 (fun h8 => ?_)
          replace hw := hw h8
          refine lv_bipush (v := (126 : Int32)) C.ex C.by d_M_comma_50 (by decide) ?_
          refine lv_icmp_le C.ex C.by d_M_comma_52 rfl (fun hc => ?_) (fun hc => ?_)
          · replace hw := hw.1 hc
            exact b_M_comma_97 C hl _ _ _ _ _ hX6 hw _ _ _ _ _ hv F
          · replace hw := hw.2 hc
            exact b_M_comma_55 C hl _ hw _ _ _ _ _ (lv_sub hv [] rfl) F
theorem b_M_comma_0 {p : Program} {l : Launch} {e : Env} {R : Room} {s : State} {m : MethodId} {args : Array Value} {below : List Frame} {meth : Method} {c : Code} {D : DD} {h0 : AH} {Q : Int32 → AH → Prop} (C : fx_CX D y_M_comma prog_15_method_53_code 5 0 0 (Option.some FieldType.int) [] h0 p R s m meth c) (hl : l.flags = flags0) (r0 : Nat) (h : AH) (hw : m_M_comma Q r0 h) : ∀ (ls : Array Slot) (H : Heap) (locs : List Loc) (cells slots : Nat), lv_has ls 5 [(0, .ref r0)] → fx_F D h0 h H locs cells slots → W p l e R s m args below meth c H locs cells slots (fx_Z D below s h0 (fx_oI Q fx_no)) (F0 m 0 ls []) := by
  unfold m_M_comma at hw
  intro ls H locs cells slots hv F
  refine lv_iconst (v := (-1 : Int32)) C.ex C.by d_M_comma_0 (by decide) ?_
  refine lv_istore_n (lv' := [(1, .int (-1 : Int32)), (0, .ref r0)]) C.ex C.by d_M_comma_1 rfl hv (by decide) rfl (fun ls hv => ?_)
  refine lv_iconst (v := (0 : Int32)) C.ex C.by d_M_comma_2 (by decide) ?_
  refine lv_istore_n (lv' := [(2, .int (0 : Int32)), (1, .int (-1 : Int32)), (0, .ref r0)]) C.ex C.by d_M_comma_3 rfl hv (by decide) rfl (fun ls hv => ?_)
  refine lv_iconst (v := (0 : Int32)) C.ex C.by d_M_comma_4 (by decide) ?_
  refine lv_istore_n (lv' := [(3, .int (0 : Int32)), (2, .int (0 : Int32)), (1, .int (-1 : Int32)), (0, .ref r0)]) C.ex C.by d_M_comma_5 rfl hv (by decide) rfl (fun ls hv => ?_)
  exact b_M_comma_6 C hl _ _ _ _ _ hw _ _ _ _ _ (lv_sub hv [3, 2, 1, 0] rfl) F
theorem hm_M_comma : fx_hd y_M_comma prog_15_method_53_code 5 (Option.some FieldType.int) [] ∈ tables_1 := (fx_m6 (List.mem_of_getElem? (i := 202) rfl))
theorem hi_M_comma : Cond.initialized y_M_comma.cls ∈ tables_1 := (fx_m1 (List.mem_of_getElem? (i := 15) rfl))
theorem c_M_comma {l : Launch} (hl : l.flags = flags0) {D : DD} {Q : Int32 → AH → Prop} {r0 : Nat} {h : AH} (hw : m_M_comma Q r0 h) : fx_Mt l D y_M_comma (fx_hd y_M_comma prog_15_method_53_code 5 (Option.some FieldType.int) []) 0 0 [.ref r0] h (fx_oI Q fx_no) := by
  refine fx_ofW (plainFor_of_name (by decide)) (fun p e s m below meth c C F => ?_)
  have hv := lv_entry ([.ref r0]) (n := 5) (Nat.le_of_ble_eq_true rfl)
  rw [lg_entry_eq]
  generalize (lg_sl ([.ref r0]) ++ List.replicate (5 - (lg_sl ([.ref r0])).length) Slot.unset).toArray = ls at hv ⊢
  have hv : lv_has ls 5 [(0, .ref r0)] := hv
  exact b_M_comma_0 C hl _ _ hw _ _ _ _ _ hv F
/-! ChainJudgeModel.here(I)I: frames 0, words 0 -/
abbrev y_M_here : MethodName := ⟨"ChainJudgeModel", "here", "(I)I"⟩
theorem lf_M_121 : fx_Lk "ChainJudgeModel" 121 12 22 := fx_Lk.mk (C := "ChainJudgeModel") (T := fx_T12) (N := 57) rfl (by decide) (by decide) (fx_m6 (List.mem_of_getElem? (i := 28) rfl))
def dl_M_here : List (Nat × Instr × Nat) := [(0, .aload_n 0, 1), (1, .getfield 21, 3), (4, .aload_n 0, 1), (5, .getfield 121, 3), (8, .iload_n 1, 1), (9, .iadd, 1), (10, .baload, 1), (11, .sipush 255, 3), (14, .iand, 1), (15, .ireturn, 1)]
theorem dk_M_here : fx_dec prog_15_method_14_code dl_M_here = true := by decide +kernel
theorem d_M_here_0 : decode prog_15_method_14_code 0 = .ok (.aload_n 0, 1) := fx_dat dk_M_here 0 rfl
theorem d_M_here_1 : decode prog_15_method_14_code 1 = .ok (.getfield 21, 3) := fx_dat dk_M_here 1 rfl
theorem d_M_here_4 : decode prog_15_method_14_code 4 = .ok (.aload_n 0, 1) := fx_dat dk_M_here 2 rfl
theorem d_M_here_5 : decode prog_15_method_14_code 5 = .ok (.getfield 121, 3) := fx_dat dk_M_here 3 rfl
theorem d_M_here_8 : decode prog_15_method_14_code 8 = .ok (.iload_n 1, 1) := fx_dat dk_M_here 4 rfl
theorem d_M_here_9 : decode prog_15_method_14_code 9 = .ok (.iadd, 1) := fx_dat dk_M_here 5 rfl
theorem d_M_here_10 : decode prog_15_method_14_code 10 = .ok (.baload, 1) := fx_dat dk_M_here 6 rfl
theorem d_M_here_11 : decode prog_15_method_14_code 11 = .ok (.sipush 255, 3) := fx_dat dk_M_here 7 rfl
theorem d_M_here_14 : decode prog_15_method_14_code 14 = .ok (.iand, 1) := fx_dat dk_M_here 8 rfl
theorem d_M_here_15 : decode prog_15_method_14_code 15 = .ok (.ireturn, 1) := fx_dat dk_M_here 9 rfl
def m_M_here (Q : Int32 → AH → Prop) (r0 : Nat) (x1 : Int32) (h : AH) : Prop := hp_k h r0 = 13 ∧ ∃ b1, hp_R h r0 7 = some b1 ∧ bk (hp_k h b1) ∧ vp_in ((hp_I h r0 22) + x1) (hp_n h b1) ∧ (by8 (hp_I h b1 (((hp_I h r0 22) + x1)).toNatClampNeg) → Q ((hp_I h b1 (((hp_I h r0 22) + x1)).toNatClampNeg) &&& (255 : Int32)) h)
theorem b_M_here_0 {p : Program} {l : Launch} {e : Env} {R : Room} {s : State} {m : MethodId} {args : Array Value} {below : List Frame} {meth : Method} {c : Code} {D : DD} {h0 : AH} {Q : Int32 → AH → Prop} (C : fx_CX D y_M_here prog_15_method_14_code 2 0 0 (Option.some FieldType.int) [] h0 p R s m meth c) (hl : l.flags = flags0) (r0 : Nat) (x1 : Int32) (h : AH) (hw : m_M_here Q r0 x1 h) : ∀ (ls : Array Slot) (H : Heap) (locs : List Loc) (cells slots : Nat), lv_has ls 2 [(0, .ref r0), (1, .int x1)] → fx_F D h0 h H locs cells slots → W p l e R s m args below meth c H locs cells slots (fx_Z D below s h0 (fx_oI Q fx_no)) (F0 m 0 ls []) := by
  unfold m_M_here at hw
  intro ls H locs cells slots hv F
  refine lv_aload_n C.ex C.by d_M_here_0 rfl (lv_at hv 0 rfl) ?_
  obtain ⟨hk1, hw⟩ := hw
  obtain ⟨b1, hb1, hw⟩ := hw
  refine fx_getR C F lf_M_21 hk1 rfl hb1 d_M_here_1 ?_
  refine lv_aload_n C.ex C.by d_M_here_4 rfl (lv_at hv 0 rfl) ?_
  refine fx_getI C F lf_M_121 hk1 rfl d_M_here_5 ?_
  refine lv_iload_n C.ex C.by d_M_here_8 rfl (lv_at hv 1 rfl) ?_
  refine lv_iadd C.ex C.by d_M_here_9 ?_
  obtain ⟨hk2, hw⟩ := hw
  obtain ⟨hi1, hw⟩ := hw
  refine fx_bald C F hk2 hi1 d_M_here_10 (fun h8 => ?_)
  replace hw := hw h8
  refine lv_sipush (v := (255 : Int32)) C.ex C.by d_M_here_11 (by decide) ?_
  refine lv_iand C.ex C.by d_M_here_14 ?_
  exact fx_iret C F d_M_here_15 (Or.inl ⟨_, rfl, hw⟩)
theorem hm_M_here : fx_hd y_M_here prog_15_method_14_code 2 (Option.some FieldType.int) [] ∈ tables_1 := (fx_m6 (List.mem_of_getElem? (i := 214) rfl))
theorem hi_M_here : Cond.initialized y_M_here.cls ∈ tables_1 := (fx_m1 (List.mem_of_getElem? (i := 15) rfl))
theorem c_M_here {l : Launch} (hl : l.flags = flags0) {D : DD} {Q : Int32 → AH → Prop} {r0 : Nat} {x1 : Int32} {h : AH} (hw : m_M_here Q r0 x1 h) : fx_Mt l D y_M_here (fx_hd y_M_here prog_15_method_14_code 2 (Option.some FieldType.int) []) 0 0 [.ref r0, .int x1] h (fx_oI Q fx_no) := by
  refine fx_ofW (plainFor_of_name (by decide)) (fun p e s m below meth c C F => ?_)
  have hv := lv_entry ([.ref r0, .int x1]) (n := 2) (Nat.le_of_ble_eq_true rfl)
  rw [lg_entry_eq]
  generalize (lg_sl ([.ref r0, .int x1]) ++ List.replicate (2 - (lg_sl ([.ref r0, .int x1])).length) Slot.unset).toArray = ls at hv ⊢
  have hv : lv_has ls 2 [(0, .ref r0), (1, .int x1)] := hv
  exact b_M_here_0 C hl _ _ _ hw _ _ _ _ _ hv F
/-! ChainJudgeModel.wrong()I: frames 0, words 0 -/
abbrev y_M_wrong : MethodName := ⟨"ChainJudgeModel", "wrong", "()I"⟩
theorem lf_M_124 : fx_Lk "ChainJudgeModel" 124 12 21 := fx_Lk.mk (C := "ChainJudgeModel") (T := fx_T12) (N := 57) rfl (by decide) (by decide) (fx_m6 (List.mem_of_getElem? (i := 27) rfl))
def dl_M_wrong : List (Nat × Instr × Nat) := [(0, .aload_n 0, 1), (1, .iconst 1, 1), (2, .putfield 124, 3), (5, .iconst (-1), 1), (6, .ireturn, 1)]
theorem dk_M_wrong : fx_dec prog_15_method_16_code dl_M_wrong = true := by decide +kernel
theorem d_M_wrong_0 : decode prog_15_method_16_code 0 = .ok (.aload_n 0, 1) := fx_dat dk_M_wrong 0 rfl
theorem d_M_wrong_1 : decode prog_15_method_16_code 1 = .ok (.iconst 1, 1) := fx_dat dk_M_wrong 1 rfl
theorem d_M_wrong_2 : decode prog_15_method_16_code 2 = .ok (.putfield 124, 3) := fx_dat dk_M_wrong 2 rfl
theorem d_M_wrong_5 : decode prog_15_method_16_code 5 = .ok (.iconst (-1), 1) := fx_dat dk_M_wrong 3 rfl
theorem d_M_wrong_6 : decode prog_15_method_16_code 6 = .ok (.ireturn, 1) := fx_dat dk_M_wrong 4 rfl
def m_M_wrong (Q : Int32 → AH → Prop) (r0 : Nat) (h : AH) : Prop := hp_k h r0 = 13 ∧ ∀ h1 : AH, h1 = up_I h r0 21 (1 : Int32) → Q (-1 : Int32) h1
theorem b_M_wrong_0 {p : Program} {l : Launch} {e : Env} {R : Room} {s : State} {m : MethodId} {args : Array Value} {below : List Frame} {meth : Method} {c : Code} {D : DD} {h0 : AH} {Q : Int32 → AH → Prop} (C : fx_CX D y_M_wrong prog_15_method_16_code 1 0 0 (Option.some FieldType.int) [] h0 p R s m meth c) (hl : l.flags = flags0) (r0 : Nat) (h : AH) (hw : m_M_wrong Q r0 h) : ∀ (ls : Array Slot) (H : Heap) (locs : List Loc) (cells slots : Nat), lv_has ls 1 [(0, .ref r0)] → fx_F D h0 h H locs cells slots → W p l e R s m args below meth c H locs cells slots (fx_Z D below s h0 (fx_oI Q fx_no)) (F0 m 0 ls []) := by
  unfold m_M_wrong at hw
  intro ls H locs cells slots hv F
  refine lv_aload_n C.ex C.by d_M_wrong_0 rfl (lv_at hv 0 rfl) ?_
  refine lv_iconst (v := (1 : Int32)) C.ex C.by d_M_wrong_1 (by decide) ?_
  obtain ⟨hk1, hw⟩ := hw
  let h1 : AH := up_I h r0 21 (1 : Int32)
  replace hw := hw h1 rfl
  refine fx_putZ C F lf_M_124 hk1 rfl rfl (Or.inr rfl) (fx_mayF.no rfl rfl) d_M_wrong_2 (fun H locs (F : fx_F D h0 h1 H locs _ _) => ?_)
  refine lv_iconst (v := (-1 : Int32)) C.ex C.by d_M_wrong_5 (by decide) ?_
  exact fx_iret C F d_M_wrong_6 (Or.inl ⟨_, rfl, hw⟩)
theorem hm_M_wrong : fx_hd y_M_wrong prog_15_method_16_code 1 (Option.some FieldType.int) [] ∈ tables_1 := (fx_m6 (List.mem_of_getElem? (i := 218) rfl))
theorem hi_M_wrong : Cond.initialized y_M_wrong.cls ∈ tables_1 := (fx_m1 (List.mem_of_getElem? (i := 15) rfl))
theorem c_M_wrong {l : Launch} (hl : l.flags = flags0) {D : DD} {Q : Int32 → AH → Prop} {r0 : Nat} {h : AH} (hw : m_M_wrong Q r0 h) : fx_Mt l D y_M_wrong (fx_hd y_M_wrong prog_15_method_16_code 1 (Option.some FieldType.int) []) 0 0 [.ref r0] h (fx_oI Q fx_no) := by
  refine fx_ofW (plainFor_of_name (by decide)) (fun p e s m below meth c C F => ?_)
  have hv := lv_entry ([.ref r0]) (n := 1) (Nat.le_of_ble_eq_true rfl)
  rw [lg_entry_eq]
  generalize (lg_sl ([.ref r0]) ++ List.replicate (1 - (lg_sl ([.ref r0])).length) Slot.unset).toArray = ls at hv ⊢
  have hv : lv_has ls 1 [(0, .ref r0)] := hv
  exact b_M_wrong_0 C hl _ _ hw _ _ _ _ _ hv F
/-! ChainJudgeModel.open(II)I: frames 1, words 14 -/
abbrev y_M_open : MethodName := ⟨"ChainJudgeModel", "open", "(II)I"⟩
theorem lf_M_128 : fx_Lk "ChainJudgeModel" 128 12 20 := fx_Lk.mk (C := "ChainJudgeModel") (T := fx_T12) (N := 57) rfl (by decide) (by decide) (fx_m6 (List.mem_of_getElem? (i := 26) rfl))
theorem lm_M_131 : Cond.methodLink "ChainJudgeModel" 131 y_M_here ∈ tables_1 ∨ ∃ host, Cond.methodLinkNest "ChainJudgeModel" 131 y_M_here host ∈ tables_1 := Or.inl (fx_m6 (List.mem_of_getElem? (i := 211) rfl))
theorem lm_M_134 : Cond.methodLink "ChainJudgeModel" 134 y_M_wrong ∈ tables_1 ∨ ∃ host, Cond.methodLinkNest "ChainJudgeModel" 134 y_M_wrong host ∈ tables_1 := Or.inl (fx_m6 (List.mem_of_getElem? (i := 215) rfl))
section
variable {p : Program} {l : Launch} {e : Env} {R : Room} {s : State} {m : MethodId} {args : Array Value} {below : List Frame} {meth : Method} {c : Code} {H : Heap} {locs : List Loc} {cells slots : Nat}
variable {D : DD} {y : MethodName} {cc : ByteArray} {nL kf kw : Nat} {ret : Option FieldType} {hh : List (Nat × Nat × Nat × Nat)} {h0 h : AH} {pc : Nat} {ls : Array Slot} {rest : List Value} {b idx : Nat}
theorem iv_M_here {x1 : Int32} (C : fx_CX D y cc nL kf kw ret hh h0 p R s m meth c) (F : fx_F D h0 h H locs cells slots) (hw1 : Cond.methodLink y.cls idx y_M_here ∈ tables_1 ∨ ∃ host, Cond.methodLinkNest y.cls idx y_M_here host ∈ tables_1) (hk : hp_k h b = 13) (hd : decode cc pc = .ok (.invokevirtual idx, 3)) : fx_IV p l e R s m args below meth c H locs cells slots (F0 m pc ls (.int x1 :: .ref b :: rest)) rest y_M_here [.ref b, .int x1] 3 := fun T hT X => fx_invV (As := [.int x1]) (Cn := "ChainJudgeModel") C X hw1 (fx_m6 (List.mem_of_getElem? (i := 213) rfl)) (fx_selP C ⟨by decide, by decide⟩ (fx_m5 (List.mem_of_getElem? (i := 217) rfl)) (fx_m6 (List.mem_of_getElem? (i := 212) rfl)) (fx_m6 (List.mem_of_getElem? (i := 213) rfl))) hm_M_here ⟨by decide, by decide⟩ (by rw [hT]; exact fx_clsO (ci := 12) (r := ("ChainJudgeModel", fx_T12, 57)) C F rfl (by decide) hk) rfl (n := 1) (by decide +kernel) rfl rfl hd
theorem iv_M_wrong (C : fx_CX D y cc nL kf kw ret hh h0 p R s m meth c) (F : fx_F D h0 h H locs cells slots) (hw1 : Cond.methodLink y.cls idx y_M_wrong ∈ tables_1 ∨ ∃ host, Cond.methodLinkNest y.cls idx y_M_wrong host ∈ tables_1) (hk : hp_k h b = 13) (hd : decode cc pc = .ok (.invokevirtual idx, 3)) : fx_IV p l e R s m args below meth c H locs cells slots (F0 m pc ls (.ref b :: rest)) rest y_M_wrong [.ref b] 3 := fun T hT X => fx_invV (As := []) (Cn := "ChainJudgeModel") C X hw1 (fx_m6 (List.mem_of_getElem? (i := 217) rfl)) (fx_selP C ⟨by decide, by decide⟩ (fx_m5 (List.mem_of_getElem? (i := 217) rfl)) (fx_m6 (List.mem_of_getElem? (i := 216) rfl)) (fx_m6 (List.mem_of_getElem? (i := 217) rfl))) hm_M_wrong ⟨by decide, by decide⟩ (by rw [hT]; exact fx_clsO (ci := 12) (r := ("ChainJudgeModel", fx_T12, 57)) C F rfl (by decide) hk) rfl (n := 0) (by decide +kernel) rfl rfl hd
end
def dl_M_open : List (Nat × Instr × Nat) := [(0, .aload_n 0, 1), (1, .getfield 124, 3), (4, .ifCond .ne 29, 3), (7, .aload_n 0, 1), (8, .getfield 128, 3), (11, .iconst 2, 1), (12, .iadd, 1), (13, .iload_n 2, 1), (14, .if_icmp .gt 19, 3), (17, .iload_n 1, 1), (18, .ifCond .lt 20, 3), (21, .aload_n 0, 1), (22, .aload_n 0, 1), (23, .getfield 128, 3), (26, .invokevirtual 131, 3), (29, .iload_n 1, 1), (30, .if_icmp .eq 8, 3), (33, .aload_n 0, 1), (34, .invokevirtual 134, 3), (37, .ireturn, 1), (38, .aload_n 0, 1), (39, .aload_n 0, 1), (40, .getfield 128, 3), (43, .iconst 1, 1), (44, .iadd, 1), (45, .invokevirtual 131, 3), (48, .istore_n 3, 1), (49, .iload_n 3, 1), (50, .istore 4, 2), (52, .iconst 0, 1), (53, .istore 5, 2), (55, .iload_n 3, 1), (56, .bipush 127, 2), (58, .if_icmp .le 106, 3), (61, .iload_n 3, 1), (62, .sipush 128, 3), (65, .isub, 1), (66, .istore 5, 2), (68, .iload 5, 2), (70, .iconst 1, 1), (71, .if_icmp .lt 22, 3), (74, .iload 5, 2), (76, .iconst 3, 1), (77, .if_icmp .gt 16, 3), (80, .aload_n 0, 1), (81, .getfield 128, 3), (84, .iconst 2, 1), (85, .iadd, 1), (86, .iload 5, 2), (88, .iadd, 1), (89, .iload_n 2, 1), (90, .if_icmp .le 8, 3), (93, .aload_n 0, 1), (94, .invokevirtual 134, 3), (97, .ireturn, 1), (98, .iconst 0, 1), (99, .istore 4, 2), (101, .iconst 0, 1), (102, .istore 6, 2), (104, .iload 6, 2), (106, .iload 5, 2), (108, .if_icmp .ge 30, 3), (111, .iload 4, 2), (113, .bipush 8, 2), (115, .ishl, 1), (116, .aload_n 0, 1), (117, .aload_n 0, 1), (118, .getfield 128, 3), (121, .iconst 2, 1), (122, .iadd, 1), (123, .iload 6, 2), (125, .iadd, 1), (126, .invokevirtual 131, 3), (129, .ior, 1), (130, .istore 4, 2), (132, .iinc 6 1, 3), (135, .goto (-31), 3), (138, .aload_n 0, 1), (139, .aload_n 0, 1), (140, .getfield 128, 3), (143, .iconst 2, 1), (144, .iadd, 1), (145, .invokevirtual 131, 3), (148, .ifCond .eq 11, 3), (151, .iload 4, 2), (153, .sipush 128, 3), (156, .if_icmp .ge 8, 3), (159, .aload_n 0, 1), (160, .invokevirtual 134, 3), (163, .ireturn, 1), (164, .aload_n 0, 1), (165, .dup, 1), (166, .getfield 128, 3), (169, .iconst 2, 1), (170, .iload 5, 2), (172, .iadd, 1), (173, .iadd, 1), (174, .putfield 128, 3), (177, .iload 4, 2), (179, .iload_n 2, 1), (180, .aload_n 0, 1), (181, .getfield 128, 3), (184, .isub, 1), (185, .if_icmp .le 10, 3), (188, .aload_n 0, 1), (189, .invokevirtual 134, 3), (192, .goto 10, 3), (195, .aload_n 0, 1), (196, .getfield 128, 3), (199, .iload 4, 2), (201, .iadd, 1), (202, .ireturn, 1)]
theorem dk_M_open : fx_dec prog_15_method_15_code dl_M_open = true := by decide +kernel
theorem d_M_open_0 : decode prog_15_method_15_code 0 = .ok (.aload_n 0, 1) := fx_dat dk_M_open 0 rfl
theorem d_M_open_1 : decode prog_15_method_15_code 1 = .ok (.getfield 124, 3) := fx_dat dk_M_open 1 rfl
theorem d_M_open_4 : decode prog_15_method_15_code 4 = .ok (.ifCond .ne 29, 3) := fx_dat dk_M_open 2 rfl
theorem d_M_open_7 : decode prog_15_method_15_code 7 = .ok (.aload_n 0, 1) := fx_dat dk_M_open 3 rfl
theorem d_M_open_8 : decode prog_15_method_15_code 8 = .ok (.getfield 128, 3) := fx_dat dk_M_open 4 rfl
theorem d_M_open_11 : decode prog_15_method_15_code 11 = .ok (.iconst 2, 1) := fx_dat dk_M_open 5 rfl
theorem d_M_open_12 : decode prog_15_method_15_code 12 = .ok (.iadd, 1) := fx_dat dk_M_open 6 rfl
theorem d_M_open_13 : decode prog_15_method_15_code 13 = .ok (.iload_n 2, 1) := fx_dat dk_M_open 7 rfl
theorem d_M_open_14 : decode prog_15_method_15_code 14 = .ok (.if_icmp .gt 19, 3) := fx_dat dk_M_open 8 rfl
theorem d_M_open_17 : decode prog_15_method_15_code 17 = .ok (.iload_n 1, 1) := fx_dat dk_M_open 9 rfl
theorem d_M_open_18 : decode prog_15_method_15_code 18 = .ok (.ifCond .lt 20, 3) := fx_dat dk_M_open 10 rfl
theorem d_M_open_21 : decode prog_15_method_15_code 21 = .ok (.aload_n 0, 1) := fx_dat dk_M_open 11 rfl
theorem d_M_open_22 : decode prog_15_method_15_code 22 = .ok (.aload_n 0, 1) := fx_dat dk_M_open 12 rfl
theorem d_M_open_23 : decode prog_15_method_15_code 23 = .ok (.getfield 128, 3) := fx_dat dk_M_open 13 rfl
theorem d_M_open_26 : decode prog_15_method_15_code 26 = .ok (.invokevirtual 131, 3) := fx_dat dk_M_open 14 rfl
theorem d_M_open_29 : decode prog_15_method_15_code 29 = .ok (.iload_n 1, 1) := fx_dat dk_M_open 15 rfl
theorem d_M_open_30 : decode prog_15_method_15_code 30 = .ok (.if_icmp .eq 8, 3) := fx_dat dk_M_open 16 rfl
theorem d_M_open_33 : decode prog_15_method_15_code 33 = .ok (.aload_n 0, 1) := fx_dat dk_M_open 17 rfl
theorem d_M_open_34 : decode prog_15_method_15_code 34 = .ok (.invokevirtual 134, 3) := fx_dat dk_M_open 18 rfl
theorem d_M_open_37 : decode prog_15_method_15_code 37 = .ok (.ireturn, 1) := fx_dat dk_M_open 19 rfl
theorem d_M_open_38 : decode prog_15_method_15_code 38 = .ok (.aload_n 0, 1) := fx_dat dk_M_open 20 rfl
theorem d_M_open_39 : decode prog_15_method_15_code 39 = .ok (.aload_n 0, 1) := fx_dat dk_M_open 21 rfl
theorem d_M_open_40 : decode prog_15_method_15_code 40 = .ok (.getfield 128, 3) := fx_dat dk_M_open 22 rfl
theorem d_M_open_43 : decode prog_15_method_15_code 43 = .ok (.iconst 1, 1) := fx_dat dk_M_open 23 rfl
theorem d_M_open_44 : decode prog_15_method_15_code 44 = .ok (.iadd, 1) := fx_dat dk_M_open 24 rfl
theorem d_M_open_45 : decode prog_15_method_15_code 45 = .ok (.invokevirtual 131, 3) := fx_dat dk_M_open 25 rfl
theorem d_M_open_48 : decode prog_15_method_15_code 48 = .ok (.istore_n 3, 1) := fx_dat dk_M_open 26 rfl
theorem d_M_open_49 : decode prog_15_method_15_code 49 = .ok (.iload_n 3, 1) := fx_dat dk_M_open 27 rfl
theorem d_M_open_50 : decode prog_15_method_15_code 50 = .ok (.istore 4, 2) := fx_dat dk_M_open 28 rfl
theorem d_M_open_52 : decode prog_15_method_15_code 52 = .ok (.iconst 0, 1) := fx_dat dk_M_open 29 rfl
theorem d_M_open_53 : decode prog_15_method_15_code 53 = .ok (.istore 5, 2) := fx_dat dk_M_open 30 rfl
theorem d_M_open_55 : decode prog_15_method_15_code 55 = .ok (.iload_n 3, 1) := fx_dat dk_M_open 31 rfl
theorem d_M_open_56 : decode prog_15_method_15_code 56 = .ok (.bipush 127, 2) := fx_dat dk_M_open 32 rfl
theorem d_M_open_58 : decode prog_15_method_15_code 58 = .ok (.if_icmp .le 106, 3) := fx_dat dk_M_open 33 rfl
theorem d_M_open_61 : decode prog_15_method_15_code 61 = .ok (.iload_n 3, 1) := fx_dat dk_M_open 34 rfl
theorem d_M_open_62 : decode prog_15_method_15_code 62 = .ok (.sipush 128, 3) := fx_dat dk_M_open 35 rfl
theorem d_M_open_65 : decode prog_15_method_15_code 65 = .ok (.isub, 1) := fx_dat dk_M_open 36 rfl
theorem d_M_open_66 : decode prog_15_method_15_code 66 = .ok (.istore 5, 2) := fx_dat dk_M_open 37 rfl
theorem d_M_open_68 : decode prog_15_method_15_code 68 = .ok (.iload 5, 2) := fx_dat dk_M_open 38 rfl
theorem d_M_open_70 : decode prog_15_method_15_code 70 = .ok (.iconst 1, 1) := fx_dat dk_M_open 39 rfl
theorem d_M_open_71 : decode prog_15_method_15_code 71 = .ok (.if_icmp .lt 22, 3) := fx_dat dk_M_open 40 rfl
theorem d_M_open_74 : decode prog_15_method_15_code 74 = .ok (.iload 5, 2) := fx_dat dk_M_open 41 rfl
theorem d_M_open_76 : decode prog_15_method_15_code 76 = .ok (.iconst 3, 1) := fx_dat dk_M_open 42 rfl
theorem d_M_open_77 : decode prog_15_method_15_code 77 = .ok (.if_icmp .gt 16, 3) := fx_dat dk_M_open 43 rfl
theorem d_M_open_80 : decode prog_15_method_15_code 80 = .ok (.aload_n 0, 1) := fx_dat dk_M_open 44 rfl
theorem d_M_open_81 : decode prog_15_method_15_code 81 = .ok (.getfield 128, 3) := fx_dat dk_M_open 45 rfl
theorem d_M_open_84 : decode prog_15_method_15_code 84 = .ok (.iconst 2, 1) := fx_dat dk_M_open 46 rfl
theorem d_M_open_85 : decode prog_15_method_15_code 85 = .ok (.iadd, 1) := fx_dat dk_M_open 47 rfl
theorem d_M_open_86 : decode prog_15_method_15_code 86 = .ok (.iload 5, 2) := fx_dat dk_M_open 48 rfl
theorem d_M_open_88 : decode prog_15_method_15_code 88 = .ok (.iadd, 1) := fx_dat dk_M_open 49 rfl
theorem d_M_open_89 : decode prog_15_method_15_code 89 = .ok (.iload_n 2, 1) := fx_dat dk_M_open 50 rfl
theorem d_M_open_90 : decode prog_15_method_15_code 90 = .ok (.if_icmp .le 8, 3) := fx_dat dk_M_open 51 rfl
theorem d_M_open_93 : decode prog_15_method_15_code 93 = .ok (.aload_n 0, 1) := fx_dat dk_M_open 52 rfl
theorem d_M_open_94 : decode prog_15_method_15_code 94 = .ok (.invokevirtual 134, 3) := fx_dat dk_M_open 53 rfl
theorem d_M_open_97 : decode prog_15_method_15_code 97 = .ok (.ireturn, 1) := fx_dat dk_M_open 54 rfl
theorem d_M_open_98 : decode prog_15_method_15_code 98 = .ok (.iconst 0, 1) := fx_dat dk_M_open 55 rfl
theorem d_M_open_99 : decode prog_15_method_15_code 99 = .ok (.istore 4, 2) := fx_dat dk_M_open 56 rfl
theorem d_M_open_101 : decode prog_15_method_15_code 101 = .ok (.iconst 0, 1) := fx_dat dk_M_open 57 rfl
theorem d_M_open_102 : decode prog_15_method_15_code 102 = .ok (.istore 6, 2) := fx_dat dk_M_open 58 rfl
theorem d_M_open_104 : decode prog_15_method_15_code 104 = .ok (.iload 6, 2) := fx_dat dk_M_open 59 rfl
theorem d_M_open_106 : decode prog_15_method_15_code 106 = .ok (.iload 5, 2) := fx_dat dk_M_open 60 rfl
theorem d_M_open_108 : decode prog_15_method_15_code 108 = .ok (.if_icmp .ge 30, 3) := fx_dat dk_M_open 61 rfl
theorem d_M_open_111 : decode prog_15_method_15_code 111 = .ok (.iload 4, 2) := fx_dat dk_M_open 62 rfl
theorem d_M_open_113 : decode prog_15_method_15_code 113 = .ok (.bipush 8, 2) := fx_dat dk_M_open 63 rfl
theorem d_M_open_115 : decode prog_15_method_15_code 115 = .ok (.ishl, 1) := fx_dat dk_M_open 64 rfl
theorem d_M_open_116 : decode prog_15_method_15_code 116 = .ok (.aload_n 0, 1) := fx_dat dk_M_open 65 rfl
theorem d_M_open_117 : decode prog_15_method_15_code 117 = .ok (.aload_n 0, 1) := fx_dat dk_M_open 66 rfl
theorem d_M_open_118 : decode prog_15_method_15_code 118 = .ok (.getfield 128, 3) := fx_dat dk_M_open 67 rfl
theorem d_M_open_121 : decode prog_15_method_15_code 121 = .ok (.iconst 2, 1) := fx_dat dk_M_open 68 rfl
theorem d_M_open_122 : decode prog_15_method_15_code 122 = .ok (.iadd, 1) := fx_dat dk_M_open 69 rfl
theorem d_M_open_123 : decode prog_15_method_15_code 123 = .ok (.iload 6, 2) := fx_dat dk_M_open 70 rfl
theorem d_M_open_125 : decode prog_15_method_15_code 125 = .ok (.iadd, 1) := fx_dat dk_M_open 71 rfl
theorem d_M_open_126 : decode prog_15_method_15_code 126 = .ok (.invokevirtual 131, 3) := fx_dat dk_M_open 72 rfl
theorem d_M_open_129 : decode prog_15_method_15_code 129 = .ok (.ior, 1) := fx_dat dk_M_open 73 rfl
theorem d_M_open_130 : decode prog_15_method_15_code 130 = .ok (.istore 4, 2) := fx_dat dk_M_open 74 rfl
theorem d_M_open_132 : decode prog_15_method_15_code 132 = .ok (.iinc 6 1, 3) := fx_dat dk_M_open 75 rfl
theorem d_M_open_135 : decode prog_15_method_15_code 135 = .ok (.goto (-31), 3) := fx_dat dk_M_open 76 rfl
theorem d_M_open_138 : decode prog_15_method_15_code 138 = .ok (.aload_n 0, 1) := fx_dat dk_M_open 77 rfl
theorem d_M_open_139 : decode prog_15_method_15_code 139 = .ok (.aload_n 0, 1) := fx_dat dk_M_open 78 rfl
theorem d_M_open_140 : decode prog_15_method_15_code 140 = .ok (.getfield 128, 3) := fx_dat dk_M_open 79 rfl
theorem d_M_open_143 : decode prog_15_method_15_code 143 = .ok (.iconst 2, 1) := fx_dat dk_M_open 80 rfl
theorem d_M_open_144 : decode prog_15_method_15_code 144 = .ok (.iadd, 1) := fx_dat dk_M_open 81 rfl
theorem d_M_open_145 : decode prog_15_method_15_code 145 = .ok (.invokevirtual 131, 3) := fx_dat dk_M_open 82 rfl
theorem d_M_open_148 : decode prog_15_method_15_code 148 = .ok (.ifCond .eq 11, 3) := fx_dat dk_M_open 83 rfl
theorem d_M_open_151 : decode prog_15_method_15_code 151 = .ok (.iload 4, 2) := fx_dat dk_M_open 84 rfl
theorem d_M_open_153 : decode prog_15_method_15_code 153 = .ok (.sipush 128, 3) := fx_dat dk_M_open 85 rfl
theorem d_M_open_156 : decode prog_15_method_15_code 156 = .ok (.if_icmp .ge 8, 3) := fx_dat dk_M_open 86 rfl
theorem d_M_open_159 : decode prog_15_method_15_code 159 = .ok (.aload_n 0, 1) := fx_dat dk_M_open 87 rfl
theorem d_M_open_160 : decode prog_15_method_15_code 160 = .ok (.invokevirtual 134, 3) := fx_dat dk_M_open 88 rfl
theorem d_M_open_163 : decode prog_15_method_15_code 163 = .ok (.ireturn, 1) := fx_dat dk_M_open 89 rfl
theorem d_M_open_164 : decode prog_15_method_15_code 164 = .ok (.aload_n 0, 1) := fx_dat dk_M_open 90 rfl
theorem d_M_open_165 : decode prog_15_method_15_code 165 = .ok (.dup, 1) := fx_dat dk_M_open 91 rfl
theorem d_M_open_166 : decode prog_15_method_15_code 166 = .ok (.getfield 128, 3) := fx_dat dk_M_open 92 rfl
theorem d_M_open_169 : decode prog_15_method_15_code 169 = .ok (.iconst 2, 1) := fx_dat dk_M_open 93 rfl
theorem d_M_open_170 : decode prog_15_method_15_code 170 = .ok (.iload 5, 2) := fx_dat dk_M_open 94 rfl
theorem d_M_open_172 : decode prog_15_method_15_code 172 = .ok (.iadd, 1) := fx_dat dk_M_open 95 rfl
theorem d_M_open_173 : decode prog_15_method_15_code 173 = .ok (.iadd, 1) := fx_dat dk_M_open 96 rfl
theorem d_M_open_174 : decode prog_15_method_15_code 174 = .ok (.putfield 128, 3) := fx_dat dk_M_open 97 rfl
theorem d_M_open_177 : decode prog_15_method_15_code 177 = .ok (.iload 4, 2) := fx_dat dk_M_open 98 rfl
theorem d_M_open_179 : decode prog_15_method_15_code 179 = .ok (.iload_n 2, 1) := fx_dat dk_M_open 99 rfl
theorem d_M_open_180 : decode prog_15_method_15_code 180 = .ok (.aload_n 0, 1) := fx_dat dk_M_open 100 rfl
theorem d_M_open_181 : decode prog_15_method_15_code 181 = .ok (.getfield 128, 3) := fx_dat dk_M_open 101 rfl
theorem d_M_open_184 : decode prog_15_method_15_code 184 = .ok (.isub, 1) := fx_dat dk_M_open 102 rfl
theorem d_M_open_185 : decode prog_15_method_15_code 185 = .ok (.if_icmp .le 10, 3) := fx_dat dk_M_open 103 rfl
theorem d_M_open_188 : decode prog_15_method_15_code 188 = .ok (.aload_n 0, 1) := fx_dat dk_M_open 104 rfl
theorem d_M_open_189 : decode prog_15_method_15_code 189 = .ok (.invokevirtual 134, 3) := fx_dat dk_M_open 105 rfl
theorem d_M_open_192 : decode prog_15_method_15_code 192 = .ok (.goto 10, 3) := fx_dat dk_M_open 106 rfl
theorem d_M_open_195 : decode prog_15_method_15_code 195 = .ok (.aload_n 0, 1) := fx_dat dk_M_open 107 rfl
theorem d_M_open_196 : decode prog_15_method_15_code 196 = .ok (.getfield 128, 3) := fx_dat dk_M_open 108 rfl
theorem d_M_open_199 : decode prog_15_method_15_code 199 = .ok (.iload 4, 2) := fx_dat dk_M_open 109 rfl
theorem d_M_open_201 : decode prog_15_method_15_code 201 = .ok (.iadd, 1) := fx_dat dk_M_open 110 rfl
theorem d_M_open_202 : decode prog_15_method_15_code 202 = .ok (.ireturn, 1) := fx_dat dk_M_open 111 rfl
def m_M_open_33 (Q : Int32 → AH → Prop) (r0 : Nat) (h : AH) : Prop := hp_k h r0 = 13 ∧ m_M_wrong (fun v1 h1 => fx_ext h h1 → Q v1 h1) r0 h
def m_M_open_202 (Q : Int32 → AH → Prop) (sx0 : Int32) (h : AH) : Prop := Q sx0 h
def m_M_open_164 (Q : Int32 → AH → Prop) (r0 : Nat) (x2 : Int32) (x4 : Int32) (x5 : Int32) (h : AH) : Prop := hp_k h r0 = 13 ∧ ∀ h1 : AH, h1 = up_I h r0 20 ((hp_I h r0 20) + ((2 : Int32) + x5)) → (x4 ≤ (x2 - (hp_I h1 r0 20)) → m_M_open_202 Q ((hp_I h1 r0 20) + x4) h1) ∧ (¬ x4 ≤ (x2 - (hp_I h1 r0 20)) → m_M_wrong (fun v1 h2 => fx_ext h1 h2 → m_M_open_202 Q v1 h2) r0 h1)
def m_M_open_93 (Q : Int32 → AH → Prop) (r0 : Nat) (h : AH) : Prop := hp_k h r0 = 13 ∧ m_M_wrong (fun v1 h1 => fx_ext h h1 → Q v1 h1) r0 h
def m_M_open_159 (Q : Int32 → AH → Prop) (r0 : Nat) (h : AH) : Prop := hp_k h r0 = 13 ∧ m_M_wrong (fun v1 h1 => fx_ext h h1 → Q v1 h1) r0 h
def m_M_open_104_b (Q : Int32 → AH → Prop) (X104 : Int32 × Int32 × AH → Prop) (r0 : Nat) (x2 : Int32) (x5 : Int32) (x4 : Int32) (x6 : Int32) (h : AH) : Prop := (x5 ≤ x6 → hp_k h r0 = 13 ∧ m_M_here (fun v1 h1 => fx_ext h h1 → (v1 = 0 → m_M_open_159 Q r0 h1) ∧ (¬ v1 = 0 → ((128 : Int32) ≤ x4 → m_M_open_164 Q r0 x2 x4 x5 h1) ∧ (¬ (128 : Int32) ≤ x4 → m_M_open_159 Q r0 h1))) r0 ((hp_I h r0 20) + (2 : Int32)) h) ∧ (¬ x5 ≤ x6 → hp_k h r0 = 13 ∧ m_M_here (fun v2 h2 => fx_ext h h2 → ∀ v3 : Int32, v3 = ((x4 <<< ((8 : Int32) &&& 31)) ||| v2) → ∀ v4 : Int32, v4 = (x6 + (1 : Int32)) → X104 (v3, v4, h2)) r0 (((hp_I h r0 20) + (2 : Int32)) + x6) h)
def m_M_open_104 (Q : Int32 → AH → Prop) (r0 : Nat) (x2 : Int32) (x5 : Int32) (x4 : Int32) (x6 : Int32) (h : AH) : Prop := fx_loop (fun (X104 : Int32 × Int32 × AH → Prop) (st : Int32 × Int32 × AH) => m_M_open_104_b Q X104 r0 x2 x5 st.1 st.2.1 st.2.2) (x4, x6, h)
def m_M_open_38 (Q : Int32 → AH → Prop) (r0 : Nat) (x2 : Int32) (h : AH) : Prop := hp_k h r0 = 13 ∧ m_M_here (fun v1 h1 => fx_ext h h1 → (v1 ≤ (127 : Int32) → m_M_open_164 Q r0 x2 v1 (0 : Int32) h1) ∧ (¬ v1 ≤ (127 : Int32) → ∀ v2 : Int32, v2 = (v1 - (128 : Int32)) → (v2 < (1 : Int32) → m_M_open_93 Q r0 h1) ∧ (¬ v2 < (1 : Int32) → ((3 : Int32) < v2 → m_M_open_93 Q r0 h1) ∧ (¬ (3 : Int32) < v2 → ((((hp_I h1 r0 20) + (2 : Int32)) + v2) ≤ x2 → m_M_open_104 Q r0 x2 v2 (0 : Int32) (0 : Int32) h1) ∧ (¬ (((hp_I h1 r0 20) + (2 : Int32)) + v2) ≤ x2 → m_M_open_93 Q r0 h1))))) r0 ((hp_I h r0 20) + (1 : Int32)) h
def m_M_open (Q : Int32 → AH → Prop) (r0 : Nat) (x1 : Int32) (x2 : Int32) (h : AH) : Prop := hp_k h r0 = 13 ∧ (¬ (hp_I h r0 21) = 0 → m_M_open_33 Q r0 h) ∧ ((hp_I h r0 21) = 0 → (x2 < ((hp_I h r0 20) + (2 : Int32)) → m_M_open_33 Q r0 h) ∧ (¬ x2 < ((hp_I h r0 20) + (2 : Int32)) → (x1 < 0 → m_M_open_38 Q r0 x2 h) ∧ (¬ x1 < 0 → m_M_here (fun v1 h1 => fx_ext h h1 → (v1 = x1 → m_M_open_38 Q r0 x2 h1) ∧ (¬ v1 = x1 → m_M_open_33 Q r0 h1)) r0 (hp_I h r0 20) h)))
theorem b_M_open_33 {p : Program} {l : Launch} {e : Env} {R : Room} {s : State} {m : MethodId} {args : Array Value} {below : List Frame} {meth : Method} {c : Code} {D : DD} {h0 : AH} {Q : Int32 → AH → Prop} (C : fx_CX D y_M_open prog_15_method_15_code 7 1 14 (Option.some FieldType.int) [] h0 p R s m meth c) (hl : l.flags = flags0) (r0 : Nat) (h : AH) (hw : m_M_open_33 Q r0 h) : ∀ (ls : Array Slot) (H : Heap) (locs : List Loc) (cells slots : Nat), lv_has ls 7 [(0, .ref r0)] → fx_F D h0 h H locs cells slots → W p l e R s m args below meth c H locs cells slots (fx_Z D below s h0 (fx_oI Q fx_no)) (F0 m 33 ls []) := by
  unfold m_M_open_33 at hw
  intro ls H locs cells slots hv F
  refine lv_aload_n C.ex C.by d_M_open_33 rfl (lv_at hv 0 rfl) ?_
  obtain ⟨hk1, hw⟩ := hw
  refine fx_callI C F (c_M_wrong hl hw) hm_M_wrong hi_M_wrong hv.1 (by decide) (Nat.le_of_ble_eq_true rfl) (iv_M_wrong C F lm_M_134 hk1 d_M_open_34) (fx_out0 _) fx_eno (fun v1 h1 H locs cells slots hw hx1 F => ?_)
  replace hw := hw hx1
  have hk1 := (hx1).k hk1
  exact fx_iret C F d_M_open_37 (Or.inl ⟨_, rfl, hw⟩)
theorem b_M_open_202 {p : Program} {l : Launch} {e : Env} {R : Room} {s : State} {m : MethodId} {args : Array Value} {below : List Frame} {meth : Method} {c : Code} {D : DD} {h0 : AH} {Q : Int32 → AH → Prop} (C : fx_CX D y_M_open prog_15_method_15_code 7 1 14 (Option.some FieldType.int) [] h0 p R s m meth c) (hl : l.flags = flags0) (sx0 : Int32) (h : AH) (hw : m_M_open_202 Q sx0 h) : ∀ (ls : Array Slot) (H : Heap) (locs : List Loc) (cells slots : Nat), lv_has ls 7 [] → fx_F D h0 h H locs cells slots → W p l e R s m args below meth c H locs cells slots (fx_Z D below s h0 (fx_oI Q fx_no)) (F0 m 202 ls [.int sx0]) := by
  unfold m_M_open_202 at hw
  intro ls H locs cells slots hv F
  exact fx_iret C F d_M_open_202 (Or.inl ⟨_, rfl, hw⟩)
theorem b_M_open_164 {p : Program} {l : Launch} {e : Env} {R : Room} {s : State} {m : MethodId} {args : Array Value} {below : List Frame} {meth : Method} {c : Code} {D : DD} {h0 : AH} {Q : Int32 → AH → Prop} (C : fx_CX D y_M_open prog_15_method_15_code 7 1 14 (Option.some FieldType.int) [] h0 p R s m meth c) (hl : l.flags = flags0) (r0 : Nat) (x2 : Int32) (x4 : Int32) (x5 : Int32) (h : AH) (hw : m_M_open_164 Q r0 x2 x4 x5 h) : ∀ (ls : Array Slot) (H : Heap) (locs : List Loc) (cells slots : Nat), lv_has ls 7 [(0, .ref r0), (2, .int x2), (4, .int x4), (5, .int x5)] → fx_F D h0 h H locs cells slots → W p l e R s m args below meth c H locs cells slots (fx_Z D below s h0 (fx_oI Q fx_no)) (F0 m 164 ls []) := by
  unfold m_M_open_164 at hw
  intro ls H locs cells slots hv F
  refine lv_aload_n C.ex C.by d_M_open_164 rfl (lv_at hv 0 rfl) ?_
  refine lv_dup C.ex C.by d_M_open_165 rfl ?_
  obtain ⟨hk1, hw⟩ := hw
  refine fx_getI C F lf_M_128 hk1 rfl d_M_open_166 ?_
  refine lv_iconst (v := (2 : Int32)) C.ex C.by d_M_open_169 (by decide) ?_
  refine lv_iload C.ex C.by d_M_open_170 (lv_at hv 3 rfl) ?_
  refine lv_iadd C.ex C.by d_M_open_172 ?_
  refine lv_iadd C.ex C.by d_M_open_173 ?_
  let h1 : AH := up_I h r0 20 ((hp_I h r0 20) + ((2 : Int32) + x5))
  replace hw := hw h1 rfl
  refine fx_putI C F lf_M_128 hk1 rfl rfl (fx_mayF.no rfl rfl) d_M_open_174 (fun H locs (F : fx_F D h0 h1 H locs _ _) => ?_)
  refine lv_iload C.ex C.by d_M_open_177 (lv_at hv 2 rfl) ?_
  refine lv_iload_n C.ex C.by d_M_open_179 rfl (lv_at hv 1 rfl) ?_
  refine lv_aload_n C.ex C.by d_M_open_180 rfl (lv_at hv 0 rfl) ?_
  refine fx_getI C F lf_M_128 hk1 rfl d_M_open_181 ?_
  refine lv_isub C.ex C.by d_M_open_184 ?_
  refine lv_icmp_le C.ex C.by d_M_open_185 rfl (fun hc => ?_) (fun hc => ?_)
  · replace hw := hw.1 hc
    refine lv_aload_n C.ex C.by d_M_open_195 rfl (lv_at hv 0 rfl) ?_
    refine fx_getI C F lf_M_128 hk1 rfl d_M_open_196 ?_
    refine lv_iload C.ex C.by d_M_open_199 (lv_at hv 2 rfl) ?_
    refine lv_iadd C.ex C.by d_M_open_201 ?_
    exact b_M_open_202 C hl _ _ hw _ _ _ _ _ (lv_sub hv [] rfl) F
  · replace hw := hw.2 hc
    refine lv_aload_n C.ex C.by d_M_open_188 rfl (lv_at hv 0 rfl) ?_
    refine fx_callI C F (c_M_wrong hl hw) hm_M_wrong hi_M_wrong hv.1 (by decide) (Nat.le_of_ble_eq_true rfl) (iv_M_wrong C F lm_M_134 hk1 d_M_open_189) (fx_out0 _) fx_eno (fun v1 h2 H locs cells slots hw hx1 F => ?_)
    replace hw := hw hx1
    have hk1 := (hx1).k hk1
    refine lv_goto C.ex C.by d_M_open_192 rfl ?_
    exact b_M_open_202 C hl _ _ hw _ _ _ _ _ (lv_sub hv [] rfl) F
theorem b_M_open_93 {p : Program} {l : Launch} {e : Env} {R : Room} {s : State} {m : MethodId} {args : Array Value} {below : List Frame} {meth : Method} {c : Code} {D : DD} {h0 : AH} {Q : Int32 → AH → Prop} (C : fx_CX D y_M_open prog_15_method_15_code 7 1 14 (Option.some FieldType.int) [] h0 p R s m meth c) (hl : l.flags = flags0) (r0 : Nat) (h : AH) (hw : m_M_open_93 Q r0 h) : ∀ (ls : Array Slot) (H : Heap) (locs : List Loc) (cells slots : Nat), lv_has ls 7 [(0, .ref r0)] → fx_F D h0 h H locs cells slots → W p l e R s m args below meth c H locs cells slots (fx_Z D below s h0 (fx_oI Q fx_no)) (F0 m 93 ls []) := by
  unfold m_M_open_93 at hw
  intro ls H locs cells slots hv F
  refine lv_aload_n C.ex C.by d_M_open_93 rfl (lv_at hv 0 rfl) ?_
  obtain ⟨hk1, hw⟩ := hw
  refine fx_callI C F (c_M_wrong hl hw) hm_M_wrong hi_M_wrong hv.1 (by decide) (Nat.le_of_ble_eq_true rfl) (iv_M_wrong C F lm_M_134 hk1 d_M_open_94) (fx_out0 _) fx_eno (fun v1 h1 H locs cells slots hw hx1 F => ?_)
  replace hw := hw hx1
  have hk1 := (hx1).k hk1
  exact fx_iret C F d_M_open_97 (Or.inl ⟨_, rfl, hw⟩)
theorem b_M_open_159 {p : Program} {l : Launch} {e : Env} {R : Room} {s : State} {m : MethodId} {args : Array Value} {below : List Frame} {meth : Method} {c : Code} {D : DD} {h0 : AH} {Q : Int32 → AH → Prop} (C : fx_CX D y_M_open prog_15_method_15_code 7 1 14 (Option.some FieldType.int) [] h0 p R s m meth c) (hl : l.flags = flags0) (r0 : Nat) (h : AH) (hw : m_M_open_159 Q r0 h) : ∀ (ls : Array Slot) (H : Heap) (locs : List Loc) (cells slots : Nat), lv_has ls 7 [(0, .ref r0)] → fx_F D h0 h H locs cells slots → W p l e R s m args below meth c H locs cells slots (fx_Z D below s h0 (fx_oI Q fx_no)) (F0 m 159 ls []) := by
  unfold m_M_open_159 at hw
  intro ls H locs cells slots hv F
  refine lv_aload_n C.ex C.by d_M_open_159 rfl (lv_at hv 0 rfl) ?_
  obtain ⟨hk1, hw⟩ := hw
  refine fx_callI C F (c_M_wrong hl hw) hm_M_wrong hi_M_wrong hv.1 (by decide) (Nat.le_of_ble_eq_true rfl) (iv_M_wrong C F lm_M_134 hk1 d_M_open_160) (fx_out0 _) fx_eno (fun v1 h1 H locs cells slots hw hx1 F => ?_)
  replace hw := hw hx1
  have hk1 := (hx1).k hk1
  exact fx_iret C F d_M_open_163 (Or.inl ⟨_, rfl, hw⟩)
theorem b_M_open_104 {p : Program} {l : Launch} {e : Env} {R : Room} {s : State} {m : MethodId} {args : Array Value} {below : List Frame} {meth : Method} {c : Code} {D : DD} {h0 : AH} {Q : Int32 → AH → Prop} (C : fx_CX D y_M_open prog_15_method_15_code 7 1 14 (Option.some FieldType.int) [] h0 p R s m meth c) (hl : l.flags = flags0) (r0 : Nat) (x2 : Int32) (x5 : Int32) (x4 : Int32) (x6 : Int32) (h : AH) (hw : m_M_open_104 Q r0 x2 x5 x4 x6 h) : ∀ (ls : Array Slot) (H : Heap) (locs : List Loc) (cells slots : Nat), lv_has ls 7 [(0, .ref r0), (2, .int x2), (4, .int x4), (5, .int x5), (6, .int x6)] → fx_F D h0 h H locs cells slots → W p l e R s m args below meth c H locs cells slots (fx_Z D below s h0 (fx_oI Q fx_no)) (F0 m 104 ls []) := by
  refine fx_loop.use hw (fun st => ∀ (ls : Array Slot) (H : Heap) (locs : List Loc) (cells slots : Nat), lv_has ls 7 [(0, .ref r0), (2, .int x2), (4, .int st.1), (5, .int x5), (6, .int st.2.1)] → fx_F D h0 st.2.2 H locs cells slots → W p l e R s m args below meth c H locs cells slots (fx_Z D below s h0 (fx_oI Q fx_no)) (F0 m 104 ls [])) (fun X104 st hX104 hw => ?_)
  obtain ⟨x4, x6, h⟩ := st
  replace hw : m_M_open_104_b Q X104 r0 x2 x5 x4 x6 h := hw
  unfold m_M_open_104_b at hw
  intro ls H locs cells slots hv F
  refine lv_iload C.ex C.by d_M_open_104 (lv_at hv 4 rfl) ?_
  refine lv_iload C.ex C.by d_M_open_106 (lv_at hv 3 rfl) ?_
  refine lv_icmp_ge C.ex C.by d_M_open_108 rfl (fun hc => ?_) (fun hc => ?_)
  · replace hw := hw.1 hc
    refine lv_aload_n C.ex C.by d_M_open_138 rfl (lv_at hv 0 rfl) ?_
    refine lv_aload_n C.ex C.by d_M_open_139 rfl (lv_at hv 0 rfl) ?_
    obtain ⟨hk1, hw⟩ := hw
    refine fx_getI C F lf_M_128 hk1 rfl d_M_open_140 ?_
    refine lv_iconst (v := (2 : Int32)) C.ex C.by d_M_open_143 (by decide) ?_
    refine lv_iadd C.ex C.by d_M_open_144 ?_
    refine fx_callI C F (c_M_here hl hw) hm_M_here hi_M_here hv.1 (by decide) (Nat.le_of_ble_eq_true rfl) (iv_M_here C F lm_M_131 hk1 d_M_open_145) (fx_out0 _) fx_eno (fun v1 h1 H locs cells slots hw hx1 F => ?_)
    replace hw := hw hx1
    have hk1 := (hx1).k hk1
    refine lv_if_eq C.ex C.by d_M_open_148 rfl (fun hc => ?_) (fun hc => ?_)
    · replace hw := hw.1 hc
      exact b_M_open_159 C hl _ _ hw _ _ _ _ _ (lv_sub hv [0] rfl) F
    · replace hw := hw.2 hc
      refine lv_iload C.ex C.by d_M_open_151 (lv_at hv 2 rfl) ?_
      refine lv_sipush (v := (128 : Int32)) C.ex C.by d_M_open_153 (by decide) ?_
      refine lv_icmp_ge C.ex C.by d_M_open_156 rfl (fun hc => ?_) (fun hc => ?_)
      · replace hw := hw.1 hc
        exact b_M_open_164 C hl _ _ _ _ _ hw _ _ _ _ _ (lv_sub hv [0, 1, 2, 3] rfl) F
      · replace hw := hw.2 hc
        exact b_M_open_159 C hl _ _ hw _ _ _ _ _ (lv_sub hv [0] rfl) F
  · replace hw := hw.2 hc
    refine lv_iload C.ex C.by d_M_open_111 (lv_at hv 2 rfl) ?_
    refine lv_bipush (v := (8 : Int32)) C.ex C.by d_M_open_113 (by decide) ?_
    refine lv_ishl C.ex C.by d_M_open_115 ?_
    refine lv_aload_n C.ex C.by d_M_open_116 rfl (lv_at hv 0 rfl) ?_
    refine lv_aload_n C.ex C.by d_M_open_117 rfl (lv_at hv 0 rfl) ?_
    obtain ⟨hk2, hw⟩ := hw
    refine fx_getI C F lf_M_128 hk2 rfl d_M_open_118 ?_
    refine lv_iconst (v := (2 : Int32)) C.ex C.by d_M_open_121 (by decide) ?_
    refine lv_iadd C.ex C.by d_M_open_122 ?_
    refine lv_iload C.ex C.by d_M_open_123 (lv_at hv 4 rfl) ?_
    refine lv_iadd C.ex C.by d_M_open_125 ?_
    refine fx_callI C F (c_M_here hl hw) hm_M_here hi_M_here hv.1 (by decide) (Nat.le_of_ble_eq_true rfl) (iv_M_here C F lm_M_131 hk2 d_M_open_126) (fx_out0 _) fx_eno (fun v2 h2 H locs cells slots hw hx2 F => ?_)
    replace hw := hw hx2
    have hk2 := (hx2).k hk2
    refine lv_ior C.ex C.by d_M_open_129 ?_
    let v3 : Int32 := ((x4 <<< ((8 : Int32) &&& 31)) ||| v2)
    replace hw := hw v3 rfl
    refine lv_istore (lv' := [(4, .int v3), (0, .ref r0), (2, .int x2), (5, .int x5), (6, .int x6)]) C.ex C.by d_M_open_130 hv (by decide) rfl (fun ls hv => ?_)
    let v4 : Int32 := (x6 + (1 : Int32))
    replace hw := hw v4 rfl
    refine lv_iinc (v := v4) (k := 4) (lv' := [(6, .int v4), (4, .int v3), (0, .ref r0), (2, .int x2), (5, .int x5)]) C.ex C.by d_M_open_132 hv rfl (congrArg (fun z => x6 + z) (by decide)) (by decide) rfl (fun ls hv => ?_)
    refine lv_goto C.ex C.by d_M_open_135 rfl ?_
    exact hX104 _ hw _ _ _ _ _ (lv_sub hv [2, 3, 1, 4, 0] rfl) F
theorem b_M_open_38 {p : Program} {l : Launch} {e : Env} {R : Room} {s : State} {m : MethodId} {args : Array Value} {below : List Frame} {meth : Method} {c : Code} {D : DD} {h0 : AH} {Q : Int32 → AH → Prop} (C : fx_CX D y_M_open prog_15_method_15_code 7 1 14 (Option.some FieldType.int) [] h0 p R s m meth c) (hl : l.flags = flags0) (r0 : Nat) (x2 : Int32) (h : AH) (hw : m_M_open_38 Q r0 x2 h) : ∀ (ls : Array Slot) (H : Heap) (locs : List Loc) (cells slots : Nat), lv_has ls 7 [(0, .ref r0), (2, .int x2)] → fx_F D h0 h H locs cells slots → W p l e R s m args below meth c H locs cells slots (fx_Z D below s h0 (fx_oI Q fx_no)) (F0 m 38 ls []) := by
  unfold m_M_open_38 at hw
  intro ls H locs cells slots hv F
  refine lv_aload_n C.ex C.by d_M_open_38 rfl (lv_at hv 0 rfl) ?_
  refine lv_aload_n C.ex C.by d_M_open_39 rfl (lv_at hv 0 rfl) ?_
  obtain ⟨hk1, hw⟩ := hw
  refine fx_getI C F lf_M_128 hk1 rfl d_M_open_40 ?_
  refine lv_iconst (v := (1 : Int32)) C.ex C.by d_M_open_43 (by decide) ?_
  refine lv_iadd C.ex C.by d_M_open_44 ?_
  refine fx_callI C F (c_M_here hl hw) hm_M_here hi_M_here hv.1 (by decide) (Nat.le_of_ble_eq_true rfl) (iv_M_here C F lm_M_131 hk1 d_M_open_45) (fx_out0 _) fx_eno (fun v1 h1 H locs cells slots hw hx1 F => ?_)
  replace hw := hw hx1
  have hk1 := (hx1).k hk1
  refine lv_istore_n (lv' := [(3, .int v1), (0, .ref r0), (2, .int x2)]) C.ex C.by d_M_open_48 rfl hv (by decide) rfl (fun ls hv => ?_)
  refine lv_iload_n C.ex C.by d_M_open_49 rfl (lv_at hv 0 rfl) ?_
  refine lv_istore (lv' := [(4, .int v1), (3, .int v1), (0, .ref r0), (2, .int x2)]) C.ex C.by d_M_open_50 hv (by decide) rfl (fun ls hv => ?_)
  refine lv_iconst (v := (0 : Int32)) C.ex C.by d_M_open_52 (by decide) ?_
  refine lv_istore (lv' := [(5, .int (0 : Int32)), (4, .int v1), (3, .int v1), (0, .ref r0), (2, .int x2)]) C.ex C.by d_M_open_53 hv (by decide) rfl (fun ls hv => ?_)
  refine lv_iload_n C.ex C.by d_M_open_55 rfl (lv_at hv 2 rfl) ?_
  refine lv_bipush (v := (127 : Int32)) C.ex C.by d_M_open_56 (by decide) ?_
  refine lv_icmp_le C.ex C.by d_M_open_58 rfl (fun hc => ?_) (fun hc => ?_)
  · replace hw := hw.1 hc
    exact b_M_open_164 C hl _ _ _ _ _ hw _ _ _ _ _ (lv_sub hv [3, 4, 1, 0] rfl) F
  · replace hw := hw.2 hc
    refine lv_iload_n C.ex C.by d_M_open_61 rfl (lv_at hv 2 rfl) ?_
    refine lv_sipush (v := (128 : Int32)) C.ex C.by d_M_open_62 (by decide) ?_
    refine lv_isub C.ex C.by d_M_open_65 ?_
    let v2 : Int32 := (v1 - (128 : Int32))
    replace hw := hw v2 rfl
    refine lv_istore (lv' := [(5, .int v2), (4, .int v1), (3, .int v1), (0, .ref r0), (2, .int x2)]) C.ex C.by d_M_open_66 hv (by decide) rfl (fun ls hv => ?_)
    refine lv_iload C.ex C.by d_M_open_68 (lv_at hv 0 rfl) ?_
    refine lv_iconst (v := (1 : Int32)) C.ex C.by d_M_open_70 (by decide) ?_
    refine lv_icmp_lt C.ex C.by d_M_open_71 rfl (fun hc => ?_) (fun hc => ?_)
    · replace hw := hw.1 hc
      exact b_M_open_93 C hl _ _ hw _ _ _ _ _ (lv_sub hv [3] rfl) F
    · replace hw := hw.2 hc
      refine lv_iload C.ex C.by d_M_open_74 (lv_at hv 0 rfl) ?_
      refine lv_iconst (v := (3 : Int32)) C.ex C.by d_M_open_76 (by decide) ?_
      refine lv_icmp_gt C.ex C.by d_M_open_77 rfl (fun hc => ?_) (fun hc => ?_)
      · replace hw := hw.1 hc
        exact b_M_open_93 C hl _ _ hw _ _ _ _ _ (lv_sub hv [3] rfl) F
      · replace hw := hw.2 hc
        refine lv_aload_n C.ex C.by d_M_open_80 rfl (lv_at hv 3 rfl) ?_
        refine fx_getI C F lf_M_128 hk1 rfl d_M_open_81 ?_
        refine lv_iconst (v := (2 : Int32)) C.ex C.by d_M_open_84 (by decide) ?_
        refine lv_iadd C.ex C.by d_M_open_85 ?_
        refine lv_iload C.ex C.by d_M_open_86 (lv_at hv 0 rfl) ?_
        refine lv_iadd C.ex C.by d_M_open_88 ?_
        refine lv_iload_n C.ex C.by d_M_open_89 rfl (lv_at hv 4 rfl) ?_
        refine lv_icmp_le C.ex C.by d_M_open_90 rfl (fun hc => ?_) (fun hc => ?_)
        · replace hw := hw.1 hc
          refine lv_iconst (v := (0 : Int32)) C.ex C.by d_M_open_98 (by decide) ?_
          refine lv_istore (lv' := [(4, .int (0 : Int32)), (5, .int v2), (3, .int v1), (0, .ref r0), (2, .int x2)]) C.ex C.by d_M_open_99 hv (by decide) rfl (fun ls hv => ?_)
          refine lv_iconst (v := (0 : Int32)) C.ex C.by d_M_open_101 (by decide) ?_
          refine lv_istore (lv' := [(6, .int (0 : Int32)), (4, .int (0 : Int32)), (5, .int v2), (3, .int v1), (0, .ref r0), (2, .int x2)]) C.ex C.by d_M_open_102 hv (by decide) rfl (fun ls hv => ?_)
          exact b_M_open_104 C hl _ _ _ _ _ _ hw _ _ _ _ _ (lv_sub hv [4, 5, 1, 2, 0] rfl) F
        · replace hw := hw.2 hc
          exact b_M_open_93 C hl _ _ hw _ _ _ _ _ (lv_sub hv [3] rfl) F
theorem b_M_open_0 {p : Program} {l : Launch} {e : Env} {R : Room} {s : State} {m : MethodId} {args : Array Value} {below : List Frame} {meth : Method} {c : Code} {D : DD} {h0 : AH} {Q : Int32 → AH → Prop} (C : fx_CX D y_M_open prog_15_method_15_code 7 1 14 (Option.some FieldType.int) [] h0 p R s m meth c) (hl : l.flags = flags0) (r0 : Nat) (x1 : Int32) (x2 : Int32) (h : AH) (hw : m_M_open Q r0 x1 x2 h) : ∀ (ls : Array Slot) (H : Heap) (locs : List Loc) (cells slots : Nat), lv_has ls 7 [(0, .ref r0), (1, .int x1), (2, .int x2)] → fx_F D h0 h H locs cells slots → W p l e R s m args below meth c H locs cells slots (fx_Z D below s h0 (fx_oI Q fx_no)) (F0 m 0 ls []) := by
  unfold m_M_open at hw
  intro ls H locs cells slots hv F
  refine lv_aload_n C.ex C.by d_M_open_0 rfl (lv_at hv 0 rfl) ?_
  obtain ⟨hk1, hw⟩ := hw
  refine fx_getI C F lf_M_124 hk1 rfl d_M_open_1 ?_
  refine lv_if_ne C.ex C.by d_M_open_4 rfl (fun hc => ?_) (fun hc => ?_)
  · replace hw := hw.1 hc
    exact b_M_open_33 C hl _ _ hw _ _ _ _ _ (lv_sub hv [0] rfl) F
  · replace hw := hw.2 hc
    refine lv_aload_n C.ex C.by d_M_open_7 rfl (lv_at hv 0 rfl) ?_
    refine fx_getI C F lf_M_128 hk1 rfl d_M_open_8 ?_
    refine lv_iconst (v := (2 : Int32)) C.ex C.by d_M_open_11 (by decide) ?_
    refine lv_iadd C.ex C.by d_M_open_12 ?_
    refine lv_iload_n C.ex C.by d_M_open_13 rfl (lv_at hv 2 rfl) ?_
    refine lv_icmp_gt C.ex C.by d_M_open_14 rfl (fun hc => ?_) (fun hc => ?_)
    · replace hw := hw.1 hc
      exact b_M_open_33 C hl _ _ hw _ _ _ _ _ (lv_sub hv [0] rfl) F
    · replace hw := hw.2 hc
      refine lv_iload_n C.ex C.by d_M_open_17 rfl (lv_at hv 1 rfl) ?_
      refine lv_if_lt C.ex C.by d_M_open_18 rfl (fun hc => ?_) (fun hc => ?_)
      · replace hw := hw.1 hc
        exact b_M_open_38 C hl _ _ _ hw _ _ _ _ _ (lv_sub hv [0, 2] rfl) F
      · replace hw := hw.2 hc
        refine lv_aload_n C.ex C.by d_M_open_21 rfl (lv_at hv 0 rfl) ?_
        refine lv_aload_n C.ex C.by d_M_open_22 rfl (lv_at hv 0 rfl) ?_
        refine fx_getI C F lf_M_128 hk1 rfl d_M_open_23 ?_
        refine fx_callI C F (c_M_here hl hw) hm_M_here hi_M_here hv.1 (by decide) (Nat.le_of_ble_eq_true rfl) (iv_M_here C F lm_M_131 hk1 d_M_open_26) (fx_out0 _) fx_eno (fun v1 h1 H locs cells slots hw hx1 F => ?_)
        replace hw := hw hx1
        have hk1 := (hx1).k hk1
        refine lv_iload_n C.ex C.by d_M_open_29 rfl (lv_at hv 1 rfl) ?_
        refine lv_icmp_eq C.ex C.by d_M_open_30 rfl (fun hc => ?_) (fun hc => ?_)
        · replace hw := hw.1 hc
          exact b_M_open_38 C hl _ _ _ hw _ _ _ _ _ (lv_sub hv [0, 2] rfl) F
        · replace hw := hw.2 hc
          exact b_M_open_33 C hl _ _ hw _ _ _ _ _ (lv_sub hv [0] rfl) F
theorem hm_M_open : fx_hd y_M_open prog_15_method_15_code 7 (Option.some FieldType.int) [] ∈ tables_1 := (fx_m6 (List.mem_of_getElem? (i := 210) rfl))
theorem hi_M_open : Cond.initialized y_M_open.cls ∈ tables_1 := (fx_m1 (List.mem_of_getElem? (i := 15) rfl))
theorem c_M_open {l : Launch} (hl : l.flags = flags0) {D : DD} {Q : Int32 → AH → Prop} {r0 : Nat} {x1 : Int32} {x2 : Int32} {h : AH} (hw : m_M_open Q r0 x1 x2 h) : fx_Mt l D y_M_open (fx_hd y_M_open prog_15_method_15_code 7 (Option.some FieldType.int) []) 1 14 [.ref r0, .int x1, .int x2] h (fx_oI Q fx_no) := by
  refine fx_ofW (plainFor_of_name (by decide)) (fun p e s m below meth c C F => ?_)
  have hv := lv_entry ([.ref r0, .int x1, .int x2]) (n := 7) (Nat.le_of_ble_eq_true rfl)
  rw [lg_entry_eq]
  generalize (lg_sl ([.ref r0, .int x1, .int x2]) ++ List.replicate (7 - (lg_sl ([.ref r0, .int x1, .int x2])).length) Slot.unset).toArray = ls at hv ⊢
  have hv : lv_has ls 7 [(0, .ref r0), (1, .int x1), (2, .int x2)] := hv
  exact b_M_open_0 C hl _ _ _ _ hw _ _ _ _ _ hv F
/-! ChainJudgeModel.need(Z)V: frames 0, words 0 -/
abbrev y_M_need : MethodName := ⟨"ChainJudgeModel", "need", "(Z)V"⟩
def dl_M_need : List (Nat × Instr × Nat) := [(0, .iload_n 1, 1), (1, .ifCond .ne 8, 3), (4, .aload_n 0, 1), (5, .iconst 1, 1), (6, .putfield 124, 3), (9, .return_, 1)]
theorem dk_M_need : fx_dec prog_15_method_17_code dl_M_need = true := by decide +kernel
theorem d_M_need_0 : decode prog_15_method_17_code 0 = .ok (.iload_n 1, 1) := fx_dat dk_M_need 0 rfl
theorem d_M_need_1 : decode prog_15_method_17_code 1 = .ok (.ifCond .ne 8, 3) := fx_dat dk_M_need 1 rfl
theorem d_M_need_4 : decode prog_15_method_17_code 4 = .ok (.aload_n 0, 1) := fx_dat dk_M_need 2 rfl
theorem d_M_need_5 : decode prog_15_method_17_code 5 = .ok (.iconst 1, 1) := fx_dat dk_M_need 3 rfl
theorem d_M_need_6 : decode prog_15_method_17_code 6 = .ok (.putfield 124, 3) := fx_dat dk_M_need 4 rfl
theorem d_M_need_9 : decode prog_15_method_17_code 9 = .ok (.return_, 1) := fx_dat dk_M_need 5 rfl
def m_M_need_9 (Q : AH → Prop) (h : AH) : Prop := Q h
def m_M_need (Q : AH → Prop) (r0 : Nat) (x1 : Int32) (h : AH) : Prop := (¬ x1 = 0 → m_M_need_9 Q h) ∧ (x1 = 0 → hp_k h r0 = 13 ∧ ∀ h1 : AH, h1 = up_I h r0 21 (1 : Int32) → m_M_need_9 Q h1)
theorem b_M_need_9 {p : Program} {l : Launch} {e : Env} {R : Room} {s : State} {m : MethodId} {args : Array Value} {below : List Frame} {meth : Method} {c : Code} {D : DD} {h0 : AH} {Q : AH → Prop} (C : fx_CX D y_M_need prog_15_method_17_code 2 0 0 (none) [] h0 p R s m meth c) (hl : l.flags = flags0) (h : AH) (hw : m_M_need_9 Q h) : ∀ (ls : Array Slot) (H : Heap) (locs : List Loc) (cells slots : Nat), lv_has ls 2 [] → fx_F D h0 h H locs cells slots → W p l e R s m args below meth c H locs cells slots (fx_Z D below s h0 (fx_oV Q fx_no)) (F0 m 9 ls []) := by
  unfold m_M_need_9 at hw
  intro ls H locs cells slots hv F
  exact fx_vret C F d_M_need_9 (Or.inl ⟨rfl, hw⟩)
theorem b_M_need_0 {p : Program} {l : Launch} {e : Env} {R : Room} {s : State} {m : MethodId} {args : Array Value} {below : List Frame} {meth : Method} {c : Code} {D : DD} {h0 : AH} {Q : AH → Prop} (C : fx_CX D y_M_need prog_15_method_17_code 2 0 0 (none) [] h0 p R s m meth c) (hl : l.flags = flags0) (r0 : Nat) (x1 : Int32) (h : AH) (hw : m_M_need Q r0 x1 h) : ∀ (ls : Array Slot) (H : Heap) (locs : List Loc) (cells slots : Nat), lv_has ls 2 [(0, .ref r0), (1, .int x1)] → fx_F D h0 h H locs cells slots → W p l e R s m args below meth c H locs cells slots (fx_Z D below s h0 (fx_oV Q fx_no)) (F0 m 0 ls []) := by
  unfold m_M_need at hw
  intro ls H locs cells slots hv F
  refine lv_iload_n C.ex C.by d_M_need_0 rfl (lv_at hv 1 rfl) ?_
  refine lv_if_ne C.ex C.by d_M_need_1 rfl (fun hc => ?_) (fun hc => ?_)
  · replace hw := hw.1 hc
    exact b_M_need_9 C hl _ hw _ _ _ _ _ (lv_sub hv [] rfl) F
  · replace hw := hw.2 hc
    refine lv_aload_n C.ex C.by d_M_need_4 rfl (lv_at hv 0 rfl) ?_
    refine lv_iconst (v := (1 : Int32)) C.ex C.by d_M_need_5 (by decide) ?_
    obtain ⟨hk1, hw⟩ := hw
    let h1 : AH := up_I h r0 21 (1 : Int32)
    replace hw := hw h1 rfl
    refine fx_putZ C F lf_M_124 hk1 rfl rfl (Or.inr rfl) (fx_mayF.no rfl rfl) d_M_need_6 (fun H locs (F : fx_F D h0 h1 H locs _ _) => ?_)
    exact b_M_need_9 C hl _ hw _ _ _ _ _ (lv_sub hv [] rfl) F
theorem hm_M_need : fx_hd y_M_need prog_15_method_17_code 2 (none) [] ∈ tables_1 := (fx_m6 (List.mem_of_getElem? (i := 222) rfl))
theorem hi_M_need : Cond.initialized y_M_need.cls ∈ tables_1 := (fx_m1 (List.mem_of_getElem? (i := 15) rfl))
theorem c_M_need {l : Launch} (hl : l.flags = flags0) {D : DD} {Q : AH → Prop} {r0 : Nat} {x1 : Int32} {h : AH} (hw : m_M_need Q r0 x1 h) : fx_Mt l D y_M_need (fx_hd y_M_need prog_15_method_17_code 2 (none) []) 0 0 [.ref r0, .int x1] h (fx_oV Q fx_no) := by
  refine fx_ofW (plainFor_of_name (by decide)) (fun p e s m below meth c C F => ?_)
  have hv := lv_entry ([.ref r0, .int x1]) (n := 2) (Nat.le_of_ble_eq_true rfl)
  rw [lg_entry_eq]
  generalize (lg_sl ([.ref r0, .int x1]) ++ List.replicate (2 - (lg_sl ([.ref r0, .int x1])).length) Slot.unset).toArray = ls at hv ⊢
  have hv : lv_has ls 2 [(0, .ref r0), (1, .int x1)] := hv
  exact b_M_need_0 C hl _ _ _ hw _ _ _ _ _ hv F
/-! ChainJudgeModel.serial(I)V: frames 2, words 32 -/
abbrev y_M_serial : MethodName := ⟨"ChainJudgeModel", "serial", "(I)V"⟩
theorem lf_M_229 : fx_Lk "ChainJudgeModel" 229 12 32 := fx_Lk.mk (C := "ChainJudgeModel") (T := fx_T12) (N := 57) rfl (by decide) (by decide) (fx_m6 (List.mem_of_getElem? (i := 38) rfl))
theorem lm_M_140 : Cond.methodLink "ChainJudgeModel" 140 y_M_open ∈ tables_1 ∨ ∃ host, Cond.methodLinkNest "ChainJudgeModel" 140 y_M_open host ∈ tables_1 := Or.inl (fx_m6 (List.mem_of_getElem? (i := 207) rfl))
theorem lm_M_143 : Cond.methodLink "ChainJudgeModel" 143 y_M_need ∈ tables_1 ∨ ∃ host, Cond.methodLinkNest "ChainJudgeModel" 143 y_M_need host ∈ tables_1 := Or.inl (fx_m6 (List.mem_of_getElem? (i := 219) rfl))
section
variable {p : Program} {l : Launch} {e : Env} {R : Room} {s : State} {m : MethodId} {args : Array Value} {below : List Frame} {meth : Method} {c : Code} {H : Heap} {locs : List Loc} {cells slots : Nat}
variable {D : DD} {y : MethodName} {cc : ByteArray} {nL kf kw : Nat} {ret : Option FieldType} {hh : List (Nat × Nat × Nat × Nat)} {h0 h : AH} {pc : Nat} {ls : Array Slot} {rest : List Value} {b idx : Nat}
theorem iv_M_need {x1 : Int32} (C : fx_CX D y cc nL kf kw ret hh h0 p R s m meth c) (F : fx_F D h0 h H locs cells slots) (hw1 : Cond.methodLink y.cls idx y_M_need ∈ tables_1 ∨ ∃ host, Cond.methodLinkNest y.cls idx y_M_need host ∈ tables_1) (hk : hp_k h b = 13) (hd : decode cc pc = .ok (.invokevirtual idx, 3)) : fx_IV p l e R s m args below meth c H locs cells slots (F0 m pc ls (.int x1 :: .ref b :: rest)) rest y_M_need [.ref b, .int x1] 3 := fun T hT X => fx_invV (As := [.int x1]) (Cn := "ChainJudgeModel") C X hw1 (fx_m6 (List.mem_of_getElem? (i := 221) rfl)) (fx_selP C ⟨by decide, by decide⟩ (fx_m5 (List.mem_of_getElem? (i := 217) rfl)) (fx_m6 (List.mem_of_getElem? (i := 220) rfl)) (fx_m6 (List.mem_of_getElem? (i := 221) rfl))) hm_M_need ⟨by decide, by decide⟩ (by rw [hT]; exact fx_clsO (ci := 12) (r := ("ChainJudgeModel", fx_T12, 57)) C F rfl (by decide) hk) rfl (n := 1) (by decide +kernel) rfl rfl hd
theorem iv_M_open {x1 : Int32} {x2 : Int32} (C : fx_CX D y cc nL kf kw ret hh h0 p R s m meth c) (F : fx_F D h0 h H locs cells slots) (hw1 : Cond.methodLink y.cls idx y_M_open ∈ tables_1 ∨ ∃ host, Cond.methodLinkNest y.cls idx y_M_open host ∈ tables_1) (hk : hp_k h b = 13) (hd : decode cc pc = .ok (.invokevirtual idx, 3)) : fx_IV p l e R s m args below meth c H locs cells slots (F0 m pc ls (.int x2 :: .int x1 :: .ref b :: rest)) rest y_M_open [.ref b, .int x1, .int x2] 3 := fun T hT X => fx_invV (As := [.int x1, .int x2]) (Cn := "ChainJudgeModel") C X hw1 (fx_m6 (List.mem_of_getElem? (i := 209) rfl)) (fx_selP C ⟨by decide, by decide⟩ (fx_m5 (List.mem_of_getElem? (i := 217) rfl)) (fx_m6 (List.mem_of_getElem? (i := 208) rfl)) (fx_m6 (List.mem_of_getElem? (i := 209) rfl))) hm_M_open ⟨by decide, by decide⟩ (by rw [hT]; exact fx_clsO (ci := 12) (r := ("ChainJudgeModel", fx_T12, 57)) C F rfl (by decide) hk) rfl (n := 2) (by decide +kernel) rfl rfl hd
end
def dl_M_serial : List (Nat × Instr × Nat) := [(0, .aload_n 0, 1), (1, .iconst 2, 1), (2, .iload_n 1, 1), (3, .invokevirtual 140, 3), (6, .istore_n 2, 1), (7, .aload_n 0, 1), (8, .getfield 124, 3), (11, .ifCond .eq 4, 3), (14, .return_, 1), (15, .aload_n 0, 1), (16, .iload_n 2, 1), (17, .aload_n 0, 1), (18, .getfield 128, 3), (21, .isub, 1), (22, .putfield 229, 3), (25, .aload_n 0, 1), (26, .aload_n 0, 1), (27, .getfield 229, 3), (30, .iconst 1, 1), (31, .if_icmp .lt 16, 3), (34, .aload_n 0, 1), (35, .getfield 229, 3), (38, .bipush 20, 2), (40, .if_icmp .gt 7, 3), (43, .iconst 1, 1), (44, .goto 4, 3), (47, .iconst 0, 1), (48, .invokevirtual 143, 3), (51, .aload_n 0, 1), (52, .getfield 124, 3), (55, .ifCond .eq 4, 3), (58, .return_, 1), (59, .aload_n 0, 1), (60, .aload_n 0, 1), (61, .getfield 128, 3), (64, .invokevirtual 131, 3), (67, .istore_n 3, 1), (68, .aload_n 0, 1), (69, .iload_n 3, 1), (70, .sipush 128, 3), (73, .if_icmp .ge 34, 3), (76, .iload_n 3, 1), (77, .ifCond .gt 26, 3), (80, .aload_n 0, 1), (81, .getfield 229, 3), (84, .iconst 1, 1), (85, .if_icmp .le 22, 3), (88, .aload_n 0, 1), (89, .aload_n 0, 1), (90, .getfield 128, 3), (93, .iconst 1, 1), (94, .iadd, 1), (95, .invokevirtual 131, 3), (98, .bipush 127, 2), (100, .if_icmp .le 7, 3), (103, .iconst 1, 1), (104, .goto 4, 3), (107, .iconst 0, 1), (108, .invokevirtual 143, 3), (111, .aload_n 0, 1), (112, .iload_n 2, 1), (113, .putfield 128, 3), (116, .return_, 1)]
theorem dk_M_serial : fx_dec prog_15_method_34_code dl_M_serial = true := by decide +kernel
theorem d_M_serial_0 : decode prog_15_method_34_code 0 = .ok (.aload_n 0, 1) := fx_dat dk_M_serial 0 rfl
theorem d_M_serial_1 : decode prog_15_method_34_code 1 = .ok (.iconst 2, 1) := fx_dat dk_M_serial 1 rfl
theorem d_M_serial_2 : decode prog_15_method_34_code 2 = .ok (.iload_n 1, 1) := fx_dat dk_M_serial 2 rfl
theorem d_M_serial_3 : decode prog_15_method_34_code 3 = .ok (.invokevirtual 140, 3) := fx_dat dk_M_serial 3 rfl
theorem d_M_serial_6 : decode prog_15_method_34_code 6 = .ok (.istore_n 2, 1) := fx_dat dk_M_serial 4 rfl
theorem d_M_serial_7 : decode prog_15_method_34_code 7 = .ok (.aload_n 0, 1) := fx_dat dk_M_serial 5 rfl
theorem d_M_serial_8 : decode prog_15_method_34_code 8 = .ok (.getfield 124, 3) := fx_dat dk_M_serial 6 rfl
theorem d_M_serial_11 : decode prog_15_method_34_code 11 = .ok (.ifCond .eq 4, 3) := fx_dat dk_M_serial 7 rfl
theorem d_M_serial_14 : decode prog_15_method_34_code 14 = .ok (.return_, 1) := fx_dat dk_M_serial 8 rfl
theorem d_M_serial_15 : decode prog_15_method_34_code 15 = .ok (.aload_n 0, 1) := fx_dat dk_M_serial 9 rfl
theorem d_M_serial_16 : decode prog_15_method_34_code 16 = .ok (.iload_n 2, 1) := fx_dat dk_M_serial 10 rfl
theorem d_M_serial_17 : decode prog_15_method_34_code 17 = .ok (.aload_n 0, 1) := fx_dat dk_M_serial 11 rfl
theorem d_M_serial_18 : decode prog_15_method_34_code 18 = .ok (.getfield 128, 3) := fx_dat dk_M_serial 12 rfl
theorem d_M_serial_21 : decode prog_15_method_34_code 21 = .ok (.isub, 1) := fx_dat dk_M_serial 13 rfl
theorem d_M_serial_22 : decode prog_15_method_34_code 22 = .ok (.putfield 229, 3) := fx_dat dk_M_serial 14 rfl
theorem d_M_serial_25 : decode prog_15_method_34_code 25 = .ok (.aload_n 0, 1) := fx_dat dk_M_serial 15 rfl
theorem d_M_serial_26 : decode prog_15_method_34_code 26 = .ok (.aload_n 0, 1) := fx_dat dk_M_serial 16 rfl
theorem d_M_serial_27 : decode prog_15_method_34_code 27 = .ok (.getfield 229, 3) := fx_dat dk_M_serial 17 rfl
theorem d_M_serial_30 : decode prog_15_method_34_code 30 = .ok (.iconst 1, 1) := fx_dat dk_M_serial 18 rfl
theorem d_M_serial_31 : decode prog_15_method_34_code 31 = .ok (.if_icmp .lt 16, 3) := fx_dat dk_M_serial 19 rfl
theorem d_M_serial_34 : decode prog_15_method_34_code 34 = .ok (.aload_n 0, 1) := fx_dat dk_M_serial 20 rfl
theorem d_M_serial_35 : decode prog_15_method_34_code 35 = .ok (.getfield 229, 3) := fx_dat dk_M_serial 21 rfl
theorem d_M_serial_38 : decode prog_15_method_34_code 38 = .ok (.bipush 20, 2) := fx_dat dk_M_serial 22 rfl
theorem d_M_serial_40 : decode prog_15_method_34_code 40 = .ok (.if_icmp .gt 7, 3) := fx_dat dk_M_serial 23 rfl
theorem d_M_serial_43 : decode prog_15_method_34_code 43 = .ok (.iconst 1, 1) := fx_dat dk_M_serial 24 rfl
theorem d_M_serial_44 : decode prog_15_method_34_code 44 = .ok (.goto 4, 3) := fx_dat dk_M_serial 25 rfl
theorem d_M_serial_47 : decode prog_15_method_34_code 47 = .ok (.iconst 0, 1) := fx_dat dk_M_serial 26 rfl
theorem d_M_serial_48 : decode prog_15_method_34_code 48 = .ok (.invokevirtual 143, 3) := fx_dat dk_M_serial 27 rfl
theorem d_M_serial_51 : decode prog_15_method_34_code 51 = .ok (.aload_n 0, 1) := fx_dat dk_M_serial 28 rfl
theorem d_M_serial_52 : decode prog_15_method_34_code 52 = .ok (.getfield 124, 3) := fx_dat dk_M_serial 29 rfl
theorem d_M_serial_55 : decode prog_15_method_34_code 55 = .ok (.ifCond .eq 4, 3) := fx_dat dk_M_serial 30 rfl
theorem d_M_serial_58 : decode prog_15_method_34_code 58 = .ok (.return_, 1) := fx_dat dk_M_serial 31 rfl
theorem d_M_serial_59 : decode prog_15_method_34_code 59 = .ok (.aload_n 0, 1) := fx_dat dk_M_serial 32 rfl
theorem d_M_serial_60 : decode prog_15_method_34_code 60 = .ok (.aload_n 0, 1) := fx_dat dk_M_serial 33 rfl
theorem d_M_serial_61 : decode prog_15_method_34_code 61 = .ok (.getfield 128, 3) := fx_dat dk_M_serial 34 rfl
theorem d_M_serial_64 : decode prog_15_method_34_code 64 = .ok (.invokevirtual 131, 3) := fx_dat dk_M_serial 35 rfl
theorem d_M_serial_67 : decode prog_15_method_34_code 67 = .ok (.istore_n 3, 1) := fx_dat dk_M_serial 36 rfl
theorem d_M_serial_68 : decode prog_15_method_34_code 68 = .ok (.aload_n 0, 1) := fx_dat dk_M_serial 37 rfl
theorem d_M_serial_69 : decode prog_15_method_34_code 69 = .ok (.iload_n 3, 1) := fx_dat dk_M_serial 38 rfl
theorem d_M_serial_70 : decode prog_15_method_34_code 70 = .ok (.sipush 128, 3) := fx_dat dk_M_serial 39 rfl
theorem d_M_serial_73 : decode prog_15_method_34_code 73 = .ok (.if_icmp .ge 34, 3) := fx_dat dk_M_serial 40 rfl
theorem d_M_serial_76 : decode prog_15_method_34_code 76 = .ok (.iload_n 3, 1) := fx_dat dk_M_serial 41 rfl
theorem d_M_serial_77 : decode prog_15_method_34_code 77 = .ok (.ifCond .gt 26, 3) := fx_dat dk_M_serial 42 rfl
theorem d_M_serial_80 : decode prog_15_method_34_code 80 = .ok (.aload_n 0, 1) := fx_dat dk_M_serial 43 rfl
theorem d_M_serial_81 : decode prog_15_method_34_code 81 = .ok (.getfield 229, 3) := fx_dat dk_M_serial 44 rfl
theorem d_M_serial_84 : decode prog_15_method_34_code 84 = .ok (.iconst 1, 1) := fx_dat dk_M_serial 45 rfl
theorem d_M_serial_85 : decode prog_15_method_34_code 85 = .ok (.if_icmp .le 22, 3) := fx_dat dk_M_serial 46 rfl
theorem d_M_serial_88 : decode prog_15_method_34_code 88 = .ok (.aload_n 0, 1) := fx_dat dk_M_serial 47 rfl
theorem d_M_serial_89 : decode prog_15_method_34_code 89 = .ok (.aload_n 0, 1) := fx_dat dk_M_serial 48 rfl
theorem d_M_serial_90 : decode prog_15_method_34_code 90 = .ok (.getfield 128, 3) := fx_dat dk_M_serial 49 rfl
theorem d_M_serial_93 : decode prog_15_method_34_code 93 = .ok (.iconst 1, 1) := fx_dat dk_M_serial 50 rfl
theorem d_M_serial_94 : decode prog_15_method_34_code 94 = .ok (.iadd, 1) := fx_dat dk_M_serial 51 rfl
theorem d_M_serial_95 : decode prog_15_method_34_code 95 = .ok (.invokevirtual 131, 3) := fx_dat dk_M_serial 52 rfl
theorem d_M_serial_98 : decode prog_15_method_34_code 98 = .ok (.bipush 127, 2) := fx_dat dk_M_serial 53 rfl
theorem d_M_serial_100 : decode prog_15_method_34_code 100 = .ok (.if_icmp .le 7, 3) := fx_dat dk_M_serial 54 rfl
theorem d_M_serial_103 : decode prog_15_method_34_code 103 = .ok (.iconst 1, 1) := fx_dat dk_M_serial 55 rfl
theorem d_M_serial_104 : decode prog_15_method_34_code 104 = .ok (.goto 4, 3) := fx_dat dk_M_serial 56 rfl
theorem d_M_serial_107 : decode prog_15_method_34_code 107 = .ok (.iconst 0, 1) := fx_dat dk_M_serial 57 rfl
theorem d_M_serial_108 : decode prog_15_method_34_code 108 = .ok (.invokevirtual 143, 3) := fx_dat dk_M_serial 58 rfl
theorem d_M_serial_111 : decode prog_15_method_34_code 111 = .ok (.aload_n 0, 1) := fx_dat dk_M_serial 59 rfl
theorem d_M_serial_112 : decode prog_15_method_34_code 112 = .ok (.iload_n 2, 1) := fx_dat dk_M_serial 60 rfl
theorem d_M_serial_113 : decode prog_15_method_34_code 113 = .ok (.putfield 128, 3) := fx_dat dk_M_serial 61 rfl
theorem d_M_serial_116 : decode prog_15_method_34_code 116 = .ok (.return_, 1) := fx_dat dk_M_serial 62 rfl
def m_M_serial_108 (Q : AH → Prop) (r0 : Nat) (x2 : Int32) (sr0 : Nat) (sx1 : Int32) (h : AH) : Prop := hp_k h sr0 = 13 ∧ m_M_need (fun h1 => fx_ext h h1 → hp_k h1 r0 = 13 ∧ ∀ h2 : AH, h2 = up_I h1 r0 20 x2 → Q h2) sr0 sx1 h
def m_M_serial_107 (Q : AH → Prop) (r0 : Nat) (x2 : Int32) (sr0 : Nat) (h : AH) : Prop := m_M_serial_108 Q r0 x2 sr0 (0 : Int32) h
def m_M_serial_103 (Q : AH → Prop) (r0 : Nat) (x2 : Int32) (sr0 : Nat) (h : AH) : Prop := m_M_serial_108 Q r0 x2 sr0 (1 : Int32) h
def m_M_serial_48 (Q : AH → Prop) (r0 : Nat) (x2 : Int32) (sr0 : Nat) (sx1 : Int32) (h : AH) : Prop := hp_k h sr0 = 13 ∧ m_M_need (fun h1 => fx_ext h h1 → hp_k h1 r0 = 13 ∧ ((hp_I h1 r0 21) = 0 → m_M_here (fun v1 h2 => fx_ext h1 h2 → ((128 : Int32) ≤ v1 → m_M_serial_107 Q r0 x2 r0 h2) ∧ (¬ (128 : Int32) ≤ v1 → (0 < v1 → m_M_serial_103 Q r0 x2 r0 h2) ∧ (¬ 0 < v1 → ((hp_I h2 r0 32) ≤ (1 : Int32) → m_M_serial_107 Q r0 x2 r0 h2) ∧ (¬ (hp_I h2 r0 32) ≤ (1 : Int32) → m_M_here (fun v2 h3 => fx_ext h2 h3 → (v2 ≤ (127 : Int32) → m_M_serial_107 Q r0 x2 r0 h3) ∧ (¬ v2 ≤ (127 : Int32) → m_M_serial_103 Q r0 x2 r0 h3)) r0 ((hp_I h2 r0 20) + (1 : Int32)) h2)))) r0 (hp_I h1 r0 20) h1) ∧ (¬ (hp_I h1 r0 21) = 0 → Q h1)) sr0 sx1 h
def m_M_serial_47 (Q : AH → Prop) (r0 : Nat) (x2 : Int32) (sr0 : Nat) (h : AH) : Prop := m_M_serial_48 Q r0 x2 sr0 (0 : Int32) h
def m_M_serial (Q : AH → Prop) (r0 : Nat) (x1 : Int32) (h : AH) : Prop := hp_k h r0 = 13 ∧ m_M_open (fun v1 h1 => fx_ext h h1 → ((hp_I h1 r0 21) = 0 → ∀ h2 : AH, h2 = up_I h1 r0 32 (v1 - (hp_I h1 r0 20)) → ((hp_I h2 r0 32) < (1 : Int32) → m_M_serial_47 Q r0 v1 r0 h2) ∧ (¬ (hp_I h2 r0 32) < (1 : Int32) → ((20 : Int32) < (hp_I h2 r0 32) → m_M_serial_47 Q r0 v1 r0 h2) ∧ (¬ (20 : Int32) < (hp_I h2 r0 32) → m_M_serial_48 Q r0 v1 r0 (1 : Int32) h2))) ∧ (¬ (hp_I h1 r0 21) = 0 → Q h1)) r0 (2 : Int32) x1 h
theorem b_M_serial_108 {p : Program} {l : Launch} {e : Env} {R : Room} {s : State} {m : MethodId} {args : Array Value} {below : List Frame} {meth : Method} {c : Code} {D : DD} {h0 : AH} {Q : AH → Prop} (C : fx_CX D y_M_serial prog_15_method_34_code 4 2 32 (none) [] h0 p R s m meth c) (hl : l.flags = flags0) (r0 : Nat) (x2 : Int32) (sr0 : Nat) (sx1 : Int32) (h : AH) (hw : m_M_serial_108 Q r0 x2 sr0 sx1 h) : ∀ (ls : Array Slot) (H : Heap) (locs : List Loc) (cells slots : Nat), lv_has ls 4 [(0, .ref r0), (2, .int x2)] → fx_F D h0 h H locs cells slots → W p l e R s m args below meth c H locs cells slots (fx_Z D below s h0 (fx_oV Q fx_no)) (F0 m 108 ls [.int sx1, .ref sr0]) := by
  unfold m_M_serial_108 at hw
  intro ls H locs cells slots hv F
  obtain ⟨hk1, hw⟩ := hw
  refine fx_callV C F (c_M_need hl hw) hm_M_need hi_M_need hv.1 (by decide) (Nat.le_of_ble_eq_true rfl) (iv_M_need C F lm_M_143 hk1 d_M_serial_108) (fx_out0 _) fx_eno (fun h1 H locs cells slots hw hx1 F => ?_)
  replace hw := hw hx1
  have hk1 := (hx1).k hk1
  refine lv_aload_n C.ex C.by d_M_serial_111 rfl (lv_at hv 0 rfl) ?_
  refine lv_iload_n C.ex C.by d_M_serial_112 rfl (lv_at hv 1 rfl) ?_
  obtain ⟨hk2, hw⟩ := hw
  let h2 : AH := up_I h1 r0 20 x2
  replace hw := hw h2 rfl
  refine fx_putI C F lf_M_128 hk2 rfl rfl (fx_mayF.no rfl rfl) d_M_serial_113 (fun H locs (F : fx_F D h0 h2 H locs _ _) => ?_)
  exact fx_vret C F d_M_serial_116 (Or.inl ⟨rfl, hw⟩)
theorem b_M_serial_107 {p : Program} {l : Launch} {e : Env} {R : Room} {s : State} {m : MethodId} {args : Array Value} {below : List Frame} {meth : Method} {c : Code} {D : DD} {h0 : AH} {Q : AH → Prop} (C : fx_CX D y_M_serial prog_15_method_34_code 4 2 32 (none) [] h0 p R s m meth c) (hl : l.flags = flags0) (r0 : Nat) (x2 : Int32) (sr0 : Nat) (h : AH) (hw : m_M_serial_107 Q r0 x2 sr0 h) : ∀ (ls : Array Slot) (H : Heap) (locs : List Loc) (cells slots : Nat), lv_has ls 4 [(0, .ref r0), (2, .int x2)] → fx_F D h0 h H locs cells slots → W p l e R s m args below meth c H locs cells slots (fx_Z D below s h0 (fx_oV Q fx_no)) (F0 m 107 ls [.ref sr0]) := by
  unfold m_M_serial_107 at hw
  intro ls H locs cells slots hv F
  refine lv_iconst (v := (0 : Int32)) C.ex C.by d_M_serial_107 (by decide) ?_
  exact b_M_serial_108 C hl _ _ _ _ _ hw _ _ _ _ _ hv F
theorem b_M_serial_103 {p : Program} {l : Launch} {e : Env} {R : Room} {s : State} {m : MethodId} {args : Array Value} {below : List Frame} {meth : Method} {c : Code} {D : DD} {h0 : AH} {Q : AH → Prop} (C : fx_CX D y_M_serial prog_15_method_34_code 4 2 32 (none) [] h0 p R s m meth c) (hl : l.flags = flags0) (r0 : Nat) (x2 : Int32) (sr0 : Nat) (h : AH) (hw : m_M_serial_103 Q r0 x2 sr0 h) : ∀ (ls : Array Slot) (H : Heap) (locs : List Loc) (cells slots : Nat), lv_has ls 4 [(0, .ref r0), (2, .int x2)] → fx_F D h0 h H locs cells slots → W p l e R s m args below meth c H locs cells slots (fx_Z D below s h0 (fx_oV Q fx_no)) (F0 m 103 ls [.ref sr0]) := by
  unfold m_M_serial_103 at hw
  intro ls H locs cells slots hv F
  refine lv_iconst (v := (1 : Int32)) C.ex C.by d_M_serial_103 (by decide) ?_
  refine lv_goto C.ex C.by d_M_serial_104 rfl ?_
  exact b_M_serial_108 C hl _ _ _ _ _ hw _ _ _ _ _ hv F
theorem b_M_serial_48 {p : Program} {l : Launch} {e : Env} {R : Room} {s : State} {m : MethodId} {args : Array Value} {below : List Frame} {meth : Method} {c : Code} {D : DD} {h0 : AH} {Q : AH → Prop} (C : fx_CX D y_M_serial prog_15_method_34_code 4 2 32 (none) [] h0 p R s m meth c) (hl : l.flags = flags0) (r0 : Nat) (x2 : Int32) (sr0 : Nat) (sx1 : Int32) (h : AH) (hw : m_M_serial_48 Q r0 x2 sr0 sx1 h) : ∀ (ls : Array Slot) (H : Heap) (locs : List Loc) (cells slots : Nat), lv_has ls 4 [(0, .ref r0), (2, .int x2)] → fx_F D h0 h H locs cells slots → W p l e R s m args below meth c H locs cells slots (fx_Z D below s h0 (fx_oV Q fx_no)) (F0 m 48 ls [.int sx1, .ref sr0]) := by
  unfold m_M_serial_48 at hw
  intro ls H locs cells slots hv F
  obtain ⟨hk1, hw⟩ := hw
  refine fx_callV C F (c_M_need hl hw) hm_M_need hi_M_need hv.1 (by decide) (Nat.le_of_ble_eq_true rfl) (iv_M_need C F lm_M_143 hk1 d_M_serial_48) (fx_out0 _) fx_eno (fun h1 H locs cells slots hw hx1 F => ?_)
  replace hw := hw hx1
  have hk1 := (hx1).k hk1
  refine lv_aload_n C.ex C.by d_M_serial_51 rfl (lv_at hv 0 rfl) ?_
  obtain ⟨hk2, hw⟩ := hw
  refine fx_getI C F lf_M_124 hk2 rfl d_M_serial_52 ?_
  refine lv_if_eq C.ex C.by d_M_serial_55 rfl (fun hc => ?_) (fun hc => ?_)
  · replace hw := hw.1 hc
    refine lv_aload_n C.ex C.by d_M_serial_59 rfl (lv_at hv 0 rfl) ?_
    refine lv_aload_n C.ex C.by d_M_serial_60 rfl (lv_at hv 0 rfl) ?_
    refine fx_getI C F lf_M_128 hk2 rfl d_M_serial_61 ?_
    refine fx_callI C F (c_M_here hl hw) hm_M_here hi_M_here hv.1 (by decide) (Nat.le_of_ble_eq_true rfl) (iv_M_here C F lm_M_131 hk2 d_M_serial_64) (fx_out0 _) fx_eno (fun v1 h2 H locs cells slots hw hx2 F => ?_)
    replace hw := hw hx2
    have hk2 := (hx2).k hk2
    have hk1 := (hx2).k hk1
    refine lv_istore_n (lv' := [(3, .int v1), (0, .ref r0), (2, .int x2)]) C.ex C.by d_M_serial_67 rfl hv (by decide) rfl (fun ls hv => ?_)
    refine lv_aload_n C.ex C.by d_M_serial_68 rfl (lv_at hv 1 rfl) ?_
    refine lv_iload_n C.ex C.by d_M_serial_69 rfl (lv_at hv 0 rfl) ?_
    refine lv_sipush (v := (128 : Int32)) C.ex C.by d_M_serial_70 (by decide) ?_
    refine lv_icmp_ge C.ex C.by d_M_serial_73 rfl (fun hc => ?_) (fun hc => ?_)
    · replace hw := hw.1 hc
      exact b_M_serial_107 C hl _ _ _ _ hw _ _ _ _ _ (lv_sub hv [1, 2] rfl) F
    · replace hw := hw.2 hc
      refine lv_iload_n C.ex C.by d_M_serial_76 rfl (lv_at hv 0 rfl) ?_
      refine lv_if_gt C.ex C.by d_M_serial_77 rfl (fun hc => ?_) (fun hc => ?_)
      · replace hw := hw.1 hc
        exact b_M_serial_103 C hl _ _ _ _ hw _ _ _ _ _ (lv_sub hv [1, 2] rfl) F
      · replace hw := hw.2 hc
        refine lv_aload_n C.ex C.by d_M_serial_80 rfl (lv_at hv 1 rfl) ?_
        refine fx_getI C F lf_M_229 hk2 rfl d_M_serial_81 ?_
        refine lv_iconst (v := (1 : Int32)) C.ex C.by d_M_serial_84 (by decide) ?_
        refine lv_icmp_le C.ex C.by d_M_serial_85 rfl (fun hc => ?_) (fun hc => ?_)
        · replace hw := hw.1 hc
          exact b_M_serial_107 C hl _ _ _ _ hw _ _ _ _ _ (lv_sub hv [1, 2] rfl) F
        · replace hw := hw.2 hc
          refine lv_aload_n C.ex C.by d_M_serial_88 rfl (lv_at hv 1 rfl) ?_
          refine lv_aload_n C.ex C.by d_M_serial_89 rfl (lv_at hv 1 rfl) ?_
          refine fx_getI C F lf_M_128 hk2 rfl d_M_serial_90 ?_
          refine lv_iconst (v := (1 : Int32)) C.ex C.by d_M_serial_93 (by decide) ?_
          refine lv_iadd C.ex C.by d_M_serial_94 ?_
          refine fx_callI C F (c_M_here hl hw) hm_M_here hi_M_here hv.1 (by decide) (Nat.le_of_ble_eq_true rfl) (iv_M_here C F lm_M_131 hk2 d_M_serial_95) (fx_out0 _) fx_eno (fun v2 h3 H locs cells slots hw hx3 F => ?_)
          replace hw := hw hx3
          have hk2 := (hx3).k hk2
          have hk1 := (hx3).k hk1
          refine lv_bipush (v := (127 : Int32)) C.ex C.by d_M_serial_98 (by decide) ?_
          refine lv_icmp_le C.ex C.by d_M_serial_100 rfl (fun hc => ?_) (fun hc => ?_)
          · replace hw := hw.1 hc
            exact b_M_serial_107 C hl _ _ _ _ hw _ _ _ _ _ (lv_sub hv [1, 2] rfl) F
          · replace hw := hw.2 hc
            exact b_M_serial_103 C hl _ _ _ _ hw _ _ _ _ _ (lv_sub hv [1, 2] rfl) F
  · replace hw := hw.2 hc
    exact fx_vret C F d_M_serial_58 (Or.inl ⟨rfl, hw⟩)
theorem b_M_serial_47 {p : Program} {l : Launch} {e : Env} {R : Room} {s : State} {m : MethodId} {args : Array Value} {below : List Frame} {meth : Method} {c : Code} {D : DD} {h0 : AH} {Q : AH → Prop} (C : fx_CX D y_M_serial prog_15_method_34_code 4 2 32 (none) [] h0 p R s m meth c) (hl : l.flags = flags0) (r0 : Nat) (x2 : Int32) (sr0 : Nat) (h : AH) (hw : m_M_serial_47 Q r0 x2 sr0 h) : ∀ (ls : Array Slot) (H : Heap) (locs : List Loc) (cells slots : Nat), lv_has ls 4 [(0, .ref r0), (2, .int x2)] → fx_F D h0 h H locs cells slots → W p l e R s m args below meth c H locs cells slots (fx_Z D below s h0 (fx_oV Q fx_no)) (F0 m 47 ls [.ref sr0]) := by
  unfold m_M_serial_47 at hw
  intro ls H locs cells slots hv F
  refine lv_iconst (v := (0 : Int32)) C.ex C.by d_M_serial_47 (by decide) ?_
  exact b_M_serial_48 C hl _ _ _ _ _ hw _ _ _ _ _ hv F
theorem b_M_serial_0 {p : Program} {l : Launch} {e : Env} {R : Room} {s : State} {m : MethodId} {args : Array Value} {below : List Frame} {meth : Method} {c : Code} {D : DD} {h0 : AH} {Q : AH → Prop} (C : fx_CX D y_M_serial prog_15_method_34_code 4 2 32 (none) [] h0 p R s m meth c) (hl : l.flags = flags0) (r0 : Nat) (x1 : Int32) (h : AH) (hw : m_M_serial Q r0 x1 h) : ∀ (ls : Array Slot) (H : Heap) (locs : List Loc) (cells slots : Nat), lv_has ls 4 [(0, .ref r0), (1, .int x1)] → fx_F D h0 h H locs cells slots → W p l e R s m args below meth c H locs cells slots (fx_Z D below s h0 (fx_oV Q fx_no)) (F0 m 0 ls []) := by
  unfold m_M_serial at hw
  intro ls H locs cells slots hv F
  refine lv_aload_n C.ex C.by d_M_serial_0 rfl (lv_at hv 0 rfl) ?_
  refine lv_iconst (v := (2 : Int32)) C.ex C.by d_M_serial_1 (by decide) ?_
  refine lv_iload_n C.ex C.by d_M_serial_2 rfl (lv_at hv 1 rfl) ?_
  obtain ⟨hk1, hw⟩ := hw
  refine fx_callI C F (c_M_open hl hw) hm_M_open hi_M_open hv.1 (by decide) (Nat.le_of_ble_eq_true rfl) (iv_M_open C F lm_M_140 hk1 d_M_serial_3) (fx_out0 _) fx_eno (fun v1 h1 H locs cells slots hw hx1 F => ?_)
  replace hw := hw hx1
  have hk1 := (hx1).k hk1
  refine lv_istore_n (lv' := [(2, .int v1), (0, .ref r0), (1, .int x1)]) C.ex C.by d_M_serial_6 rfl hv (by decide) rfl (fun ls hv => ?_)
  refine lv_aload_n C.ex C.by d_M_serial_7 rfl (lv_at hv 1 rfl) ?_
  refine fx_getI C F lf_M_124 hk1 rfl d_M_serial_8 ?_
  refine lv_if_eq C.ex C.by d_M_serial_11 rfl (fun hc => ?_) (fun hc => ?_)
  · replace hw := hw.1 hc
    refine lv_aload_n C.ex C.by d_M_serial_15 rfl (lv_at hv 1 rfl) ?_
    refine lv_iload_n C.ex C.by d_M_serial_16 rfl (lv_at hv 0 rfl) ?_
    refine lv_aload_n C.ex C.by d_M_serial_17 rfl (lv_at hv 1 rfl) ?_
    refine fx_getI C F lf_M_128 hk1 rfl d_M_serial_18 ?_
    refine lv_isub C.ex C.by d_M_serial_21 ?_
    let h2 : AH := up_I h1 r0 32 (v1 - (hp_I h1 r0 20))
    replace hw := hw h2 rfl
    refine fx_putI C F lf_M_229 hk1 rfl rfl (fx_mayF.no rfl rfl) d_M_serial_22 (fun H locs (F : fx_F D h0 h2 H locs _ _) => ?_)
    refine lv_aload_n C.ex C.by d_M_serial_25 rfl (lv_at hv 1 rfl) ?_
    refine lv_aload_n C.ex C.by d_M_serial_26 rfl (lv_at hv 1 rfl) ?_
    refine fx_getI C F lf_M_229 hk1 rfl d_M_serial_27 ?_
    refine lv_iconst (v := (1 : Int32)) C.ex C.by d_M_serial_30 (by decide) ?_
    refine lv_icmp_lt C.ex C.by d_M_serial_31 rfl (fun hc => ?_) (fun hc => ?_)
    · replace hw := hw.1 hc
      exact b_M_serial_47 C hl _ _ _ _ hw _ _ _ _ _ (lv_sub hv [1, 0] rfl) F
    · replace hw := hw.2 hc
      refine lv_aload_n C.ex C.by d_M_serial_34 rfl (lv_at hv 1 rfl) ?_
      refine fx_getI C F lf_M_229 hk1 rfl d_M_serial_35 ?_
      refine lv_bipush (v := (20 : Int32)) C.ex C.by d_M_serial_38 (by decide) ?_
      refine lv_icmp_gt C.ex C.by d_M_serial_40 rfl (fun hc => ?_) (fun hc => ?_)
      · replace hw := hw.1 hc
        exact b_M_serial_47 C hl _ _ _ _ hw _ _ _ _ _ (lv_sub hv [1, 0] rfl) F
      · replace hw := hw.2 hc
        refine lv_iconst (v := (1 : Int32)) C.ex C.by d_M_serial_43 (by decide) ?_
        refine lv_goto C.ex C.by d_M_serial_44 rfl ?_
        exact b_M_serial_48 C hl _ _ _ _ _ hw _ _ _ _ _ (lv_sub hv [1, 0] rfl) F
  · replace hw := hw.2 hc
    exact fx_vret C F d_M_serial_14 (Or.inl ⟨rfl, hw⟩)
theorem hm_M_serial : fx_hd y_M_serial prog_15_method_34_code 4 (none) [] ∈ tables_1 := (fx_m6 (List.mem_of_getElem? (i := 230) rfl))
theorem hi_M_serial : Cond.initialized y_M_serial.cls ∈ tables_1 := (fx_m1 (List.mem_of_getElem? (i := 15) rfl))
theorem c_M_serial {l : Launch} (hl : l.flags = flags0) {D : DD} {Q : AH → Prop} {r0 : Nat} {x1 : Int32} {h : AH} (hw : m_M_serial Q r0 x1 h) : fx_Mt l D y_M_serial (fx_hd y_M_serial prog_15_method_34_code 4 (none) []) 2 32 [.ref r0, .int x1] h (fx_oV Q fx_no) := by
  refine fx_ofW (plainFor_of_name (by decide)) (fun p e s m below meth c C F => ?_)
  have hv := lv_entry ([.ref r0, .int x1]) (n := 4) (Nat.le_of_ble_eq_true rfl)
  rw [lg_entry_eq]
  generalize (lg_sl ([.ref r0, .int x1]) ++ List.replicate (4 - (lg_sl ([.ref r0, .int x1])).length) Slot.unset).toArray = ls at hv ⊢
  have hv : lv_has ls 4 [(0, .ref r0), (1, .int x1)] := hv
  exact b_M_serial_0 C hl _ _ _ hw _ _ _ _ _ hv F
