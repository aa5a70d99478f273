set_option maxRecDepth 10000
/-! ChainJudge$Certificate.serves(I)Z: frames 0, words 0 -/
abbrev y_Cert_serves : MethodName := ⟨"ChainJudge$Certificate", "serves", "(I)Z"⟩
def dl_Cert_serves : List (Nat × Instr × Nat) := [(0, .aload_n 0, 1), (1, .getfield 80, 3), (4, .ifCond .lt 14, 3), (7, .aload_n 0, 1), (8, .getfield 80, 3), (11, .sipush 128, 3), (14, .iand, 1), (15, .ifCond .eq 25, 3), (18, .aload_n 0, 1), (19, .getfield 83, 3), (22, .ifCond .lt 14, 3), (25, .aload_n 0, 1), (26, .getfield 83, 3), (29, .iload_n 1, 1), (30, .ishr, 1), (31, .iconst 1, 1), (32, .iand, 1), (33, .ifCond .eq 7, 3), (36, .iconst 1, 1), (37, .goto 4, 3), (40, .iconst 0, 1), (41, .ireturn, 1)]
theorem dk_Cert_serves : fx_dec prog_2_method_16_code dl_Cert_serves = true := by decide +kernel
theorem d_Cert_serves_0 : decode prog_2_method_16_code 0 = .ok (.aload_n 0, 1) := fx_dat dk_Cert_serves 0 rfl
theorem d_Cert_serves_1 : decode prog_2_method_16_code 1 = .ok (.getfield 80, 3) := fx_dat dk_Cert_serves 1 rfl
theorem d_Cert_serves_4 : decode prog_2_method_16_code 4 = .ok (.ifCond .lt 14, 3) := fx_dat dk_Cert_serves 2 rfl
theorem d_Cert_serves_7 : decode prog_2_method_16_code 7 = .ok (.aload_n 0, 1) := fx_dat dk_Cert_serves 3 rfl
theorem d_Cert_serves_8 : decode prog_2_method_16_code 8 = .ok (.getfield 80, 3) := fx_dat dk_Cert_serves 4 rfl
theorem d_Cert_serves_11 : decode prog_2_method_16_code 11 = .ok (.sipush 128, 3) := fx_dat dk_Cert_serves 5 rfl
theorem d_Cert_serves_14 : decode prog_2_method_16_code 14 = .ok (.iand, 1) := fx_dat dk_Cert_serves 6 rfl
theorem d_Cert_serves_15 : decode prog_2_method_16_code 15 = .ok (.ifCond .eq 25, 3) := fx_dat dk_Cert_serves 7 rfl
theorem d_Cert_serves_18 : decode prog_2_method_16_code 18 = .ok (.aload_n 0, 1) := fx_dat dk_Cert_serves 8 rfl
theorem d_Cert_serves_19 : decode prog_2_method_16_code 19 = .ok (.getfield 83, 3) := fx_dat dk_Cert_serves 9 rfl
theorem d_Cert_serves_22 : decode prog_2_method_16_code 22 = .ok (.ifCond .lt 14, 3) := fx_dat dk_Cert_serves 10 rfl
theorem d_Cert_serves_25 : decode prog_2_method_16_code 25 = .ok (.aload_n 0, 1) := fx_dat dk_Cert_serves 11 rfl
theorem d_Cert_serves_26 : decode prog_2_method_16_code 26 = .ok (.getfield 83, 3) := fx_dat dk_Cert_serves 12 rfl
theorem d_Cert_serves_29 : decode prog_2_method_16_code 29 = .ok (.iload_n 1, 1) := fx_dat dk_Cert_serves 13 rfl
theorem d_Cert_serves_30 : decode prog_2_method_16_code 30 = .ok (.ishr, 1) := fx_dat dk_Cert_serves 14 rfl
theorem d_Cert_serves_31 : decode prog_2_method_16_code 31 = .ok (.iconst 1, 1) := fx_dat dk_Cert_serves 15 rfl
theorem d_Cert_serves_32 : decode prog_2_method_16_code 32 = .ok (.iand, 1) := fx_dat dk_Cert_serves 16 rfl
theorem d_Cert_serves_33 : decode prog_2_method_16_code 33 = .ok (.ifCond .eq 7, 3) := fx_dat dk_Cert_serves 17 rfl
theorem d_Cert_serves_36 : decode prog_2_method_16_code 36 = .ok (.iconst 1, 1) := fx_dat dk_Cert_serves 18 rfl
theorem d_Cert_serves_37 : decode prog_2_method_16_code 37 = .ok (.goto 4, 3) := fx_dat dk_Cert_serves 19 rfl
theorem d_Cert_serves_40 : decode prog_2_method_16_code 40 = .ok (.iconst 0, 1) := fx_dat dk_Cert_serves 20 rfl
theorem d_Cert_serves_41 : decode prog_2_method_16_code 41 = .ok (.ireturn, 1) := fx_dat dk_Cert_serves 21 rfl
def m_Cert_serves_41 (Q : Int32 → AH → Prop) (sx0 : Int32) (h : AH) : Prop := zb sx0 ∧ Q sx0 h
def m_Cert_serves_36 (Q : Int32 → AH → Prop) (h : AH) : Prop := m_Cert_serves_41 Q (1 : Int32) h
def m_Cert_serves_40 (Q : Int32 → AH → Prop) (h : AH) : Prop := m_Cert_serves_41 Q (0 : Int32) h
def m_Cert_serves_18 (Q : Int32 → AH → Prop) (r0 : Nat) (x1 : Int32) (h : AH) : Prop := hp_k h r0 = 8 ∧ ((hp_I h r0 23) < 0 → m_Cert_serves_36 Q h) ∧ (¬ (hp_I h r0 23) < 0 → ((((hp_I h r0 23) >>> (x1 &&& 31)) &&& (1 : Int32)) = 0 → m_Cert_serves_40 Q h) ∧ (¬ (((hp_I h r0 23) >>> (x1 &&& 31)) &&& (1 : Int32)) = 0 → m_Cert_serves_36 Q h))
def m_Cert_serves (Q : Int32 → AH → Prop) (r0 : Nat) (x1 : Int32) (h : AH) : Prop := hp_k h r0 = 8 ∧ ((hp_I h r0 22) < 0 → m_Cert_serves_18 Q r0 x1 h) ∧ (¬ (hp_I h r0 22) < 0 → (((hp_I h r0 22) &&& (128 : Int32)) = 0 → m_Cert_serves_40 Q h) ∧ (¬ ((hp_I h r0 22) &&& (128 : Int32)) = 0 → m_Cert_serves_18 Q r0 x1 h))
theorem b_Cert_serves_41 {p : Program} {l : Launch} {e : Env} {R : Room} {s : State} {m : MethodId} {args : Array Value} {below : List Frame} {meth : Method} {c : Code} {D : DD} {h0 : AH} {Q : Int32 → AH → Prop} (C : fx_CX D y_Cert_serves prog_2_method_16_code 2 0 0 (Option.some FieldType.boolean) [] h0 p R s m meth c) (hl : l.flags = flags0) (sx0 : Int32) (h : AH) (hw : m_Cert_serves_41 Q sx0 h) : ∀ (ls : Array Slot) (H : Heap) (locs : List Loc) (cells slots : Nat), lv_has ls 2 [] → fx_F D h0 h H locs cells slots → W p l e R s m args below meth c H locs cells slots (fx_Z D below s h0 (fx_oZ Q fx_no)) (F0 m 41 ls [.int sx0]) := by
  unfold m_Cert_serves_41 at hw
  intro ls H locs cells slots hv F
  exact fx_zret C F d_Cert_serves_41 hw.1 (Or.inl ⟨_, rfl, hw.1, hw.2⟩)
theorem b_Cert_serves_36 {p : Program} {l : Launch} {e : Env} {R : Room} {s : State} {m : MethodId} {args : Array Value} {below : List Frame} {meth : Method} {c : Code} {D : DD} {h0 : AH} {Q : Int32 → AH → Prop} (C : fx_CX D y_Cert_serves prog_2_method_16_code 2 0 0 (Option.some FieldType.boolean) [] h0 p R s m meth c) (hl : l.flags = flags0) (h : AH) (hw : m_Cert_serves_36 Q h) : ∀ (ls : Array Slot) (H : Heap) (locs : List Loc) (cells slots : Nat), lv_has ls 2 [] → fx_F D h0 h H locs cells slots → W p l e R s m args below meth c H locs cells slots (fx_Z D below s h0 (fx_oZ Q fx_no)) (F0 m 36 ls []) := by
  unfold m_Cert_serves_36 at hw
  intro ls H locs cells slots hv F
  refine lv_iconst (v := (1 : Int32)) C.ex C.by d_Cert_serves_36 (by decide) ?_
  refine lv_goto C.ex C.by d_Cert_serves_37 rfl ?_
  exact b_Cert_serves_41 C hl _ _ hw _ _ _ _ _ hv F
theorem b_Cert_serves_40 {p : Program} {l : Launch} {e : Env} {R : Room} {s : State} {m : MethodId} {args : Array Value} {below : List Frame} {meth : Method} {c : Code} {D : DD} {h0 : AH} {Q : Int32 → AH → Prop} (C : fx_CX D y_Cert_serves prog_2_method_16_code 2 0 0 (Option.some FieldType.boolean) [] h0 p R s m meth c) (hl : l.flags = flags0) (h : AH) (hw : m_Cert_serves_40 Q h) : ∀ (ls : Array Slot) (H : Heap) (locs : List Loc) (cells slots : Nat), lv_has ls 2 [] → fx_F D h0 h H locs cells slots → W p l e R s m args below meth c H locs cells slots (fx_Z D below s h0 (fx_oZ Q fx_no)) (F0 m 40 ls []) := by
  unfold m_Cert_serves_40 at hw
  intro ls H locs cells slots hv F
  refine lv_iconst (v := (0 : Int32)) C.ex C.by d_Cert_serves_40 (by decide) ?_
  exact b_Cert_serves_41 C hl _ _ hw _ _ _ _ _ hv F
theorem b_Cert_serves_18 {p : Program} {l : Launch} {e : Env} {R : Room} {s : State} {m : MethodId} {args : Array Value} {below : List Frame} {meth : Method} {c : Code} {D : DD} {h0 : AH} {Q : Int32 → AH → Prop} (C : fx_CX D y_Cert_serves prog_2_method_16_code 2 0 0 (Option.some FieldType.boolean) [] h0 p R s m meth c) (hl : l.flags = flags0) (r0 : Nat) (x1 : Int32) (h : AH) (hw : m_Cert_serves_18 Q r0 x1 h) : ∀ (ls : Array Slot) (H : Heap) (locs : List Loc) (cells slots : Nat), lv_has ls 2 [(0, .ref r0), (1, .int x1)] → fx_F D h0 h H locs cells slots → W p l e R s m args below meth c H locs cells slots (fx_Z D below s h0 (fx_oZ Q fx_no)) (F0 m 18 ls []) := by
  unfold m_Cert_serves_18 at hw
  intro ls H locs cells slots hv F
  refine lv_aload_n C.ex C.by d_Cert_serves_18 rfl (lv_at hv 0 rfl) ?_
  obtain ⟨hk1, hw⟩ := hw
  refine fx_getI C F lf_Cert_83 hk1 rfl d_Cert_serves_19 ?_
  refine lv_if_lt C.ex C.by d_Cert_serves_22 rfl (fun hc => ?_) (fun hc => ?_)
  · replace hw := hw.1 hc
    exact b_Cert_serves_36 C hl _ hw _ _ _ _ _ (lv_sub hv [] rfl) F
  · replace hw := hw.2 hc
    refine lv_aload_n C.ex C.by d_Cert_serves_25 rfl (lv_at hv 0 rfl) ?_
    refine fx_getI C F lf_Cert_83 hk1 rfl d_Cert_serves_26 ?_
    refine lv_iload_n C.ex C.by d_Cert_serves_29 rfl (lv_at hv 1 rfl) ?_
    refine lv_ishr C.ex C.by d_Cert_serves_30 ?_
    refine lv_iconst (v := (1 : Int32)) C.ex C.by d_Cert_serves_31 (by decide) ?_
    refine lv_iand C.ex C.by d_Cert_serves_32 ?_
    refine lv_if_eq C.ex C.by d_Cert_serves_33 rfl (fun hc => ?_) (fun hc => ?_)
    · replace hw := hw.1 hc
      exact b_Cert_serves_40 C hl _ hw _ _ _ _ _ (lv_sub hv [] rfl) F
    · replace hw := hw.2 hc
      exact b_Cert_serves_36 C hl _ hw _ _ _ _ _ (lv_sub hv [] rfl) F
theorem b_Cert_serves_0 {p : Program} {l : Launch} {e : Env} {R : Room} {s : State} {m : MethodId} {args : Array Value} {below : List Frame} {meth : Method} {c : Code} {D : DD} {h0 : AH} {Q : Int32 → AH → Prop} (C : fx_CX D y_Cert_serves prog_2_method_16_code 2 0 0 (Option.some FieldType.boolean) [] h0 p R s m meth c) (hl : l.flags = flags0) (r0 : Nat) (x1 : Int32) (h : AH) (hw : m_Cert_serves Q r0 x1 h) : ∀ (ls : Array Slot) (H : Heap) (locs : List Loc) (cells slots : Nat), lv_has ls 2 [(0, .ref r0), (1, .int x1)] → fx_F D h0 h H locs cells slots → W p l e R s m args below meth c H locs cells slots (fx_Z D below s h0 (fx_oZ Q fx_no)) (F0 m 0 ls []) := by
  unfold m_Cert_serves at hw
  intro ls H locs cells slots hv F
  refine lv_aload_n C.ex C.by d_Cert_serves_0 rfl (lv_at hv 0 rfl) ?_
  obtain ⟨hk1, hw⟩ := hw
  refine fx_getI C F lf_Cert_80 hk1 rfl d_Cert_serves_1 ?_
  refine lv_if_lt C.ex C.by d_Cert_serves_4 rfl (fun hc => ?_) (fun hc => ?_)
  · replace hw := hw.1 hc
    exact b_Cert_serves_18 C hl _ _ _ hw _ _ _ _ _ hv F
  · replace hw := hw.2 hc
    refine lv_aload_n C.ex C.by d_Cert_serves_7 rfl (lv_at hv 0 rfl) ?_
    refine fx_getI C F lf_Cert_80 hk1 rfl d_Cert_serves_8 ?_
    refine lv_sipush (v := (128 : Int32)) C.ex C.by d_Cert_serves_11 (by decide) ?_
    refine lv_iand C.ex C.by d_Cert_serves_14 ?_
    refine lv_if_eq C.ex C.by d_Cert_serves_15 rfl (fun hc => ?_) (fun hc => ?_)
    · replace hw := hw.1 hc
      exact b_Cert_serves_40 C hl _ hw _ _ _ _ _ (lv_sub hv [] rfl) F
    · replace hw := hw.2 hc
      exact b_Cert_serves_18 C hl _ _ _ hw _ _ _ _ _ hv F
theorem hm_Cert_serves : fx_hd y_Cert_serves prog_2_method_16_code 2 (Option.some FieldType.boolean) [] ∈ tables_1 := (fx_m5 (List.mem_of_getElem? (i := 197) rfl))
theorem hi_Cert_serves : Cond.initialized y_Cert_serves.cls ∈ tables_1 := (fx_m1 (List.mem_of_getElem? (i := 11) rfl))
theorem c_Cert_serves {l : Launch} (hl : l.flags = flags0) {D : DD} {Q : Int32 → AH → Prop} {r0 : Nat} {x1 : Int32} {h : AH} (hw : m_Cert_serves Q r0 x1 h) : fx_Mt l D y_Cert_serves (fx_hd y_Cert_serves prog_2_method_16_code 2 (Option.some FieldType.boolean) []) 0 0 [.ref r0, .int x1] h (fx_oZ Q fx_no) := by
  refine fx_ofW (plainFor_of_name (by decide)) (fun p e s m below meth c C F => ?_)
  have hv := lv_entry ([.ref r0, .int x1]) (n := 2) (Nat.le_of_ble_eq_true rfl)
  rw [lg_entry_eq]
  generalize (lg_sl ([.ref r0, .int x1]) ++ List.replicate (2 - (lg_sl ([.ref r0, .int x1])).length) Slot.unset).toArray = ls at hv ⊢
  have hv : lv_has ls 2 [(0, .ref r0), (1, .int x1)] := hv
  exact b_Cert_serves_0 C hl _ _ _ hw _ _ _ _ _ hv F
/-! ChainJudge$Certificate.low(I)I: frames 0, words 0 -/
abbrev y_Cert_low : MethodName := ⟨"ChainJudge$Certificate", "low", "(I)I"⟩
def dl_Cert_low : List (Nat × Instr × Nat) := [(0, .iload_n 0, 1), (1, .bipush 65, 2), (3, .if_icmp .lt 16, 3), (6, .iload_n 0, 1), (7, .bipush 90, 2), (9, .if_icmp .gt 10, 3), (12, .iload_n 0, 1), (13, .bipush 32, 2), (15, .iadd, 1), (16, .goto 4, 3), (19, .iload_n 0, 1), (20, .ireturn, 1)]
theorem dk_Cert_low : fx_dec prog_2_method_19_code dl_Cert_low = true := by decide +kernel
theorem d_Cert_low_0 : decode prog_2_method_19_code 0 = .ok (.iload_n 0, 1) := fx_dat dk_Cert_low 0 rfl
theorem d_Cert_low_1 : decode prog_2_method_19_code 1 = .ok (.bipush 65, 2) := fx_dat dk_Cert_low 1 rfl
theorem d_Cert_low_3 : decode prog_2_method_19_code 3 = .ok (.if_icmp .lt 16, 3) := fx_dat dk_Cert_low 2 rfl
theorem d_Cert_low_6 : decode prog_2_method_19_code 6 = .ok (.iload_n 0, 1) := fx_dat dk_Cert_low 3 rfl
theorem d_Cert_low_7 : decode prog_2_method_19_code 7 = .ok (.bipush 90, 2) := fx_dat dk_Cert_low 4 rfl
theorem d_Cert_low_9 : decode prog_2_method_19_code 9 = .ok (.if_icmp .gt 10, 3) := fx_dat dk_Cert_low 5 rfl
theorem d_Cert_low_12 : decode prog_2_method_19_code 12 = .ok (.iload_n 0, 1) := fx_dat dk_Cert_low 6 rfl
theorem d_Cert_low_13 : decode prog_2_method_19_code 13 = .ok (.bipush 32, 2) := fx_dat dk_Cert_low 7 rfl
theorem d_Cert_low_15 : decode prog_2_method_19_code 15 = .ok (.iadd, 1) := fx_dat dk_Cert_low 8 rfl
theorem d_Cert_low_16 : decode prog_2_method_19_code 16 = .ok (.goto 4, 3) := fx_dat dk_Cert_low 9 rfl
theorem d_Cert_low_19 : decode prog_2_method_19_code 19 = .ok (.iload_n 0, 1) := fx_dat dk_Cert_low 10 rfl
theorem d_Cert_low_20 : decode prog_2_method_19_code 20 = .ok (.ireturn, 1) := fx_dat dk_Cert_low 11 rfl
def m_Cert_low_20 (Q : Int32 → AH → Prop) (sx0 : Int32) (h : AH) : Prop := Q sx0 h
def m_Cert_low_19 (Q : Int32 → AH → Prop) (x0 : Int32) (h : AH) : Prop := m_Cert_low_20 Q x0 h
def m_Cert_low (Q : Int32 → AH → Prop) (x0 : Int32) (h : AH) : Prop := (x0 < (65 : Int32) → m_Cert_low_19 Q x0 h) ∧ (¬ x0 < (65 : Int32) → ((90 : Int32) < x0 → m_Cert_low_19 Q x0 h) ∧ (¬ (90 : Int32) < x0 → m_Cert_low_20 Q (x0 + (32 : Int32)) h))
theorem b_Cert_low_20 {p : Program} {l : Launch} {e : Env} {R : Room} {s : State} {m : MethodId} {args : Array Value} {below : List Frame} {meth : Method} {c : Code} {D : DD} {h0 : AH} {Q : Int32 → AH → Prop} (C : fx_CX D y_Cert_low prog_2_method_19_code 1 0 0 (Option.some FieldType.int) [] h0 p R s m meth c) (hl : l.flags = flags0) (sx0 : Int32) (h : AH) (hw : m_Cert_low_20 Q sx0 h) : ∀ (ls : Array Slot) (H : Heap) (locs : List Loc) (cells slots : Nat), lv_has ls 1 [] → fx_F D h0 h H locs cells slots → W p l e R s m args below meth c H locs cells slots (fx_Z D below s h0 (fx_oI Q fx_no)) (F0 m 20 ls [.int sx0]) := by
  unfold m_Cert_low_20 at hw
  intro ls H locs cells slots hv F
  exact fx_iret C F d_Cert_low_20 (Or.inl ⟨_, rfl, hw⟩)
theorem b_Cert_low_19 {p : Program} {l : Launch} {e : Env} {R : Room} {s : State} {m : MethodId} {args : Array Value} {below : List Frame} {meth : Method} {c : Code} {D : DD} {h0 : AH} {Q : Int32 → AH → Prop} (C : fx_CX D y_Cert_low prog_2_method_19_code 1 0 0 (Option.some FieldType.int) [] h0 p R s m meth c) (hl : l.flags = flags0) (x0 : Int32) (h : AH) (hw : m_Cert_low_19 Q x0 h) : ∀ (ls : Array Slot) (H : Heap) (locs : List Loc) (cells slots : Nat), lv_has ls 1 [(0, .int x0)] → fx_F D h0 h H locs cells slots → W p l e R s m args below meth c H locs cells slots (fx_Z D below s h0 (fx_oI Q fx_no)) (F0 m 19 ls []) := by
  unfold m_Cert_low_19 at hw
  intro ls H locs cells slots hv F
  refine lv_iload_n C.ex C.by d_Cert_low_19 rfl (lv_at hv 0 rfl) ?_
  exact b_Cert_low_20 C hl _ _ hw _ _ _ _ _ (lv_sub hv [] rfl) F
theorem b_Cert_low_0 {p : Program} {l : Launch} {e : Env} {R : Room} {s : State} {m : MethodId} {args : Array Value} {below : List Frame} {meth : Method} {c : Code} {D : DD} {h0 : AH} {Q : Int32 → AH → Prop} (C : fx_CX D y_Cert_low prog_2_method_19_code 1 0 0 (Option.some FieldType.int) [] h0 p R s m meth c) (hl : l.flags = flags0) (x0 : Int32) (h : AH) (hw : m_Cert_low Q x0 h) : ∀ (ls : Array Slot) (H : Heap) (locs : List Loc) (cells slots : Nat), lv_has ls 1 [(0, .int x0)] → fx_F D h0 h H locs cells slots → W p l e R s m args below meth c H locs cells slots (fx_Z D below s h0 (fx_oI Q fx_no)) (F0 m 0 ls []) := by
  unfold m_Cert_low at hw
  intro ls H locs cells slots hv F
  refine lv_iload_n C.ex C.by d_Cert_low_0 rfl (lv_at hv 0 rfl) ?_
  refine lv_bipush (v := (65 : Int32)) C.ex C.by d_Cert_low_1 (by decide) ?_
  refine lv_icmp_lt C.ex C.by d_Cert_low_3 rfl (fun hc => ?_) (fun hc => ?_)
  · replace hw := hw.1 hc
    exact b_Cert_low_19 C hl _ _ hw _ _ _ _ _ hv F
  · replace hw := hw.2 hc
    refine lv_iload_n C.ex C.by d_Cert_low_6 rfl (lv_at hv 0 rfl) ?_
    refine lv_bipush (v := (90 : Int32)) C.ex C.by d_Cert_low_7 (by decide) ?_
    refine lv_icmp_gt C.ex C.by d_Cert_low_9 rfl (fun hc => ?_) (fun hc => ?_)
    · replace hw := hw.1 hc
      exact b_Cert_low_19 C hl _ _ hw _ _ _ _ _ hv F
    · replace hw := hw.2 hc
      refine lv_iload_n C.ex C.by d_Cert_low_12 rfl (lv_at hv 0 rfl) ?_
      refine lv_bipush (v := (32 : Int32)) C.ex C.by d_Cert_low_13 (by decide) ?_
      refine lv_iadd C.ex C.by d_Cert_low_15 ?_
      refine lv_goto C.ex C.by d_Cert_low_16 rfl ?_
      exact b_Cert_low_20 C hl _ _ hw _ _ _ _ _ (lv_sub hv [] rfl) F
theorem hm_Cert_low : fx_hd y_Cert_low prog_2_method_19_code 1 (Option.some FieldType.int) [] ∈ tables_1 := (fx_m5 (List.mem_of_getElem? (i := 208) rfl))
theorem hi_Cert_low : Cond.initialized y_Cert_low.cls ∈ tables_1 := (fx_m1 (List.mem_of_getElem? (i := 11) rfl))
theorem c_Cert_low {l : Launch} (hl : l.flags = flags0) {D : DD} {Q : Int32 → AH → Prop} {x0 : Int32} {h : AH} (hw : m_Cert_low Q x0 h) : fx_Mt l D y_Cert_low (fx_hd y_Cert_low prog_2_method_19_code 1 (Option.some FieldType.int) []) 0 0 [.int x0] h (fx_oI Q fx_no) := by
  refine fx_ofW (plainFor_of_name (by decide)) (fun p e s m below meth c C F => ?_)
  have hv := lv_entry ([.int x0]) (n := 1) (Nat.le_of_ble_eq_true rfl)
  rw [lg_entry_eq]
  generalize (lg_sl ([.int x0]) ++ List.replicate (1 - (lg_sl ([.int x0])).length) Slot.unset).toArray = ls at hv ⊢
  have hv : lv_has ls 1 [(0, .int x0)] := hv
  exact b_Cert_low_0 C hl _ _ hw _ _ _ _ _ hv F
/-! ChainJudge$Certificate.alike(II[BII)Z: frames 1, words 13 -/
abbrev y_Cert_alike : MethodName := ⟨"ChainJudge$Certificate", "alike", "(II[BII)Z"⟩
theorem lm_Cert_229 : Cond.methodLink "ChainJudge$Certificate" 229 y_Cert_low ∈ tables_1 ∨ ∃ host, Cond.methodLinkNest "ChainJudge$Certificate" 229 y_Cert_low host ∈ tables_1 := Or.inl (fx_m5 (List.mem_of_getElem? (i := 206) rfl))
section
variable {p : Program} {l : Launch} {e : Env} {R : Room} {s : State} {m : MethodId} {args : Array Value} {below : List Frame} {meth : Method} {c : Code} {H : Heap} {locs : List Loc} {cells slots : Nat}
variable {D : DD} {y : MethodName} {cc : ByteArray} {nL kf kw : Nat} {ret : Option FieldType} {hh : List (Nat × Nat × Nat × Nat)} {h0 h : AH} {pc : Nat} {ls : Array Slot} {rest : List Value} {b idx : Nat}
theorem iv_Cert_low {x0 : Int32} (C : fx_CX D y cc nL kf kw ret hh h0 p R s m meth c) (F : fx_F D h0 h H locs cells slots) (hw1 : Cond.methodLink y.cls idx y_Cert_low ∈ tables_1 ∨ ∃ host, Cond.methodLinkNest y.cls idx y_Cert_low host ∈ tables_1) (hd : decode cc pc = .ok (.invokestatic idx, 3)) : fx_IV p l e R s m args below meth c H locs cells slots (F0 m pc ls (.int x0 :: rest)) rest y_Cert_low [.int x0] 3 := fun T hT X => fx_invS (As := [.int x0]) C X hw1 (fx_m5 (List.mem_of_getElem? (i := 207) rfl)) hi_Cert_low hm_Cert_low ⟨by decide, by decide⟩ rfl (n := 1) (by decide +kernel) rfl rfl hd
end
def dl_Cert_alike : List (Nat × Instr × Nat) := [(0, .iload_n 2, 1), (1, .iload 5, 2), (3, .iload 4, 2), (5, .isub, 1), (6, .if_icmp .eq 5, 3), (9, .iconst 0, 1), (10, .ireturn, 1), (11, .iconst 0, 1), (12, .istore 6, 2), (14, .iload 6, 2), (16, .iload_n 2, 1), (17, .if_icmp .ge 36, 3), (20, .aload_n 0, 1), (21, .getfield 16, 3), (24, .iload_n 1, 1), (25, .iload 6, 2), (27, .iadd, 1), (28, .baload, 1), (29, .invokestatic 229, 3), (32, .aload_n 3, 1), (33, .iload 4, 2), (35, .iload 6, 2), (37, .iadd, 1), (38, .baload, 1), (39, .invokestatic 229, 3), (42, .if_icmp .eq 5, 3), (45, .iconst 0, 1), (46, .ireturn, 1), (47, .iinc 6 1, 3), (50, .goto (-36), 3), (53, .iconst 1, 1), (54, .ireturn, 1)]
theorem dk_Cert_alike : fx_dec prog_2_method_20_code dl_Cert_alike = true := by decide +kernel
theorem d_Cert_alike_0 : decode prog_2_method_20_code 0 = .ok (.iload_n 2, 1) := fx_dat dk_Cert_alike 0 rfl
theorem d_Cert_alike_1 : decode prog_2_method_20_code 1 = .ok (.iload 5, 2) := fx_dat dk_Cert_alike 1 rfl
theorem d_Cert_alike_3 : decode prog_2_method_20_code 3 = .ok (.iload 4, 2) := fx_dat dk_Cert_alike 2 rfl
theorem d_Cert_alike_5 : decode prog_2_method_20_code 5 = .ok (.isub, 1) := fx_dat dk_Cert_alike 3 rfl
theorem d_Cert_alike_6 : decode prog_2_method_20_code 6 = .ok (.if_icmp .eq 5, 3) := fx_dat dk_Cert_alike 4 rfl
theorem d_Cert_alike_9 : decode prog_2_method_20_code 9 = .ok (.iconst 0, 1) := fx_dat dk_Cert_alike 5 rfl
theorem d_Cert_alike_10 : decode prog_2_method_20_code 10 = .ok (.ireturn, 1) := fx_dat dk_Cert_alike 6 rfl
theorem d_Cert_alike_11 : decode prog_2_method_20_code 11 = .ok (.iconst 0, 1) := fx_dat dk_Cert_alike 7 rfl
theorem d_Cert_alike_12 : decode prog_2_method_20_code 12 = .ok (.istore 6, 2) := fx_dat dk_Cert_alike 8 rfl
theorem d_Cert_alike_14 : decode prog_2_method_20_code 14 = .ok (.iload 6, 2) := fx_dat dk_Cert_alike 9 rfl
theorem d_Cert_alike_16 : decode prog_2_method_20_code 16 = .ok (.iload_n 2, 1) := fx_dat dk_Cert_alike 10 rfl
theorem d_Cert_alike_17 : decode prog_2_method_20_code 17 = .ok (.if_icmp .ge 36, 3) := fx_dat dk_Cert_alike 11 rfl
theorem d_Cert_alike_20 : decode prog_2_method_20_code 20 = .ok (.aload_n 0, 1) := fx_dat dk_Cert_alike 12 rfl
theorem d_Cert_alike_21 : decode prog_2_method_20_code 21 = .ok (.getfield 16, 3) := fx_dat dk_Cert_alike 13 rfl
theorem d_Cert_alike_24 : decode prog_2_method_20_code 24 = .ok (.iload_n 1, 1) := fx_dat dk_Cert_alike 14 rfl
theorem d_Cert_alike_25 : decode prog_2_method_20_code 25 = .ok (.iload 6, 2) := fx_dat dk_Cert_alike 15 rfl
theorem d_Cert_alike_27 : decode prog_2_method_20_code 27 = .ok (.iadd, 1) := fx_dat dk_Cert_alike 16 rfl
theorem d_Cert_alike_28 : decode prog_2_method_20_code 28 = .ok (.baload, 1) := fx_dat dk_Cert_alike 17 rfl
theorem d_Cert_alike_29 : decode prog_2_method_20_code 29 = .ok (.invokestatic 229, 3) := fx_dat dk_Cert_alike 18 rfl
theorem d_Cert_alike_32 : decode prog_2_method_20_code 32 = .ok (.aload_n 3, 1) := fx_dat dk_Cert_alike 19 rfl
theorem d_Cert_alike_33 : decode prog_2_method_20_code 33 = .ok (.iload 4, 2) := fx_dat dk_Cert_alike 20 rfl
theorem d_Cert_alike_35 : decode prog_2_method_20_code 35 = .ok (.iload 6, 2) := fx_dat dk_Cert_alike 21 rfl
theorem d_Cert_alike_37 : decode prog_2_method_20_code 37 = .ok (.iadd, 1) := fx_dat dk_Cert_alike 22 rfl
theorem d_Cert_alike_38 : decode prog_2_method_20_code 38 = .ok (.baload, 1) := fx_dat dk_Cert_alike 23 rfl
theorem d_Cert_alike_39 : decode prog_2_method_20_code 39 = .ok (.invokestatic 229, 3) := fx_dat dk_Cert_alike 24 rfl
theorem d_Cert_alike_42 : decode prog_2_method_20_code 42 = .ok (.if_icmp .eq 5, 3) := fx_dat dk_Cert_alike 25 rfl
theorem d_Cert_alike_45 : decode prog_2_method_20_code 45 = .ok (.iconst 0, 1) := fx_dat dk_Cert_alike 26 rfl
theorem d_Cert_alike_46 : decode prog_2_method_20_code 46 = .ok (.ireturn, 1) := fx_dat dk_Cert_alike 27 rfl
theorem d_Cert_alike_47 : decode prog_2_method_20_code 47 = .ok (.iinc 6 1, 3) := fx_dat dk_Cert_alike 28 rfl
theorem d_Cert_alike_50 : decode prog_2_method_20_code 50 = .ok (.goto (-36), 3) := fx_dat dk_Cert_alike 29 rfl
theorem d_Cert_alike_53 : decode prog_2_method_20_code 53 = .ok (.iconst 1, 1) := fx_dat dk_Cert_alike 30 rfl
theorem d_Cert_alike_54 : decode prog_2_method_20_code 54 = .ok (.ireturn, 1) := fx_dat dk_Cert_alike 31 rfl
def m_Cert_alike_14_b (Q : Int32 → AH → Prop) (X14 : Int32 × AH → Prop) (r0 : Nat) (x1 : Int32) (x2 : Int32) (r3 : Nat) (x4 : Int32) (x6 : Int32) (h : AH) : Prop := (x2 ≤ x6 → Q (1 : Int32) h) ∧ (¬ x2 ≤ x6 → hp_k h r0 = 8 ∧ ∃ b1, hp_R h r0 2 = some b1 ∧ bk (hp_k h b1) ∧ vp_in (x1 + x6) (hp_n h b1) ∧ (by8 (hp_I h b1 ((x1 + x6)).toNatClampNeg) → m_Cert_low (fun v1 h1 => fx_ext h h1 → bk (hp_k h1 r3) ∧ vp_in (x4 + x6) (hp_n h1 r3) ∧ (by8 (hp_I h1 r3 ((x4 + x6)).toNatClampNeg) → m_Cert_low (fun v2 h2 => fx_ext h1 h2 → (v1 = v2 → ∀ v3 : Int32, v3 = (x6 + (1 : Int32)) → X14 (v3, h2)) ∧ (¬ v1 = v2 → Q (0 : Int32) h2)) (hp_I h1 r3 ((x4 + x6)).toNatClampNeg) h1)) (hp_I h b1 ((x1 + x6)).toNatClampNeg) h))
def m_Cert_alike_14 (Q : Int32 → AH → Prop) (r0 : Nat) (x1 : Int32) (x2 : Int32) (r3 : Nat) (x4 : Int32) (x6 : Int32) (h : AH) : Prop := fx_loop (fun (X14 : Int32 × AH → Prop) (st : Int32 × AH) => m_Cert_alike_14_b Q X14 r0 x1 x2 r3 x4 st.1 st.2) (x6, h)
def m_Cert_alike (Q : Int32 → AH → Prop) (r0 : Nat) (x1 : Int32) (x2 : Int32) (r3 : Nat) (x4 : Int32) (x5 : Int32) (h : AH) : Prop := (x2 = (x5 - x4) → m_Cert_alike_14 Q r0 x1 x2 r3 x4 (0 : Int32) h) ∧ (¬ x2 = (x5 - x4) → Q (0 : Int32) h)
theorem b_Cert_alike_14 {p : Program} {l : Launch} {e : Env} {R : Room} {s : State} {m : MethodId} {args : Array Value} {below : List Frame} {meth : Method} {c : Code} {D : DD} {h0 : AH} {Q : Int32 → AH → Prop} (C : fx_CX D y_Cert_alike prog_2_method_20_code 7 1 13 (Option.some FieldType.boolean) [] h0 p R s m meth c) (hl : l.flags = flags0) (r0 : Nat) (x1 : Int32) (x2 : Int32) (r3 : Nat) (x4 : Int32) (x6 : Int32) (h : AH) (hw : m_Cert_alike_14 Q r0 x1 x2 r3 x4 x6 h) : ∀ (ls : Array Slot) (H : Heap) (locs : List Loc) (cells slots : Nat), lv_has ls 7 [(0, .ref r0), (1, .int x1), (2, .int x2), (3, .ref r3), (4, .int x4), (6, .int x6)] → fx_F D h0 h H locs cells slots → W p l e R s m args below meth c H locs cells slots (fx_Z D below s h0 (fx_oZ Q fx_no)) (F0 m 14 ls []) := by
  refine fx_loop.use hw (fun st => ∀ (ls : Array Slot) (H : Heap) (locs : List Loc) (cells slots : Nat), lv_has ls 7 [(0, .ref r0), (1, .int x1), (2, .int x2), (3, .ref r3), (4, .int x4), (6, .int st.1)] → fx_F D h0 st.2 H locs cells slots → W p l e R s m args below meth c H locs cells slots (fx_Z D below s h0 (fx_oZ Q fx_no)) (F0 m 14 ls [])) (fun X14 st hX14 hw => ?_)
  obtain ⟨x6, h⟩ := st
  replace hw : m_Cert_alike_14_b Q X14 r0 x1 x2 r3 x4 x6 h := hw
  unfold m_Cert_alike_14_b at hw
  intro ls H locs cells slots hv F
  refine lv_iload C.ex C.by d_Cert_alike_14 (lv_at hv 5 rfl) ?_
  refine lv_iload_n C.ex C.by d_Cert_alike_16 rfl (lv_at hv 2 rfl) ?_
  refine lv_icmp_ge C.ex C.by d_Cert_alike_17 rfl (fun hc => ?_) (fun hc => ?_)
  · replace hw := hw.1 hc
    refine lv_iconst (v := (1 : Int32)) C.ex C.by d_Cert_alike_53 (by decide) ?_
    exact fx_zret C F d_Cert_alike_54 (Or.inr rfl) (Or.inl ⟨_, rfl, Or.inr rfl, hw⟩)
  · replace hw := hw.2 hc
    refine lv_aload_n C.ex C.by d_Cert_alike_20 rfl (lv_at hv 0 rfl) ?_
    obtain ⟨hk1, hw⟩ := hw
    obtain ⟨b1, hb1, hw⟩ := hw
    refine fx_getR C F lf_Cert_16 hk1 rfl hb1 d_Cert_alike_21 ?_
    refine lv_iload_n C.ex C.by d_Cert_alike_24 rfl (lv_at hv 1 rfl) ?_
    refine lv_iload C.ex C.by d_Cert_alike_25 (lv_at hv 5 rfl) ?_
    refine lv_iadd C.ex C.by d_Cert_alike_27 ?_
    obtain ⟨hk2, hw⟩ := hw
    obtain ⟨hi1, hw⟩ := hw
    refine fx_bald C F hk2 hi1 d_Cert_alike_28 (fun h8 => ?_)
    replace hw := hw h8
    refine fx_callI C F (c_Cert_low hl hw) hm_Cert_low hi_Cert_low hv.1 (by decide) (Nat.le_of_ble_eq_true rfl) (iv_Cert_low C F lm_Cert_229 d_Cert_alike_29) (fx_out0 _) fx_eno (fun v1 h1 H locs cells slots hw hx1 F => ?_)
    replace hw := hw hx1
    have hk2 := (hx1).gb hk2
    have hk1 := (hx1).k hk1
    refine lv_aload_n C.ex C.by d_Cert_alike_32 rfl (lv_at hv 3 rfl) ?_
    refine lv_iload C.ex C.by d_Cert_alike_33 (lv_at hv 4 rfl) ?_
    refine lv_iload C.ex C.by d_Cert_alike_35 (lv_at hv 5 rfl) ?_
    refine lv_iadd C.ex C.by d_Cert_alike_37 ?_
    obtain ⟨hk3, hw⟩ := hw
    obtain ⟨hi2, hw⟩ := hw
    refine fx_bald C F hk3 hi2 d_Cert_alike_38 (fun h8 => ?_)
    replace hw := hw h8
    refine fx_callI C F (c_Cert_low hl hw) hm_Cert_low hi_Cert_low hv.1 (by decide) (Nat.le_of_ble_eq_true rfl) (iv_Cert_low C F lm_Cert_229 d_Cert_alike_39) (fx_out0 _) fx_eno (fun v2 h2 H locs cells slots hw hx2 F => ?_)
    replace hw := hw hx2
    have hk2 := (hx2).gb hk2
    have hk1 := (hx2).k hk1
    have hk3 := (hx2).gb hk3
    refine lv_icmp_eq C.ex C.by d_Cert_alike_42 rfl (fun hc => ?_) (fun hc => ?_)
    · replace hw := hw.1 hc
      let v3 : Int32 := (x6 + (1 : Int32))
      replace hw := hw v3 rfl
      refine lv_iinc (v := v3) (k := 5) (lv' := [(6, .int v3), (0, .ref r0), (1, .int x1), (2, .int x2), (3, .ref r3), (4, .int x4)]) C.ex C.by d_Cert_alike_47 hv rfl (congrArg (fun z => x6 + z) (by decide)) (by decide) rfl (fun ls hv => ?_)
      refine lv_goto C.ex C.by d_Cert_alike_50 rfl ?_
      exact hX14 _ hw _ _ _ _ _ (lv_sub hv [1, 2, 3, 4, 5, 0] rfl) F
    · replace hw := hw.2 hc
      refine lv_iconst (v := (0 : Int32)) C.ex C.by d_Cert_alike_45 (by decide) ?_
      exact fx_zret C F d_Cert_alike_46 (Or.inl rfl) (Or.inl ⟨_, rfl, Or.inl rfl, hw⟩)
theorem b_Cert_alike_0 {p : Program} {l : Launch} {e : Env} {R : Room} {s : State} {m : MethodId} {args : Array Value} {below : List Frame} {meth : Method} {c : Code} {D : DD} {h0 : AH} {Q : Int32 → AH → Prop} (C : fx_CX D y_Cert_alike prog_2_method_20_code 7 1 13 (Option.some FieldType.boolean) [] h0 p R s m meth c) (hl : l.flags = flags0) (r0 : Nat) (x1 : Int32) (x2 : Int32) (r3 : Nat) (x4 : Int32) (x5 : Int32) (h : AH) (hw : m_Cert_alike Q r0 x1 x2 r3 x4 x5 h) : ∀ (ls : Array Slot) (H : Heap) (locs : List Loc) (cells slots : Nat), lv_has ls 7 [(0, .ref r0), (1, .int x1), (2, .int x2), (3, .ref r3), (4, .int x4), (5, .int x5)] → fx_F D h0 h H locs cells slots → W p l e R s m args below meth c H locs cells slots (fx_Z D below s h0 (fx_oZ Q fx_no)) (F0 m 0 ls []) := by
  unfold m_Cert_alike at hw
  intro ls H locs cells slots hv F
  refine lv_iload_n C.ex C.by d_Cert_alike_0 rfl (lv_at hv 2 rfl) ?_
  refine lv_iload C.ex C.by d_Cert_alike_1 (lv_at hv 5 rfl) ?_
  refine lv_iload C.ex C.by d_Cert_alike_3 (lv_at hv 4 rfl) ?_
  refine lv_isub C.ex C.by d_Cert_alike_5 ?_
  refine lv_icmp_eq C.ex C.by d_Cert_alike_6 rfl (fun hc => ?_) (fun hc => ?_)
  · replace hw := hw.1 hc
    refine lv_iconst (v := (0 : Int32)) C.ex C.by d_Cert_alike_11 (by decide) ?_
    refine lv_istore (lv' := [(6, .int (0 : Int32)), (0, .ref r0), (1, .int x1), (2, .int x2), (3, .ref r3), (4, .int x4), (5, .int x5)]) C.ex C.by d_Cert_alike_12 hv (by decide) rfl (fun ls hv => ?_)
    exact b_Cert_alike_14 C hl _ _ _ _ _ _ _ hw _ _ _ _ _ (lv_sub hv [1, 2, 3, 4, 5, 0] rfl) F
  · replace hw := hw.2 hc
    refine lv_iconst (v := (0 : Int32)) C.ex C.by d_Cert_alike_9 (by decide) ?_
    exact fx_zret C F d_Cert_alike_10 (Or.inl rfl) (Or.inl ⟨_, rfl, Or.inl rfl, hw⟩)
theorem hm_Cert_alike : fx_hd y_Cert_alike prog_2_method_20_code 7 (Option.some FieldType.boolean) [] ∈ tables_1 := (fx_m5 (List.mem_of_getElem? (i := 205) rfl))
theorem hi_Cert_alike : Cond.initialized y_Cert_alike.cls ∈ tables_1 := (fx_m1 (List.mem_of_getElem? (i := 11) rfl))
theorem c_Cert_alike {l : Launch} (hl : l.flags = flags0) {D : DD} {Q : Int32 → AH → Prop} {r0 : Nat} {x1 : Int32} {x2 : Int32} {r3 : Nat} {x4 : Int32} {x5 : Int32} {h : AH} (hw : m_Cert_alike Q r0 x1 x2 r3 x4 x5 h) : fx_Mt l D y_Cert_alike (fx_hd y_Cert_alike prog_2_method_20_code 7 (Option.some FieldType.boolean) []) 1 13 [.ref r0, .int x1, .int x2, .ref r3, .int x4, .int x5] h (fx_oZ Q fx_no) := by
  refine fx_ofW (plainFor_of_name (by decide)) (fun p e s m below meth c C F => ?_)
  have hv := lv_entry ([.ref r0, .int x1, .int x2, .ref r3, .int x4, .int x5]) (n := 7) (Nat.le_of_ble_eq_true rfl)
  rw [lg_entry_eq]
  generalize (lg_sl ([.ref r0, .int x1, .int x2, .ref r3, .int x4, .int x5]) ++ List.replicate (7 - (lg_sl ([.ref r0, .int x1, .int x2, .ref r3, .int x4, .int x5])).length) Slot.unset).toArray = ls at hv ⊢
  have hv : lv_has ls 7 [(0, .ref r0), (1, .int x1), (2, .int x2), (3, .ref r3), (4, .int x4), (5, .int x5)] := hv
  exact b_Cert_alike_0 C hl _ _ _ _ _ _ _ hw _ _ _ _ _ hv F
/-! ChainJudge$Certificate.fits([BI)Z: frames 9, words 124, throws -/
abbrev y_Cert_fits : MethodName := ⟨"ChainJudge$Certificate", "fits", "([BI)Z"⟩
theorem lm_Cert_232 : Cond.methodLink "ChainJudge$Certificate" 232 y_Cert_alike ∈ tables_1 ∨ ∃ host, Cond.methodLinkNest "ChainJudge$Certificate" 232 y_Cert_alike host ∈ tables_1 := Or.inl (fx_m5 (List.mem_of_getElem? (i := 202) rfl))
section
variable {p : Program} {l : Launch} {e : Env} {R : Room} {s : State} {m : MethodId} {args : Array Value} {below : List Frame} {meth : Method} {c : Code} {H : Heap} {locs : List Loc} {cells slots : Nat}
variable {D : DD} {y : MethodName} {cc : ByteArray} {nL kf kw : Nat} {ret : Option FieldType} {hh : List (Nat × Nat × Nat × Nat)} {h0 h : AH} {pc : Nat} {ls : Array Slot} {rest : List Value} {b idx : Nat}
theorem iv_Cert_alike {x1 : Int32} {x2 : Int32} {r3 : Nat} {x4 : Int32} {x5 : Int32} (C : fx_CX D y cc nL kf kw ret hh h0 p R s m meth c) (F : fx_F D h0 h H locs cells slots) (hw1 : Cond.methodLink y.cls idx y_Cert_alike ∈ tables_1 ∨ ∃ host, Cond.methodLinkNest y.cls idx y_Cert_alike host ∈ tables_1) (hk : hp_k h b = 8) (hd : decode cc pc = .ok (.invokevirtual idx, 3)) : fx_IV p l e R s m args below meth c H locs cells slots (F0 m pc ls (.int x5 :: .int x4 :: .ref r3 :: .int x2 :: .int x1 :: .ref b :: rest)) rest y_Cert_alike [.ref b, .int x1, .int x2, .ref r3, .int x4, .int x5] 3 := fun T hT X => fx_invV (As := [.int x1, .int x2, .ref r3, .int x4, .int x5]) (Cn := "ChainJudge$Certificate") C X hw1 (fx_m5 (List.mem_of_getElem? (i := 204) rfl)) (fx_selP C ⟨by decide, by decide⟩ (fx_m1 (List.mem_of_getElem? (i := 197) rfl)) (fx_m5 (List.mem_of_getElem? (i := 203) rfl)) (fx_m5 (List.mem_of_getElem? (i := 204) rfl))) hm_Cert_alike ⟨by decide, by decide⟩ (by rw [hT]; exact fx_clsO (ci := 7) (r := ("ChainJudge$Certificate", fx_T7, 29)) C F rfl (by decide) hk) rfl (n := 5) (by decide +kernel) rfl rfl hd
end
def dl_Cert_fits : List (Nat × Instr × Nat) := [(0, .aload_n 0, 1), (1, .getfield 92, 3), (4, .ifCond .ne 5, 3), (7, .iconst 0, 1), (8, .ireturn, 1), (9, .iconst 0, 1), (10, .istore_n 3, 1), (11, .iload_n 3, 1), (12, .iload_n 2, 1), (13, .if_icmp .ge 17, 3), (16, .aload_n 1, 1), (17, .iload_n 3, 1), (18, .baload, 1), (19, .bipush 46, 2), (21, .if_icmp .eq 9, 3), (24, .iinc 3 1, 3), (27, .goto (-16), 3), (30, .aload_n 0, 1), (31, .getfield 10, 3), (34, .aload_n 0, 1), (35, .getfield 16, 3), (38, .putfield 105, 3), (41, .aload_n 0, 1), (42, .getfield 10, 3), (45, .aload_n 0, 1), (46, .getfield 86, 3), (49, .putfield 106, 3), (52, .aload_n 0, 1), (53, .getfield 10, 3), (56, .getfield 106, 3), (59, .aload_n 0, 1), (60, .getfield 89, 3), (63, .if_icmp .ge 136, 3), (66, .aload_n 0, 1), (67, .getfield 10, 3), (70, .aload_n 0, 1), (71, .getfield 89, 3), (74, .invokevirtual 155, 3), (77, .istore 4, 2), (79, .aload_n 0, 1), (80, .getfield 10, 3), (83, .iload 4, 2), (85, .aload_n 0, 1), (86, .getfield 89, 3), (89, .invokevirtual 158, 3), (92, .istore 5, 2), (94, .aload_n 0, 1), (95, .getfield 10, 3), (98, .getfield 106, 3), (101, .iload 5, 2), (103, .isub, 1), (104, .istore 6, 2), (106, .iload 4, 2), (108, .sipush 130, 3), (111, .if_icmp .eq 6, 3), (114, .goto (-62), 3), (117, .aload_n 0, 1), (118, .iload 5, 2), (120, .iload 6, 2), (122, .aload_n 1, 1), (123, .iconst 0, 1), (124, .iload_n 2, 1), (125, .invokevirtual 232, 3), (128, .ifCond .eq 5, 3), (131, .iconst 1, 1), (132, .ireturn, 1), (133, .iload 6, 2), (135, .iconst 2, 1), (136, .if_icmp .le 60, 3), (139, .aload_n 0, 1), (140, .getfield 16, 3), (143, .iload 5, 2), (145, .baload, 1), (146, .bipush 42, 2), (148, .if_icmp .ne 48, 3), (151, .aload_n 0, 1), (152, .getfield 16, 3), (155, .iload 5, 2), (157, .iconst 1, 1), (158, .iadd, 1), (159, .baload, 1), (160, .bipush 46, 2), (162, .if_icmp .ne 34, 3), (165, .iload_n 3, 1), (166, .ifCond .le 30, 3), (169, .iload_n 3, 1), (170, .iload_n 2, 1), (171, .if_icmp .ge 25, 3), (174, .aload_n 0, 1), (175, .iload 5, 2), (177, .iconst 2, 1), (178, .iadd, 1), (179, .iload 6, 2), (181, .iconst 2, 1), (182, .isub, 1), (183, .aload_n 1, 1), (184, .iload_n 3, 1), (185, .iconst 1, 1), (186, .iadd, 1), (187, .iload_n 2, 1), (188, .invokevirtual 232, 3), (191, .ifCond .eq 5, 3), (194, .iconst 1, 1), (195, .ireturn, 1), (196, .goto (-144), 3), (199, .iconst 0, 1), (200, .ireturn, 1)]
theorem dk_Cert_fits : fx_dec prog_2_method_21_code dl_Cert_fits = true := by decide +kernel
theorem d_Cert_fits_0 : decode prog_2_method_21_code 0 = .ok (.aload_n 0, 1) := fx_dat dk_Cert_fits 0 rfl
theorem d_Cert_fits_1 : decode prog_2_method_21_code 1 = .ok (.getfield 92, 3) := fx_dat dk_Cert_fits 1 rfl
theorem d_Cert_fits_4 : decode prog_2_method_21_code 4 = .ok (.ifCond .ne 5, 3) := fx_dat dk_Cert_fits 2 rfl
theorem d_Cert_fits_7 : decode prog_2_method_21_code 7 = .ok (.iconst 0, 1) := fx_dat dk_Cert_fits 3 rfl
theorem d_Cert_fits_8 : decode prog_2_method_21_code 8 = .ok (.ireturn, 1) := fx_dat dk_Cert_fits 4 rfl
theorem d_Cert_fits_9 : decode prog_2_method_21_code 9 = .ok (.iconst 0, 1) := fx_dat dk_Cert_fits 5 rfl
theorem d_Cert_fits_10 : decode prog_2_method_21_code 10 = .ok (.istore_n 3, 1) := fx_dat dk_Cert_fits 6 rfl
theorem d_Cert_fits_11 : decode prog_2_method_21_code 11 = .ok (.iload_n 3, 1) := fx_dat dk_Cert_fits 7 rfl
theorem d_Cert_fits_12 : decode prog_2_method_21_code 12 = .ok (.iload_n 2, 1) := fx_dat dk_Cert_fits 8 rfl
theorem d_Cert_fits_13 : decode prog_2_method_21_code 13 = .ok (.if_icmp .ge 17, 3) := fx_dat dk_Cert_fits 9 rfl
theorem d_Cert_fits_16 : decode prog_2_method_21_code 16 = .ok (.aload_n 1, 1) := fx_dat dk_Cert_fits 10 rfl
theorem d_Cert_fits_17 : decode prog_2_method_21_code 17 = .ok (.iload_n 3, 1) := fx_dat dk_Cert_fits 11 rfl
theorem d_Cert_fits_18 : decode prog_2_method_21_code 18 = .ok (.baload, 1) := fx_dat dk_Cert_fits 12 rfl
theorem d_Cert_fits_19 : decode prog_2_method_21_code 19 = .ok (.bipush 46, 2) := fx_dat dk_Cert_fits 13 rfl
theorem d_Cert_fits_21 : decode prog_2_method_21_code 21 = .ok (.if_icmp .eq 9, 3) := fx_dat dk_Cert_fits 14 rfl
theorem d_Cert_fits_24 : decode prog_2_method_21_code 24 = .ok (.iinc 3 1, 3) := fx_dat dk_Cert_fits 15 rfl
theorem d_Cert_fits_27 : decode prog_2_method_21_code 27 = .ok (.goto (-16), 3) := fx_dat dk_Cert_fits 16 rfl
theorem d_Cert_fits_30 : decode prog_2_method_21_code 30 = .ok (.aload_n 0, 1) := fx_dat dk_Cert_fits 17 rfl
theorem d_Cert_fits_31 : decode prog_2_method_21_code 31 = .ok (.getfield 10, 3) := fx_dat dk_Cert_fits 18 rfl
theorem d_Cert_fits_34 : decode prog_2_method_21_code 34 = .ok (.aload_n 0, 1) := fx_dat dk_Cert_fits 19 rfl
theorem d_Cert_fits_35 : decode prog_2_method_21_code 35 = .ok (.getfield 16, 3) := fx_dat dk_Cert_fits 20 rfl
theorem d_Cert_fits_38 : decode prog_2_method_21_code 38 = .ok (.putfield 105, 3) := fx_dat dk_Cert_fits 21 rfl
theorem d_Cert_fits_41 : decode prog_2_method_21_code 41 = .ok (.aload_n 0, 1) := fx_dat dk_Cert_fits 22 rfl
theorem d_Cert_fits_42 : decode prog_2_method_21_code 42 = .ok (.getfield 10, 3) := fx_dat dk_Cert_fits 23 rfl
theorem d_Cert_fits_45 : decode prog_2_method_21_code 45 = .ok (.aload_n 0, 1) := fx_dat dk_Cert_fits 24 rfl
theorem d_Cert_fits_46 : decode prog_2_method_21_code 46 = .ok (.getfield 86, 3) := fx_dat dk_Cert_fits 25 rfl
theorem d_Cert_fits_49 : decode prog_2_method_21_code 49 = .ok (.putfield 106, 3) := fx_dat dk_Cert_fits 26 rfl
theorem d_Cert_fits_52 : decode prog_2_method_21_code 52 = .ok (.aload_n 0, 1) := fx_dat dk_Cert_fits 27 rfl
theorem d_Cert_fits_53 : decode prog_2_method_21_code 53 = .ok (.getfield 10, 3) := fx_dat dk_Cert_fits 28 rfl
theorem d_Cert_fits_56 : decode prog_2_method_21_code 56 = .ok (.getfield 106, 3) := fx_dat dk_Cert_fits 29 rfl
theorem d_Cert_fits_59 : decode prog_2_method_21_code 59 = .ok (.aload_n 0, 1) := fx_dat dk_Cert_fits 30 rfl
theorem d_Cert_fits_60 : decode prog_2_method_21_code 60 = .ok (.getfield 89, 3) := fx_dat dk_Cert_fits 31 rfl
theorem d_Cert_fits_63 : decode prog_2_method_21_code 63 = .ok (.if_icmp .ge 136, 3) := fx_dat dk_Cert_fits 32 rfl
theorem d_Cert_fits_66 : decode prog_2_method_21_code 66 = .ok (.aload_n 0, 1) := fx_dat dk_Cert_fits 33 rfl
theorem d_Cert_fits_67 : decode prog_2_method_21_code 67 = .ok (.getfield 10, 3) := fx_dat dk_Cert_fits 34 rfl
theorem d_Cert_fits_70 : decode prog_2_method_21_code 70 = .ok (.aload_n 0, 1) := fx_dat dk_Cert_fits 35 rfl
theorem d_Cert_fits_71 : decode prog_2_method_21_code 71 = .ok (.getfield 89, 3) := fx_dat dk_Cert_fits 36 rfl
theorem d_Cert_fits_74 : decode prog_2_method_21_code 74 = .ok (.invokevirtual 155, 3) := fx_dat dk_Cert_fits 37 rfl
theorem d_Cert_fits_77 : decode prog_2_method_21_code 77 = .ok (.istore 4, 2) := fx_dat dk_Cert_fits 38 rfl
theorem d_Cert_fits_79 : decode prog_2_method_21_code 79 = .ok (.aload_n 0, 1) := fx_dat dk_Cert_fits 39 rfl
theorem d_Cert_fits_80 : decode prog_2_method_21_code 80 = .ok (.getfield 10, 3) := fx_dat dk_Cert_fits 40 rfl
theorem d_Cert_fits_83 : decode prog_2_method_21_code 83 = .ok (.iload 4, 2) := fx_dat dk_Cert_fits 41 rfl
theorem d_Cert_fits_85 : decode prog_2_method_21_code 85 = .ok (.aload_n 0, 1) := fx_dat dk_Cert_fits 42 rfl
theorem d_Cert_fits_86 : decode prog_2_method_21_code 86 = .ok (.getfield 89, 3) := fx_dat dk_Cert_fits 43 rfl
theorem d_Cert_fits_89 : decode prog_2_method_21_code 89 = .ok (.invokevirtual 158, 3) := fx_dat dk_Cert_fits 44 rfl
theorem d_Cert_fits_92 : decode prog_2_method_21_code 92 = .ok (.istore 5, 2) := fx_dat dk_Cert_fits 45 rfl
theorem d_Cert_fits_94 : decode prog_2_method_21_code 94 = .ok (.aload_n 0, 1) := fx_dat dk_Cert_fits 46 rfl
theorem d_Cert_fits_95 : decode prog_2_method_21_code 95 = .ok (.getfield 10, 3) := fx_dat dk_Cert_fits 47 rfl
theorem d_Cert_fits_98 : decode prog_2_method_21_code 98 = .ok (.getfield 106, 3) := fx_dat dk_Cert_fits 48 rfl
theorem d_Cert_fits_101 : decode prog_2_method_21_code 101 = .ok (.iload 5, 2) := fx_dat dk_Cert_fits 49 rfl
theorem d_Cert_fits_103 : decode prog_2_method_21_code 103 = .ok (.isub, 1) := fx_dat dk_Cert_fits 50 rfl
theorem d_Cert_fits_104 : decode prog_2_method_21_code 104 = .ok (.istore 6, 2) := fx_dat dk_Cert_fits 51 rfl
theorem d_Cert_fits_106 : decode prog_2_method_21_code 106 = .ok (.iload 4, 2) := fx_dat dk_Cert_fits 52 rfl
theorem d_Cert_fits_108 : decode prog_2_method_21_code 108 = .ok (.sipush 130, 3) := fx_dat dk_Cert_fits 53 rfl
theorem d_Cert_fits_111 : decode prog_2_method_21_code 111 = .ok (.if_icmp .eq 6, 3) := fx_dat dk_Cert_fits 54 rfl
theorem d_Cert_fits_114 : decode prog_2_method_21_code 114 = .ok (.goto (-62), 3) := fx_dat dk_Cert_fits 55 rfl
theorem d_Cert_fits_117 : decode prog_2_method_21_code 117 = .ok (.aload_n 0, 1) := fx_dat dk_Cert_fits 56 rfl
theorem d_Cert_fits_118 : decode prog_2_method_21_code 118 = .ok (.iload 5, 2) := fx_dat dk_Cert_fits 57 rfl
theorem d_Cert_fits_120 : decode prog_2_method_21_code 120 = .ok (.iload 6, 2) := fx_dat dk_Cert_fits 58 rfl
theorem d_Cert_fits_122 : decode prog_2_method_21_code 122 = .ok (.aload_n 1, 1) := fx_dat dk_Cert_fits 59 rfl
theorem d_Cert_fits_123 : decode prog_2_method_21_code 123 = .ok (.iconst 0, 1) := fx_dat dk_Cert_fits 60 rfl
theorem d_Cert_fits_124 : decode prog_2_method_21_code 124 = .ok (.iload_n 2, 1) := fx_dat dk_Cert_fits 61 rfl
theorem d_Cert_fits_125 : decode prog_2_method_21_code 125 = .ok (.invokevirtual 232, 3) := fx_dat dk_Cert_fits 62 rfl
theorem d_Cert_fits_128 : decode prog_2_method_21_code 128 = .ok (.ifCond .eq 5, 3) := fx_dat dk_Cert_fits 63 rfl
theorem d_Cert_fits_131 : decode prog_2_method_21_code 131 = .ok (.iconst 1, 1) := fx_dat dk_Cert_fits 64 rfl
theorem d_Cert_fits_132 : decode prog_2_method_21_code 132 = .ok (.ireturn, 1) := fx_dat dk_Cert_fits 65 rfl
theorem d_Cert_fits_133 : decode prog_2_method_21_code 133 = .ok (.iload 6, 2) := fx_dat dk_Cert_fits 66 rfl
theorem d_Cert_fits_135 : decode prog_2_method_21_code 135 = .ok (.iconst 2, 1) := fx_dat dk_Cert_fits 67 rfl
theorem d_Cert_fits_136 : decode prog_2_method_21_code 136 = .ok (.if_icmp .le 60, 3) := fx_dat dk_Cert_fits 68 rfl
theorem d_Cert_fits_139 : decode prog_2_method_21_code 139 = .ok (.aload_n 0, 1) := fx_dat dk_Cert_fits 69 rfl
theorem d_Cert_fits_140 : decode prog_2_method_21_code 140 = .ok (.getfield 16, 3) := fx_dat dk_Cert_fits 70 rfl
theorem d_Cert_fits_143 : decode prog_2_method_21_code 143 = .ok (.iload 5, 2) := fx_dat dk_Cert_fits 71 rfl
theorem d_Cert_fits_145 : decode prog_2_method_21_code 145 = .ok (.baload, 1) := fx_dat dk_Cert_fits 72 rfl
theorem d_Cert_fits_146 : decode prog_2_method_21_code 146 = .ok (.bipush 42, 2) := fx_dat dk_Cert_fits 73 rfl
theorem d_Cert_fits_148 : decode prog_2_method_21_code 148 = .ok (.if_icmp .ne 48, 3) := fx_dat dk_Cert_fits 74 rfl
theorem d_Cert_fits_151 : decode prog_2_method_21_code 151 = .ok (.aload_n 0, 1) := fx_dat dk_Cert_fits 75 rfl
theorem d_Cert_fits_152 : decode prog_2_method_21_code 152 = .ok (.getfield 16, 3) := fx_dat dk_Cert_fits 76 rfl
theorem d_Cert_fits_155 : decode prog_2_method_21_code 155 = .ok (.iload 5, 2) := fx_dat dk_Cert_fits 77 rfl
theorem d_Cert_fits_157 : decode prog_2_method_21_code 157 = .ok (.iconst 1, 1) := fx_dat dk_Cert_fits 78 rfl
theorem d_Cert_fits_158 : decode prog_2_method_21_code 158 = .ok (.iadd, 1) := fx_dat dk_Cert_fits 79 rfl
theorem d_Cert_fits_159 : decode prog_2_method_21_code 159 = .ok (.baload, 1) := fx_dat dk_Cert_fits 80 rfl
theorem d_Cert_fits_160 : decode prog_2_method_21_code 160 = .ok (.bipush 46, 2) := fx_dat dk_Cert_fits 81 rfl
theorem d_Cert_fits_162 : decode prog_2_method_21_code 162 = .ok (.if_icmp .ne 34, 3) := fx_dat dk_Cert_fits 82 rfl
theorem d_Cert_fits_165 : decode prog_2_method_21_code 165 = .ok (.iload_n 3, 1) := fx_dat dk_Cert_fits 83 rfl
theorem d_Cert_fits_166 : decode prog_2_method_21_code 166 = .ok (.ifCond .le 30, 3) := fx_dat dk_Cert_fits 84 rfl
theorem d_Cert_fits_169 : decode prog_2_method_21_code 169 = .ok (.iload_n 3, 1) := fx_dat dk_Cert_fits 85 rfl
theorem d_Cert_fits_170 : decode prog_2_method_21_code 170 = .ok (.iload_n 2, 1) := fx_dat dk_Cert_fits 86 rfl
theorem d_Cert_fits_171 : decode prog_2_method_21_code 171 = .ok (.if_icmp .ge 25, 3) := fx_dat dk_Cert_fits 87 rfl
theorem d_Cert_fits_174 : decode prog_2_method_21_code 174 = .ok (.aload_n 0, 1) := fx_dat dk_Cert_fits 88 rfl
theorem d_Cert_fits_175 : decode prog_2_method_21_code 175 = .ok (.iload 5, 2) := fx_dat dk_Cert_fits 89 rfl
theorem d_Cert_fits_177 : decode prog_2_method_21_code 177 = .ok (.iconst 2, 1) := fx_dat dk_Cert_fits 90 rfl
theorem d_Cert_fits_178 : decode prog_2_method_21_code 178 = .ok (.iadd, 1) := fx_dat dk_Cert_fits 91 rfl
theorem d_Cert_fits_179 : decode prog_2_method_21_code 179 = .ok (.iload 6, 2) := fx_dat dk_Cert_fits 92 rfl
theorem d_Cert_fits_181 : decode prog_2_method_21_code 181 = .ok (.iconst 2, 1) := fx_dat dk_Cert_fits 93 rfl
theorem d_Cert_fits_182 : decode prog_2_method_21_code 182 = .ok (.isub, 1) := fx_dat dk_Cert_fits 94 rfl
theorem d_Cert_fits_183 : decode prog_2_method_21_code 183 = .ok (.aload_n 1, 1) := fx_dat dk_Cert_fits 95 rfl
theorem d_Cert_fits_184 : decode prog_2_method_21_code 184 = .ok (.iload_n 3, 1) := fx_dat dk_Cert_fits 96 rfl
theorem d_Cert_fits_185 : decode prog_2_method_21_code 185 = .ok (.iconst 1, 1) := fx_dat dk_Cert_fits 97 rfl
theorem d_Cert_fits_186 : decode prog_2_method_21_code 186 = .ok (.iadd, 1) := fx_dat dk_Cert_fits 98 rfl
theorem d_Cert_fits_187 : decode prog_2_method_21_code 187 = .ok (.iload_n 2, 1) := fx_dat dk_Cert_fits 99 rfl
theorem d_Cert_fits_188 : decode prog_2_method_21_code 188 = .ok (.invokevirtual 232, 3) := fx_dat dk_Cert_fits 100 rfl
theorem d_Cert_fits_191 : decode prog_2_method_21_code 191 = .ok (.ifCond .eq 5, 3) := fx_dat dk_Cert_fits 101 rfl
theorem d_Cert_fits_194 : decode prog_2_method_21_code 194 = .ok (.iconst 1, 1) := fx_dat dk_Cert_fits 102 rfl
theorem d_Cert_fits_195 : decode prog_2_method_21_code 195 = .ok (.ireturn, 1) := fx_dat dk_Cert_fits 103 rfl
theorem d_Cert_fits_196 : decode prog_2_method_21_code 196 = .ok (.goto (-144), 3) := fx_dat dk_Cert_fits 104 rfl
theorem d_Cert_fits_199 : decode prog_2_method_21_code 199 = .ok (.iconst 0, 1) := fx_dat dk_Cert_fits 105 rfl
theorem d_Cert_fits_200 : decode prog_2_method_21_code 200 = .ok (.ireturn, 1) := fx_dat dk_Cert_fits 106 rfl
def m_Cert_fits_196 (Q : Int32 → AH → Prop) (E : Nat → AH → Prop) (X52 : AH → Prop) (r0 : Nat) (r1 : Nat) (x2 : Int32) (x3 : Int32) (h : AH) : Prop := X52 h
def m_Cert_fits_52_b (Q : Int32 → AH → Prop) (E : Nat → AH → Prop) (X52 : AH → Prop) (r0 : Nat) (r1 : Nat) (x2 : Int32) (x3 : Int32) (h : AH) : Prop := hp_k h r0 = 8 ∧ ∃ b1, hp_R h r0 1 = some b1 ∧ hp_k h b1 = 9 ∧ ((hp_I h r0 25) ≤ (hp_I h b1 1) → Q (0 : Int32) h) ∧ (¬ (hp_I h r0 25) ≤ (hp_I h b1 1) → m_Rd_tag (fun v1 h1 => fx_ext h h1 → ∃ b2, hp_R h1 r0 1 = some b2 ∧ hp_k h1 b2 = 9 ∧ m_Rd_skip (fun v2 h2 => fx_ext h1 h2 → ∃ b3, hp_R h2 r0 1 = some b3 ∧ hp_k h2 b3 = 9 ∧ ∀ v3 : Int32, v3 = ((hp_I h2 b3 1) - v2) → (v1 = (130 : Int32) → m_Cert_alike (fun v4 h3 => fx_ext h2 h3 → zb v4 → (v4 = 0 → (v3 ≤ (2 : Int32) → m_Cert_fits_196 Q E X52 r0 r1 x2 x3 h3) ∧ (¬ v3 ≤ (2 : Int32) → ∃ b4, hp_R h3 r0 2 = some b4 ∧ bk (hp_k h3 b4) ∧ vp_in v2 (hp_n h3 b4) ∧ (by8 (hp_I h3 b4 v2.toNatClampNeg) → (¬ (hp_I h3 b4 v2.toNatClampNeg) = (42 : Int32) → m_Cert_fits_196 Q E X52 r0 r1 x2 x3 h3) ∧ ((hp_I h3 b4 v2.toNatClampNeg) = (42 : Int32) → vp_in (v2 + (1 : Int32)) (hp_n h3 b4) ∧ (by8 (hp_I h3 b4 ((v2 + (1 : Int32))).toNatClampNeg) → (¬ (hp_I h3 b4 ((v2 + (1 : Int32))).toNatClampNeg) = (46 : Int32) → m_Cert_fits_196 Q E X52 r0 r1 x2 x3 h3) ∧ ((hp_I h3 b4 ((v2 + (1 : Int32))).toNatClampNeg) = (46 : Int32) → (x3 ≤ 0 → m_Cert_fits_196 Q E X52 r0 r1 x2 x3 h3) ∧ (¬ x3 ≤ 0 → (x2 ≤ x3 → m_Cert_fits_196 Q E X52 r0 r1 x2 x3 h3) ∧ (¬ x2 ≤ x3 → m_Cert_alike (fun v5 h4 => fx_ext h3 h4 → zb v5 → (v5 = 0 → m_Cert_fits_196 Q E X52 r0 r1 x2 x3 h4) ∧ (¬ v5 = 0 → Q (1 : Int32) h4)) r0 (v2 + (2 : Int32)) (v3 - (2 : Int32)) r1 (x3 + (1 : Int32)) x2 h3)))))))) ∧ (¬ v4 = 0 → Q (1 : Int32) h3)) r0 v2 v3 r1 (0 : Int32) x2 h2) ∧ (¬ v1 = (130 : Int32) → X52 h2)) (fun a ht => fx_ext h1 ht → E a ht) b2 v1 (hp_I h1 r0 25) h1) b1 (hp_I h r0 25) h)
def m_Cert_fits_52 (Q : Int32 → AH → Prop) (E : Nat → AH → Prop) (r0 : Nat) (r1 : Nat) (x2 : Int32) (x3 : Int32) (h : AH) : Prop := fx_loop (fun (X52 : AH → Prop) (st : AH) => m_Cert_fits_52_b Q E X52 r0 r1 x2 x3 st) (h)
def m_Cert_fits_30 (Q : Int32 → AH → Prop) (E : Nat → AH → Prop) (r0 : Nat) (r1 : Nat) (x2 : Int32) (x3 : Int32) (h : AH) : Prop := hp_k h r0 = 8 ∧ ∃ b1, hp_R h r0 1 = some b1 ∧ ∃ b2, hp_R h r0 2 = some b2 ∧ hp_k h b1 = 9 ∧ ∀ h1 : AH, h1 = up_R h b1 0 (some b2) → ∃ b3, hp_R h1 r0 1 = some b3 ∧ hp_k h1 b3 = 9 ∧ ∀ h2 : AH, h2 = up_I h1 b3 1 (hp_I h1 r0 24) → m_Cert_fits_52 Q E r0 r1 x2 x3 h2
def m_Cert_fits_11_b (Q : Int32 → AH → Prop) (E : Nat → AH → Prop) (X11 : Int32 × AH → Prop) (r0 : Nat) (r1 : Nat) (x2 : Int32) (x3 : Int32) (h : AH) : Prop := (x2 ≤ x3 → m_Cert_fits_30 Q E r0 r1 x2 x3 h) ∧ (¬ x2 ≤ x3 → bk (hp_k h r1) ∧ vp_in x3 (hp_n h r1) ∧ (by8 (hp_I h r1 x3.toNatClampNeg) → ((hp_I h r1 x3.toNatClampNeg) = (46 : Int32) → m_Cert_fits_30 Q E r0 r1 x2 x3 h) ∧ (¬ (hp_I h r1 x3.toNatClampNeg) = (46 : Int32) → ∀ v1 : Int32, v1 = (x3 + (1 : Int32)) → X11 (v1, h))))
def m_Cert_fits_11 (Q : Int32 → AH → Prop) (E : Nat → AH → Prop) (r0 : Nat) (r1 : Nat) (x2 : Int32) (x3 : Int32) (h : AH) : Prop := fx_loop (fun (X11 : Int32 × AH → Prop) (st : Int32 × AH) => m_Cert_fits_11_b Q E X11 r0 r1 x2 st.1 st.2) (x3, h)
def m_Cert_fits (Q : Int32 → AH → Prop) (E : Nat → AH → Prop) (r0 : Nat) (r1 : Nat) (x2 : Int32) (h : AH) : Prop := hp_k h r0 = 8 ∧ (¬ (hp_I h r0 26) = 0 → m_Cert_fits_11 Q E r0 r1 x2 (0 : Int32) h) ∧ ((hp_I h r0 26) = 0 → Q (0 : Int32) h)
theorem b_Cert_fits_196 {p : Program} {l : Launch} {e : Env} {R : Room} {s : State} {m : MethodId} {args : Array Value} {below : List Frame} {meth : Method} {c : Code} {D : DD} {h0 : AH} {Q : Int32 → AH → Prop} {E : Nat → AH → Prop} {X52 : AH → Prop} (C : fx_CX D y_Cert_fits prog_2_method_21_code 7 9 124 (Option.some FieldType.boolean) [] h0 p R s m meth c) (hl : l.flags = flags0) (r0 : Nat) (r1 : Nat) (x2 : Int32) (x3 : Int32) (h : AH) (hX52 : ∀ st, X52 st → ∀ (ls : Array Slot) (H : Heap) (locs : List Loc) (cells slots : Nat), lv_has ls 7 [(0, .ref r0), (1, .ref r1), (2, .int x2), (3, .int x3)] → fx_F D h0 st H locs cells slots → W p l e R s m args below meth c H locs cells slots (fx_Z D below s h0 (fx_oZ Q E)) (F0 m 52 ls [])) (hw : m_Cert_fits_196 Q E X52 r0 r1 x2 x3 h) : ∀ (ls : Array Slot) (H : Heap) (locs : List Loc) (cells slots : Nat), lv_has ls 7 [(0, .ref r0), (1, .ref r1), (2, .int x2), (3, .int x3)] → fx_F D h0 h H locs cells slots → W p l e R s m args below meth c H locs cells slots (fx_Z D below s h0 (fx_oZ Q E)) (F0 m 196 ls []) := by
  unfold m_Cert_fits_196 at hw
  intro ls H locs cells slots hv F
  refine lv_goto C.ex C.by d_Cert_fits_196 rfl ?_
  exact hX52 _ hw _ _ _ _ _ hv F
theorem b_Cert_fits_52 {p : Program} {l : Launch} {e : Env} {R : Room} {s : State} {m : MethodId} {args : Array Value} {below : List Frame} {meth : Method} {c : Code} {D : DD} {h0 : AH} {Q : Int32 → AH → Prop} {E : Nat → AH → Prop} (C : fx_CX D y_Cert_fits prog_2_method_21_code 7 9 124 (Option.some FieldType.boolean) [] h0 p R s m meth c) (hl : l.flags = flags0) (r0 : Nat) (r1 : Nat) (x2 : Int32) (x3 : Int32) (h : AH) (hw : m_Cert_fits_52 Q E r0 r1 x2 x3 h) : ∀ (ls : Array Slot) (H : Heap) (locs : List Loc) (cells slots : Nat), lv_has ls 7 [(0, .ref r0), (1, .ref r1), (2, .int x2), (3, .int x3)] → fx_F D h0 h H locs cells slots → W p l e R s m args below meth c H locs cells slots (fx_Z D below s h0 (fx_oZ Q E)) (F0 m 52 ls []) := by
  refine fx_loop.use hw (fun st => ∀ (ls : Array Slot) (H : Heap) (locs : List Loc) (cells slots : Nat), lv_has ls 7 [(0, .ref r0), (1, .ref r1), (2, .int x2), (3, .int x3)] → fx_F D h0 st H locs cells slots → W p l e R s m args below meth c H locs cells slots (fx_Z D below s h0 (fx_oZ Q E)) (F0 m 52 ls [])) (fun X52 h hX52 hw => ?_)
  replace hw : m_Cert_fits_52_b Q E X52 r0 r1 x2 x3 h := hw
  unfold m_Cert_fits_52_b at hw
  intro ls H locs cells slots hv F
  refine lv_aload_n C.ex C.by d_Cert_fits_52 rfl (lv_at hv 0 rfl) ?_
  obtain ⟨hk1, hw⟩ := hw
  obtain ⟨b1, hb1, hw⟩ := hw
  refine fx_getR C F lf_Cert_10 hk1 rfl hb1 d_Cert_fits_53 ?_
  obtain ⟨hk2, hw⟩ := hw
  refine fx_getI C F lf_Cert_106 hk2 rfl d_Cert_fits_56 ?_
  refine lv_aload_n C.ex C.by d_Cert_fits_59 rfl (lv_at hv 0 rfl) ?_
  refine fx_getI C F lf_Cert_89 hk1 rfl d_Cert_fits_60 ?_
  refine lv_icmp_ge C.ex C.by d_Cert_fits_63 rfl (fun hc => ?_) (fun hc => ?_)
  · replace hw := hw.1 hc
    refine lv_iconst (v := (0 : Int32)) C.ex C.by d_Cert_fits_199 (by decide) ?_
    exact fx_zret C F d_Cert_fits_200 (Or.inl rfl) (Or.inl ⟨_, rfl, Or.inl rfl, hw⟩)
  · replace hw := hw.2 hc
    refine lv_aload_n C.ex C.by d_Cert_fits_66 rfl (lv_at hv 0 rfl) ?_
    refine fx_getR C F lf_Cert_10 hk1 rfl hb1 d_Cert_fits_67 ?_
    refine lv_aload_n C.ex C.by d_Cert_fits_70 rfl (lv_at hv 0 rfl) ?_
    refine fx_getI C F lf_Cert_89 hk1 rfl d_Cert_fits_71 ?_
    refine fx_callI C F (c_Rd_tag hl hw) hm_Rd_tag hi_Rd_tag hv.1 (by decide) (Nat.le_of_ble_eq_true rfl) (iv_Rd_tag C F lm_Cert_155 hk2 d_Cert_fits_74) (fx_out0 _) fx_eno (fun v1 h1 H locs cells slots hw hx1 F => ?_)
    replace hw := hw hx1
    have hk2 := (hx1).k hk2
    have hk1 := (hx1).k hk1
    refine lv_istore (lv' := [(4, .int v1), (0, .ref r0), (1, .ref r1), (2, .int x2), (3, .int x3)]) C.ex C.by d_Cert_fits_77 hv (by decide) rfl (fun ls hv => ?_)
    refine lv_aload_n C.ex C.by d_Cert_fits_79 rfl (lv_at hv 1 rfl) ?_
    obtain ⟨b2, hb2, hw⟩ := hw
    refine fx_getR C F lf_Cert_10 hk1 rfl hb2 d_Cert_fits_80 ?_
    refine lv_iload C.ex C.by d_Cert_fits_83 (lv_at hv 0 rfl) ?_
    refine lv_aload_n C.ex C.by d_Cert_fits_85 rfl (lv_at hv 1 rfl) ?_
    refine fx_getI C F lf_Cert_89 hk1 rfl d_Cert_fits_86 ?_
    obtain ⟨hk3, hw⟩ := hw
    refine fx_callI C F (c_Rd_skip hl hw) hm_Rd_skip hi_Rd_skip hv.1 (by decide) (Nat.le_of_ble_eq_true rfl) (iv_Rd_skip C F lm_Cert_158 hk3 d_Cert_fits_89) (fx_out0 _) (fun _ _ hE hx => Or.inr ⟨_, rfl, hE hx⟩) (fun v2 h2 H locs cells slots hw hx2 F => ?_)
    replace hw := hw hx2
    have hk2 := (hx2).k hk2
    have hk3 := (hx2).k hk3
    have hk1 := (hx2).k hk1
    refine lv_istore (lv' := [(5, .int v2), (4, .int v1), (0, .ref r0), (1, .ref r1), (2, .int x2), (3, .int x3)]) C.ex C.by d_Cert_fits_92 hv (by decide) rfl (fun ls hv => ?_)
    refine lv_aload_n C.ex C.by d_Cert_fits_94 rfl (lv_at hv 2 rfl) ?_
    obtain ⟨b3, hb3, hw⟩ := hw
    refine fx_getR C F lf_Cert_10 hk1 rfl hb3 d_Cert_fits_95 ?_
    obtain ⟨hk4, hw⟩ := hw
    refine fx_getI C F lf_Cert_106 hk4 rfl d_Cert_fits_98 ?_
    refine lv_iload C.ex C.by d_Cert_fits_101 (lv_at hv 0 rfl) ?_
    refine lv_isub C.ex C.by d_Cert_fits_103 ?_
    let v3 : Int32 := ((hp_I h2 b3 1) - v2)
    replace hw := hw v3 rfl
    refine lv_istore (lv' := [(6, .int v3), (5, .int v2), (4, .int v1), (0, .ref r0), (1, .ref r1), (2, .int x2), (3, .int x3)]) C.ex C.by d_Cert_fits_104 hv (by decide) rfl (fun ls hv => ?_)
    refine lv_iload C.ex C.by d_Cert_fits_106 (lv_at hv 2 rfl) ?_
    refine lv_sipush (v := (130 : Int32)) C.ex C.by d_Cert_fits_108 (by decide) ?_
    refine lv_icmp_eq C.ex C.by d_Cert_fits_111 rfl (fun hc => ?_) (fun hc => ?_)
    · replace hw := hw.1 hc
      refine lv_aload_n C.ex C.by d_Cert_fits_117 rfl (lv_at hv 3 rfl) ?_
      refine lv_iload C.ex C.by d_Cert_fits_118 (lv_at hv 1 rfl) ?_
      refine lv_iload C.ex C.by d_Cert_fits_120 (lv_at hv 0 rfl) ?_
      refine lv_aload_n C.ex C.by d_Cert_fits_122 rfl (lv_at hv 4 rfl) ?_
      refine lv_iconst (v := (0 : Int32)) C.ex C.by d_Cert_fits_123 (by decide) ?_
      refine lv_iload_n C.ex C.by d_Cert_fits_124 rfl (lv_at hv 5 rfl) ?_
      refine fx_callZ C F (c_Cert_alike hl hw) hm_Cert_alike hi_Cert_alike hv.1 (by decide) (Nat.le_of_ble_eq_true rfl) (iv_Cert_alike C F lm_Cert_232 hk1 d_Cert_fits_125) (fx_out0 _) fx_eno (fun v4 h3 H locs cells slots hw hx3 hzb F => ?_)
      replace hw := hw hx3 hzb
      have hk2 := (hx3).k hk2
      have hk3 := (hx3).k hk3
      have hk4 := (hx3).k hk4
      have hk1 := (hx3).k hk1
      refine lv_if_eq C.ex C.by d_Cert_fits_128 rfl (fun hc => ?_) (fun hc => ?_)
      · replace hw := hw.1 hc
        refine lv_iload C.ex C.by d_Cert_fits_133 (lv_at hv 0 rfl) ?_
        refine lv_iconst (v := (2 : Int32)) C.ex C.by d_Cert_fits_135 (by decide) ?_
        refine lv_icmp_le C.ex C.by d_Cert_fits_136 rfl (fun hc => ?_) (fun hc => ?_)
        · replace hw := hw.1 hc
          exact b_Cert_fits_196 C hl _ _ _ _ _ hX52 hw _ _ _ _ _ (lv_sub hv [3, 4, 5, 6] rfl) F
        · replace hw := hw.2 hc
          refine lv_aload_n C.ex C.by d_Cert_fits_139 rfl (lv_at hv 3 rfl) ?_
          obtain ⟨b4, hb4, hw⟩ := hw
          refine fx_getR C F lf_Cert_16 hk1 rfl hb4 d_Cert_fits_140 ?_
          refine lv_iload C.ex C.by d_Cert_fits_143 (lv_at hv 1 rfl) ?_
          obtain ⟨hk5, hw⟩ := hw
          obtain ⟨hi1, hw⟩ := hw
          refine fx_bald C F hk5 hi1 d_Cert_fits_145 (fun h8 => ?_)
          replace hw := hw h8
          refine lv_bipush (v := (42 : Int32)) C.ex C.by d_Cert_fits_146 (by decide) ?_
          refine lv_icmp_ne C.ex C.by d_Cert_fits_148 rfl (fun hc => ?_) (fun hc => ?_)
          · replace hw := hw.1 hc
            exact b_Cert_fits_196 C hl _ _ _ _ _ hX52 hw _ _ _ _ _ (lv_sub hv [3, 4, 5, 6] rfl) F
          · replace hw := hw.2 hc
            refine lv_aload_n C.ex C.by d_Cert_fits_151 rfl (lv_at hv 3 rfl) ?_
            refine fx_getR C F lf_Cert_16 hk1 rfl hb4 d_Cert_fits_152 ?_
            refine lv_iload C.ex C.by d_Cert_fits_155 (lv_at hv 1 rfl) ?_
            refine lv_iconst (v := (1 : Int32)) C.ex C.by d_Cert_fits_157 (by decide) ?_
            refine lv_iadd C.ex C.by d_Cert_fits_158 ?_
            obtain ⟨hi2, hw⟩ := hw
            refine fx_bald C F hk5 hi2 d_Cert_fits_159 (fun h8 => ?_)
            replace hw := hw h8
            refine lv_bipush (v := (46 : Int32)) C.ex C.by d_Cert_fits_160 (by decide) ?_
            refine lv_icmp_ne C.ex C.by d_Cert_fits_162 rfl (fun hc => ?_) (fun hc => ?_)
            · replace hw := hw.1 hc
              exact b_Cert_fits_196 C hl _ _ _ _ _ hX52 hw _ _ _ _ _ (lv_sub hv [3, 4, 5, 6] rfl) F
            · replace hw := hw.2 hc
              refine lv_iload_n C.ex C.by d_Cert_fits_165 rfl (lv_at hv 6 rfl) ?_
              refine lv_if_le C.ex C.by d_Cert_fits_166 rfl (fun hc => ?_) (fun hc => ?_)
              · replace hw := hw.1 hc
                exact b_Cert_fits_196 C hl _ _ _ _ _ hX52 hw _ _ _ _ _ (lv_sub hv [3, 4, 5, 6] rfl) F
              · replace hw := hw.2 hc
                refine lv_iload_n C.ex C.by d_Cert_fits_169 rfl (lv_at hv 6 rfl) ?_
                refine lv_iload_n C.ex C.by d_Cert_fits_170 rfl (lv_at hv 5 rfl) ?_
                refine lv_icmp_ge C.ex C.by d_Cert_fits_171 rfl (fun hc => ?_) (fun hc => ?_)
                · replace hw := hw.1 hc
                  exact b_Cert_fits_196 C hl _ _ _ _ _ hX52 hw _ _ _ _ _ (lv_sub hv [3, 4, 5, 6] rfl) F
                · replace hw := hw.2 hc
                  refine lv_aload_n C.ex C.by d_Cert_fits_174 rfl (lv_at hv 3 rfl) ?_
                  refine lv_iload C.ex C.by d_Cert_fits_175 (lv_at hv 1 rfl) ?_
                  refine lv_iconst (v := (2 : Int32)) C.ex C.by d_Cert_fits_177 (by decide) ?_
                  refine lv_iadd C.ex C.by d_Cert_fits_178 ?_
                  refine lv_iload C.ex C.by d_Cert_fits_179 (lv_at hv 0 rfl) ?_
                  refine lv_iconst (v := (2 : Int32)) C.ex C.by d_Cert_fits_181 (by decide) ?_
                  refine lv_isub C.ex C.by d_Cert_fits_182 ?_
                  refine lv_aload_n C.ex C.by d_Cert_fits_183 rfl (lv_at hv 4 rfl) ?_
                  refine lv_iload_n C.ex C.by d_Cert_fits_184 rfl (lv_at hv 6 rfl) ?_
                  refine lv_iconst (v := (1 : Int32)) C.ex C.by d_Cert_fits_185 (by decide) ?_
                  refine lv_iadd C.ex C.by d_Cert_fits_186 ?_
                  refine lv_iload_n C.ex C.by d_Cert_fits_187 rfl (lv_at hv 5 rfl) ?_
                  refine fx_callZ C F (c_Cert_alike hl hw) hm_Cert_alike hi_Cert_alike hv.1 (by decide) (Nat.le_of_ble_eq_true rfl) (iv_Cert_alike C F lm_Cert_232 hk1 d_Cert_fits_188) (fx_out0 _) fx_eno (fun v5 h4 H locs cells slots hw hx4 hzb F => ?_)
                  replace hw := hw hx4 hzb
                  have hk2 := (hx4).k hk2
                  have hk3 := (hx4).k hk3
                  have hk4 := (hx4).k hk4
                  have hk5 := (hx4).gb hk5
                  have hk1 := (hx4).k hk1
                  refine lv_if_eq C.ex C.by d_Cert_fits_191 rfl (fun hc => ?_) (fun hc => ?_)
                  · replace hw := hw.1 hc
                    exact b_Cert_fits_196 C hl _ _ _ _ _ hX52 hw _ _ _ _ _ (lv_sub hv [3, 4, 5, 6] rfl) F
                  · replace hw := hw.2 hc
                    refine lv_iconst (v := (1 : Int32)) C.ex C.by d_Cert_fits_194 (by decide) ?_
                    exact fx_zret C F d_Cert_fits_195 (Or.inr rfl) (Or.inl ⟨_, rfl, Or.inr rfl, hw⟩)
      · replace hw := hw.2 hc
        refine lv_iconst (v := (1 : Int32)) C.ex C.by d_Cert_fits_131 (by decide) ?_
        exact fx_zret C F d_Cert_fits_132 (Or.inr rfl) (Or.inl ⟨_, rfl, Or.inr rfl, hw⟩)
    · replace hw := hw.2 hc
      refine lv_goto C.ex C.by d_Cert_fits_114 rfl ?_
      exact hX52 _ hw _ _ _ _ _ (lv_sub hv [3, 4, 5, 6] rfl) F
theorem b_Cert_fits_30 {p : Program} {l : Launch} {e : Env} {R : Room} {s : State} {m : MethodId} {args : Array Value} {below : List Frame} {meth : Method} {c : Code} {D : DD} {h0 : AH} {Q : Int32 → AH → Prop} {E : Nat → AH → Prop} (C : fx_CX D y_Cert_fits prog_2_method_21_code 7 9 124 (Option.some FieldType.boolean) [] h0 p R s m meth c) (hl : l.flags = flags0) (r0 : Nat) (r1 : Nat) (x2 : Int32) (x3 : Int32) (h : AH) (hw : m_Cert_fits_30 Q E r0 r1 x2 x3 h) : ∀ (ls : Array Slot) (H : Heap) (locs : List Loc) (cells slots : Nat), lv_has ls 7 [(0, .ref r0), (1, .ref r1), (2, .int x2), (3, .int x3)] → fx_F D h0 h H locs cells slots → W p l e R s m args below meth c H locs cells slots (fx_Z D below s h0 (fx_oZ Q E)) (F0 m 30 ls []) := by
  unfold m_Cert_fits_30 at hw
  intro ls H locs cells slots hv F
  refine lv_aload_n C.ex C.by d_Cert_fits_30 rfl (lv_at hv 0 rfl) ?_
  obtain ⟨hk1, hw⟩ := hw
  obtain ⟨b1, hb1, hw⟩ := hw
  refine fx_getR C F lf_Cert_10 hk1 rfl hb1 d_Cert_fits_31 ?_
  refine lv_aload_n C.ex C.by d_Cert_fits_34 rfl (lv_at hv 0 rfl) ?_
  obtain ⟨b2, hb2, hw⟩ := hw
  refine fx_getR C F lf_Cert_16 hk1 rfl hb2 d_Cert_fits_35 ?_
  obtain ⟨hk2, hw⟩ := hw
  let h1 : AH := up_R h b1 0 (some b2)
  replace hw := hw h1 rfl
  refine fx_putR C F lf_Cert_105 hk2 rfl rfl (fx_mayF.no rfl rfl) d_Cert_fits_38 (fun H locs (F : fx_F D h0 h1 H locs _ _) => ?_)
  refine lv_aload_n C.ex C.by d_Cert_fits_41 rfl (lv_at hv 0 rfl) ?_
  obtain ⟨b3, hb3, hw⟩ := hw
  refine fx_getR C F lf_Cert_10 hk1 rfl hb3 d_Cert_fits_42 ?_
  refine lv_aload_n C.ex C.by d_Cert_fits_45 rfl (lv_at hv 0 rfl) ?_
  refine fx_getI C F lf_Cert_86 hk1 rfl d_Cert_fits_46 ?_
  obtain ⟨hk3, hw⟩ := hw
  let h2 : AH := up_I h1 b3 1 (hp_I h1 r0 24)
  replace hw := hw h2 rfl
  refine fx_putI C F lf_Cert_106 hk3 rfl rfl (fx_mayF.no rfl rfl) d_Cert_fits_49 (fun H locs (F : fx_F D h0 h2 H locs _ _) => ?_)
  exact b_Cert_fits_52 C hl _ _ _ _ _ hw _ _ _ _ _ hv F
theorem b_Cert_fits_11 {p : Program} {l : Launch} {e : Env} {R : Room} {s : State} {m : MethodId} {args : Array Value} {below : List Frame} {meth : Method} {c : Code} {D : DD} {h0 : AH} {Q : Int32 → AH → Prop} {E : Nat → AH → Prop} (C : fx_CX D y_Cert_fits prog_2_method_21_code 7 9 124 (Option.some FieldType.boolean) [] h0 p R s m meth c) (hl : l.flags = flags0) (r0 : Nat) (r1 : Nat) (x2 : Int32) (x3 : Int32) (h : AH) (hw : m_Cert_fits_11 Q E r0 r1 x2 x3 h) : ∀ (ls : Array Slot) (H : Heap) (locs : List Loc) (cells slots : Nat), lv_has ls 7 [(0, .ref r0), (1, .ref r1), (2, .int x2), (3, .int x3)] → fx_F D h0 h H locs cells slots → W p l e R s m args below meth c H locs cells slots (fx_Z D below s h0 (fx_oZ Q E)) (F0 m 11 ls []) := by
  refine fx_loop.use hw (fun st => ∀ (ls : Array Slot) (H : Heap) (locs : List Loc) (cells slots : Nat), lv_has ls 7 [(0, .ref r0), (1, .ref r1), (2, .int x2), (3, .int st.1)] → fx_F D h0 st.2 H locs cells slots → W p l e R s m args below meth c H locs cells slots (fx_Z D below s h0 (fx_oZ Q E)) (F0 m 11 ls [])) (fun X11 st hX11 hw => ?_)
  obtain ⟨x3, h⟩ := st
  replace hw : m_Cert_fits_11_b Q E X11 r0 r1 x2 x3 h := hw
  unfold m_Cert_fits_11_b at hw
  intro ls H locs cells slots hv F
  refine lv_iload_n C.ex C.by d_Cert_fits_11 rfl (lv_at hv 3 rfl) ?_
  refine lv_iload_n C.ex C.by d_Cert_fits_12 rfl (lv_at hv 2 rfl) ?_
  refine lv_icmp_ge C.ex C.by d_Cert_fits_13 rfl (fun hc => ?_) (fun hc => ?_)
  · replace hw := hw.1 hc
    exact b_Cert_fits_30 C hl _ _ _ _ _ hw _ _ _ _ _ hv F
  · replace hw := hw.2 hc
    refine lv_aload_n C.ex C.by d_Cert_fits_16 rfl (lv_at hv 1 rfl) ?_
    refine lv_iload_n C.ex C.by d_Cert_fits_17 rfl (lv_at hv 3 rfl) ?_
    obtain ⟨hk1, hw⟩ := hw
    obtain ⟨hi1, hw⟩ := hw
    refine fx_bald C F hk1 hi1 d_Cert_fits_18 (fun h8 => ?_)
    replace hw := hw h8
    refine lv_bipush (v := (46 : Int32)) C.ex C.by d_Cert_fits_19 (by decide) ?_
    refine lv_icmp_eq C.ex C.by d_Cert_fits_21 rfl (fun hc => ?_) (fun hc => ?_)
    · replace hw := hw.1 hc
      exact b_Cert_fits_30 C hl _ _ _ _ _ hw _ _ _ _ _ hv F
    · replace hw := hw.2 hc
      let v1 : Int32 := (x3 + (1 : Int32))
      replace hw := hw v1 rfl
      refine lv_iinc (v := v1) (k := 3) (lv' := [(3, .int v1), (0, .ref r0), (1, .ref r1), (2, .int x2)]) C.ex C.by d_Cert_fits_24 hv rfl (congrArg (fun z => x3 + z) (by decide)) (by decide) rfl (fun ls hv => ?_)
      refine lv_goto C.ex C.by d_Cert_fits_27 rfl ?_
      exact hX11 _ hw _ _ _ _ _ (lv_sub hv [1, 2, 3, 0] rfl) F
theorem b_Cert_fits_0 {p : Program} {l : Launch} {e : Env} {R : Room} {s : State} {m : MethodId} {args : Array Value} {below : List Frame} {meth : Method} {c : Code} {D : DD} {h0 : AH} {Q : Int32 → AH → Prop} {E : Nat → AH → Prop} (C : fx_CX D y_Cert_fits prog_2_method_21_code 7 9 124 (Option.some FieldType.boolean) [] h0 p R s m meth c) (hl : l.flags = flags0) (r0 : Nat) (r1 : Nat) (x2 : Int32) (h : AH) (hw : m_Cert_fits Q E r0 r1 x2 h) : ∀ (ls : Array Slot) (H : Heap) (locs : List Loc) (cells slots : Nat), lv_has ls 7 [(0, .ref r0), (1, .ref r1), (2, .int x2)] → fx_F D h0 h H locs cells slots → W p l e R s m args below meth c H locs cells slots (fx_Z D below s h0 (fx_oZ Q E)) (F0 m 0 ls []) := by
  unfold m_Cert_fits at hw
  intro ls H locs cells slots hv F
  refine lv_aload_n C.ex C.by d_Cert_fits_0 rfl (lv_at hv 0 rfl) ?_
  obtain ⟨hk1, hw⟩ := hw
  refine fx_getI C F lf_Cert_92 hk1 rfl d_Cert_fits_1 ?_
  refine lv_if_ne C.ex C.by d_Cert_fits_4 rfl (fun hc => ?_) (fun hc => ?_)
  · replace hw := hw.1 hc
    refine lv_iconst (v := (0 : Int32)) C.ex C.by d_Cert_fits_9 (by decide) ?_
    refine lv_istore_n (lv' := [(3, .int (0 : Int32)), (0, .ref r0), (1, .ref r1), (2, .int x2)]) C.ex C.by d_Cert_fits_10 rfl hv (by decide) rfl (fun ls hv => ?_)
    exact b_Cert_fits_11 C hl _ _ _ _ _ hw _ _ _ _ _ (lv_sub hv [1, 2, 3, 0] rfl) F
  · replace hw := hw.2 hc
    refine lv_iconst (v := (0 : Int32)) C.ex C.by d_Cert_fits_7 (by decide) ?_
    exact fx_zret C F d_Cert_fits_8 (Or.inl rfl) (Or.inl ⟨_, rfl, Or.inl rfl, hw⟩)
theorem hm_Cert_fits : fx_hd y_Cert_fits prog_2_method_21_code 7 (Option.some FieldType.boolean) [] ∈ tables_1 := (fx_m5 (List.mem_of_getElem? (i := 201) rfl))
theorem hi_Cert_fits : Cond.initialized y_Cert_fits.cls ∈ tables_1 := (fx_m1 (List.mem_of_getElem? (i := 11) rfl))
theorem c_Cert_fits {l : Launch} (hl : l.flags = flags0) {D : DD} {Q : Int32 → AH → Prop} {E : Nat → AH → Prop} {r0 : Nat} {r1 : Nat} {x2 : Int32} {h : AH} (hw : m_Cert_fits Q E r0 r1 x2 h) : fx_Mt l D y_Cert_fits (fx_hd y_Cert_fits prog_2_method_21_code 7 (Option.some FieldType.boolean) []) 9 124 [.ref r0, .ref r1, .int x2] h (fx_oZ Q E) := by
  refine fx_ofW (plainFor_of_name (by decide)) (fun p e s m below meth c C F => ?_)
  have hv := lv_entry ([.ref r0, .ref r1, .int x2]) (n := 7) (Nat.le_of_ble_eq_true rfl)
  rw [lg_entry_eq]
  generalize (lg_sl ([.ref r0, .ref r1, .int x2]) ++ List.replicate (7 - (lg_sl ([.ref r0, .ref r1, .int x2])).length) Slot.unset).toArray = ls at hv ⊢
  have hv : lv_has ls 7 [(0, .ref r0), (1, .ref r1), (2, .int x2)] := hv
  exact b_Cert_fits_0 C hl _ _ _ _ hw _ _ _ _ _ hv F
/-! ChainJudge$Paths.judge(IJ[BI)I: frames 13, words 228, throws -/
abbrev y_Paths_judge : MethodName := ⟨"ChainJudge$Paths", "judge", "(IJ[BI)I"⟩
theorem lf_Paths_84 : fx_Lk "ChainJudge$Paths" 84 7 16 := fx_Lk.mk (C := "ChainJudge$Certificate") (T := fx_T7) (N := 29) rfl (by decide) (by decide) (fx_m2 (List.mem_of_getElem? (i := 0) rfl))
theorem lf_Paths_88 : fx_Lk "ChainJudge$Paths" 88 7 17 := fx_Lk.mk (C := "ChainJudge$Certificate") (T := fx_T7) (N := 29) rfl (by decide) (by decide) (fx_m2 (List.mem_of_getElem? (i := 3) rfl))
theorem lf_Paths_91 : fx_Lk "ChainJudge$Paths" 91 7 19 := fx_Lk.mk (C := "ChainJudge$Certificate") (T := fx_T7) (N := 29) rfl (by decide) (by decide) (fx_m2 (List.mem_of_getElem? (i := 8) rfl))
theorem lf_Paths_98 : fx_Lk "ChainJudge$Paths" 98 7 21 := fx_Lk.mk (C := "ChainJudge$Certificate") (T := fx_T7) (N := 29) rfl (by decide) (by decide) (fx_m2 (List.mem_of_getElem? (i := 13) rfl))
theorem lm_Paths_77 : Cond.methodLink "ChainJudge$Paths" 77 y_Paths_find ∈ tables_1 ∨ ∃ host, Cond.methodLinkNest "ChainJudge$Paths" 77 y_Paths_find host ∈ tables_1 := Or.inl (fx_m5 (List.mem_of_getElem? (i := 156) rfl))
theorem lm_Paths_80 : Cond.methodLink "ChainJudge$Paths" 80 y_Paths_step ∈ tables_1 ∨ ∃ host, Cond.methodLinkNest "ChainJudge$Paths" 80 y_Paths_step host ∈ tables_1 := Or.inl (fx_m5 (List.mem_of_getElem? (i := 186) rfl))
theorem lm_Paths_94 : Cond.methodLink "ChainJudge$Paths" 94 y_Cert_isAuthority ∈ tables_1 ∨ ∃ host, Cond.methodLinkNest "ChainJudge$Paths" 94 y_Cert_isAuthority host ∈ tables_1 := Or.inl (fx_m5 (List.mem_of_getElem? (i := 190) rfl))
theorem lm_Paths_101 : Cond.methodLink "ChainJudge$Paths" 101 y_Cert_serves ∈ tables_1 ∨ ∃ host, Cond.methodLinkNest "ChainJudge$Paths" 101 y_Cert_serves host ∈ tables_1 := Or.inl (fx_m5 (List.mem_of_getElem? (i := 194) rfl))
theorem lm_Paths_104 : Cond.methodLink "ChainJudge$Paths" 104 y_Cert_fits ∈ tables_1 ∨ ∃ host, Cond.methodLinkNest "ChainJudge$Paths" 104 y_Cert_fits host ∈ tables_1 := Or.inl (fx_m5 (List.mem_of_getElem? (i := 198) rfl))
section
variable {p : Program} {l : Launch} {e : Env} {R : Room} {s : State} {m : MethodId} {args : Array Value} {below : List Frame} {meth : Method} {c : Code} {H : Heap} {locs : List Loc} {cells slots : Nat}
variable {D : DD} {y : MethodName} {cc : ByteArray} {nL kf kw : Nat} {ret : Option FieldType} {hh : List (Nat × Nat × Nat × Nat)} {h0 h : AH} {pc : Nat} {ls : Array Slot} {rest : List Value} {b idx : Nat}
theorem iv_Cert_fits {r1 : Nat} {x2 : Int32} (C : fx_CX D y cc nL kf kw ret hh h0 p R s m meth c) (F : fx_F D h0 h H locs cells slots) (hw1 : Cond.methodLink y.cls idx y_Cert_fits ∈ tables_1 ∨ ∃ host, Cond.methodLinkNest y.cls idx y_Cert_fits host ∈ tables_1) (hk : hp_k h b = 8) (hd : decode cc pc = .ok (.invokevirtual idx, 3)) : fx_IV p l e R s m args below meth c H locs cells slots (F0 m pc ls (.int x2 :: .ref r1 :: .ref b :: rest)) rest y_Cert_fits [.ref b, .ref r1, .int x2] 3 := fun T hT X => fx_invV (As := [.ref r1, .int x2]) (Cn := "ChainJudge$Certificate") C X hw1 (fx_m5 (List.mem_of_getElem? (i := 199) rfl)) (fx_selW C (fx_m5 (List.mem_of_getElem? (i := 200) rfl))) hm_Cert_fits ⟨by decide, by decide⟩ (by rw [hT]; exact fx_clsO (ci := 7) (r := ("ChainJudge$Certificate", fx_T7, 29)) C F rfl (by decide) hk) rfl (n := 2) (by decide +kernel) rfl rfl hd
theorem iv_Cert_isAuthority (C : fx_CX D y cc nL kf kw ret hh h0 p R s m meth c) (F : fx_F D h0 h H locs cells slots) (hw1 : Cond.methodLink y.cls idx y_Cert_isAuthority ∈ tables_1 ∨ ∃ host, Cond.methodLinkNest y.cls idx y_Cert_isAuthority host ∈ tables_1) (hk : hp_k h b = 8) (hd : decode cc pc = .ok (.invokevirtual idx, 3)) : fx_IV p l e R s m args below meth c H locs cells slots (F0 m pc ls (.ref b :: rest)) rest y_Cert_isAuthority [.ref b] 3 := fun T hT X => fx_invV (As := []) (Cn := "ChainJudge$Certificate") C X hw1 (fx_m5 (List.mem_of_getElem? (i := 191) rfl)) (fx_selW C (fx_m5 (List.mem_of_getElem? (i := 192) rfl))) hm_Cert_isAuthority ⟨by decide, by decide⟩ (by rw [hT]; exact fx_clsO (ci := 7) (r := ("ChainJudge$Certificate", fx_T7, 29)) C F rfl (by decide) hk) rfl (n := 0) (by decide +kernel) rfl rfl hd
theorem iv_Cert_serves {x1 : Int32} (C : fx_CX D y cc nL kf kw ret hh h0 p R s m meth c) (F : fx_F D h0 h H locs cells slots) (hw1 : Cond.methodLink y.cls idx y_Cert_serves ∈ tables_1 ∨ ∃ host, Cond.methodLinkNest y.cls idx y_Cert_serves host ∈ tables_1) (hk : hp_k h b = 8) (hd : decode cc pc = .ok (.invokevirtual idx, 3)) : fx_IV p l e R s m args below meth c H locs cells slots (F0 m pc ls (.int x1 :: .ref b :: rest)) rest y_Cert_serves [.ref b, .int x1] 3 := fun T hT X => fx_invV (As := [.int x1]) (Cn := "ChainJudge$Certificate") C X hw1 (fx_m5 (List.mem_of_getElem? (i := 195) rfl)) (fx_selW C (fx_m5 (List.mem_of_getElem? (i := 196) rfl))) hm_Cert_serves ⟨by decide, by decide⟩ (by rw [hT]; exact fx_clsO (ci := 7) (r := ("ChainJudge$Certificate", fx_T7, 29)) C F rfl (by decide) hk) rfl (n := 1) (by decide +kernel) rfl rfl hd
theorem iv_Paths_find (C : fx_CX D y cc nL kf kw ret hh h0 p R s m meth c) (F : fx_F D h0 h H locs cells slots) (hw1 : Cond.methodLink y.cls idx y_Paths_find ∈ tables_1 ∨ ∃ host, Cond.methodLinkNest y.cls idx y_Paths_find host ∈ tables_1) (hk : hp_k h b = 7) (hd : decode cc pc = .ok (.invokevirtual idx, 3)) : fx_IV p l e R s m args below meth c H locs cells slots (F0 m pc ls (.ref b :: rest)) rest y_Paths_find [.ref b] 3 := fun T hT X => fx_invV (As := []) (Cn := "ChainJudge$Paths") C X hw1 (fx_m5 (List.mem_of_getElem? (i := 158) rfl)) (fx_selP C ⟨by decide, by decide⟩ (fx_m1 (List.mem_of_getElem? (i := 160) rfl)) (fx_m5 (List.mem_of_getElem? (i := 157) rfl)) (fx_m5 (List.mem_of_getElem? (i := 158) rfl))) hm_Paths_find ⟨by decide, by decide⟩ (by rw [hT]; exact fx_clsO (ci := 6) (r := ("ChainJudge$Paths", fx_T6, 8)) C F rfl (by decide) hk) rfl (n := 0) (by decide +kernel) rfl rfl hd
theorem iv_Paths_step {x1 : Int32} (C : fx_CX D y cc nL kf kw ret hh h0 p R s m meth c) (F : fx_F D h0 h H locs cells slots) (hw1 : Cond.methodLink y.cls idx y_Paths_step ∈ tables_1 ∨ ∃ host, Cond.methodLinkNest y.cls idx y_Paths_step host ∈ tables_1) (hk : hp_k h b = 7) (hd : decode cc pc = .ok (.invokevirtual idx, 3)) : fx_IV p l e R s m args below meth c H locs cells slots (F0 m pc ls (.int x1 :: .ref b :: rest)) rest y_Paths_step [.ref b, .int x1] 3 := fun T hT X => fx_invV (As := [.int x1]) (Cn := "ChainJudge$Paths") C X hw1 (fx_m5 (List.mem_of_getElem? (i := 188) rfl)) (fx_selP C ⟨by decide, by decide⟩ (fx_m1 (List.mem_of_getElem? (i := 160) rfl)) (fx_m5 (List.mem_of_getElem? (i := 187) rfl)) (fx_m5 (List.mem_of_getElem? (i := 188) rfl))) hm_Paths_step ⟨by decide, by decide⟩ (by rw [hT]; exact fx_clsO (ci := 6) (r := ("ChainJudge$Paths", fx_T6, 8)) C F rfl (by decide) hk) rfl (n := 1) (by decide +kernel) rfl rfl hd
end
def dl_Paths_judge : List (Nat × Instr × Nat) := [(0, .aload_n 0, 1), (1, .getfield 23, 3), (4, .ifCond .eq 6, 3), (7, .bipush 42, 2), (9, .ireturn, 1), (10, .aload_n 0, 1), (11, .invokevirtual 77, 3), (14, .istore 6, 2), (16, .iload 6, 2), (18, .ifCond .eq 6, 3), (21, .iload 6, 2), (23, .ireturn, 1), (24, .iconst 0, 1), (25, .istore 7, 2), (27, .iload 7, 2), (29, .aload_n 0, 1), (30, .getfield 31, 3), (33, .if_icmp .gt 40, 3), (36, .lload_n 2, 1), (37, .aload_n 0, 1), (38, .iload 7, 2), (40, .invokevirtual 80, 3), (43, .getfield 84, 3), (46, .lcmp, 1), (47, .ifCond .lt 17, 3), (50, .lload_n 2, 1), (51, .aload_n 0, 1), (52, .iload 7, 2), (54, .invokevirtual 80, 3), (57, .getfield 88, 3), (60, .lcmp, 1), (61, .ifCond .le 6, 3), (64, .bipush 45, 2), (66, .ireturn, 1), (67, .iinc 7 1, 3), (70, .goto (-43), 3), (73, .iconst 0, 1), (74, .istore 7, 2), (76, .iload 7, 2), (78, .aload_n 0, 1), (79, .getfield 31, 3), (82, .if_icmp .gt 64, 3), (85, .aload_n 0, 1), (86, .iload 7, 2), (88, .invokevirtual 80, 3), (91, .astore 8, 2), (93, .aload 8, 2), (95, .getfield 91, 3), (98, .ifCond .eq 6, 3), (101, .bipush 43, 2), (103, .ireturn, 1), (104, .iload 7, 2), (106, .ifCond .le 34, 3), (109, .aload 8, 2), (111, .invokevirtual 94, 3), (114, .ifCond .eq 23, 3), (117, .aload 8, 2), (119, .getfield 98, 3), (122, .ifCond .lt 18, 3), (125, .iload 7, 2), (127, .iconst 1, 1), (128, .isub, 1), (129, .aload 8, 2), (131, .getfield 98, 3), (134, .if_icmp .le 6, 3), (137, .bipush 43, 2), (139, .ireturn, 1), (140, .iinc 7 1, 3), (143, .goto (-67), 3), (146, .aload_n 0, 1), (147, .getfield 10, 3), (150, .iconst 0, 1), (151, .invokevirtual 54, 3), (154, .checkcast 45, 3), (157, .astore 7, 2), (159, .aload 7, 2), (161, .iload_n 1, 1), (162, .invokevirtual 101, 3), (165, .ifCond .ne 6, 3), (168, .bipush 43, 2), (170, .ireturn, 1), (171, .iload_n 1, 1), (172, .ifCond .ne 25, 3), (175, .iload 5, 2), (177, .ifCond .le 20, 3), (180, .aload 7, 2), (182, .aload 4, 2), (184, .iload 5, 2), (186, .invokevirtual 104, 3), (189, .ifCond .ne 8, 3), (192, .bipush 46, 2), (194, .goto 4, 3), (197, .iconst 0, 1), (198, .ireturn, 1)]
theorem dk_Paths_judge : fx_dec prog_9_method_8_code dl_Paths_judge = true := by decide +kernel
theorem d_Paths_judge_0 : decode prog_9_method_8_code 0 = .ok (.aload_n 0, 1) := fx_dat dk_Paths_judge 0 rfl
theorem d_Paths_judge_1 : decode prog_9_method_8_code 1 = .ok (.getfield 23, 3) := fx_dat dk_Paths_judge 1 rfl
theorem d_Paths_judge_4 : decode prog_9_method_8_code 4 = .ok (.ifCond .eq 6, 3) := fx_dat dk_Paths_judge 2 rfl
theorem d_Paths_judge_7 : decode prog_9_method_8_code 7 = .ok (.bipush 42, 2) := fx_dat dk_Paths_judge 3 rfl
theorem d_Paths_judge_9 : decode prog_9_method_8_code 9 = .ok (.ireturn, 1) := fx_dat dk_Paths_judge 4 rfl
theorem d_Paths_judge_10 : decode prog_9_method_8_code 10 = .ok (.aload_n 0, 1) := fx_dat dk_Paths_judge 5 rfl
theorem d_Paths_judge_11 : decode prog_9_method_8_code 11 = .ok (.invokevirtual 77, 3) := fx_dat dk_Paths_judge 6 rfl
theorem d_Paths_judge_14 : decode prog_9_method_8_code 14 = .ok (.istore 6, 2) := fx_dat dk_Paths_judge 7 rfl
theorem d_Paths_judge_16 : decode prog_9_method_8_code 16 = .ok (.iload 6, 2) := fx_dat dk_Paths_judge 8 rfl
theorem d_Paths_judge_18 : decode prog_9_method_8_code 18 = .ok (.ifCond .eq 6, 3) := fx_dat dk_Paths_judge 9 rfl
theorem d_Paths_judge_21 : decode prog_9_method_8_code 21 = .ok (.iload 6, 2) := fx_dat dk_Paths_judge 10 rfl
theorem d_Paths_judge_23 : decode prog_9_method_8_code 23 = .ok (.ireturn, 1) := fx_dat dk_Paths_judge 11 rfl
theorem d_Paths_judge_24 : decode prog_9_method_8_code 24 = .ok (.iconst 0, 1) := fx_dat dk_Paths_judge 12 rfl
theorem d_Paths_judge_25 : decode prog_9_method_8_code 25 = .ok (.istore 7, 2) := fx_dat dk_Paths_judge 13 rfl
theorem d_Paths_judge_27 : decode prog_9_method_8_code 27 = .ok (.iload 7, 2) := fx_dat dk_Paths_judge 14 rfl
theorem d_Paths_judge_29 : decode prog_9_method_8_code 29 = .ok (.aload_n 0, 1) := fx_dat dk_Paths_judge 15 rfl
theorem d_Paths_judge_30 : decode prog_9_method_8_code 30 = .ok (.getfield 31, 3) := fx_dat dk_Paths_judge 16 rfl
theorem d_Paths_judge_33 : decode prog_9_method_8_code 33 = .ok (.if_icmp .gt 40, 3) := fx_dat dk_Paths_judge 17 rfl
theorem d_Paths_judge_36 : decode prog_9_method_8_code 36 = .ok (.lload_n 2, 1) := fx_dat dk_Paths_judge 18 rfl
theorem d_Paths_judge_37 : decode prog_9_method_8_code 37 = .ok (.aload_n 0, 1) := fx_dat dk_Paths_judge 19 rfl
theorem d_Paths_judge_38 : decode prog_9_method_8_code 38 = .ok (.iload 7, 2) := fx_dat dk_Paths_judge 20 rfl
theorem d_Paths_judge_40 : decode prog_9_method_8_code 40 = .ok (.invokevirtual 80, 3) := fx_dat dk_Paths_judge 21 rfl
theorem d_Paths_judge_43 : decode prog_9_method_8_code 43 = .ok (.getfield 84, 3) := fx_dat dk_Paths_judge 22 rfl
theorem d_Paths_judge_46 : decode prog_9_method_8_code 46 = .ok (.lcmp, 1) := fx_dat dk_Paths_judge 23 rfl
theorem d_Paths_judge_47 : decode prog_9_method_8_code 47 = .ok (.ifCond .lt 17, 3) := fx_dat dk_Paths_judge 24 rfl
theorem d_Paths_judge_50 : decode prog_9_method_8_code 50 = .ok (.lload_n 2, 1) := fx_dat dk_Paths_judge 25 rfl
theorem d_Paths_judge_51 : decode prog_9_method_8_code 51 = .ok (.aload_n 0, 1) := fx_dat dk_Paths_judge 26 rfl
theorem d_Paths_judge_52 : decode prog_9_method_8_code 52 = .ok (.iload 7, 2) := fx_dat dk_Paths_judge 27 rfl
theorem d_Paths_judge_54 : decode prog_9_method_8_code 54 = .ok (.invokevirtual 80, 3) := fx_dat dk_Paths_judge 28 rfl
theorem d_Paths_judge_57 : decode prog_9_method_8_code 57 = .ok (.getfield 88, 3) := fx_dat dk_Paths_judge 29 rfl
theorem d_Paths_judge_60 : decode prog_9_method_8_code 60 = .ok (.lcmp, 1) := fx_dat dk_Paths_judge 30 rfl
theorem d_Paths_judge_61 : decode prog_9_method_8_code 61 = .ok (.ifCond .le 6, 3) := fx_dat dk_Paths_judge 31 rfl
theorem d_Paths_judge_64 : decode prog_9_method_8_code 64 = .ok (.bipush 45, 2) := fx_dat dk_Paths_judge 32 rfl
theorem d_Paths_judge_66 : decode prog_9_method_8_code 66 = .ok (.ireturn, 1) := fx_dat dk_Paths_judge 33 rfl
theorem d_Paths_judge_67 : decode prog_9_method_8_code 67 = .ok (.iinc 7 1, 3) := fx_dat dk_Paths_judge 34 rfl
theorem d_Paths_judge_70 : decode prog_9_method_8_code 70 = .ok (.goto (-43), 3) := fx_dat dk_Paths_judge 35 rfl
theorem d_Paths_judge_73 : decode prog_9_method_8_code 73 = .ok (.iconst 0, 1) := fx_dat dk_Paths_judge 36 rfl
theorem d_Paths_judge_74 : decode prog_9_method_8_code 74 = .ok (.istore 7, 2) := fx_dat dk_Paths_judge 37 rfl
theorem d_Paths_judge_76 : decode prog_9_method_8_code 76 = .ok (.iload 7, 2) := fx_dat dk_Paths_judge 38 rfl
theorem d_Paths_judge_78 : decode prog_9_method_8_code 78 = .ok (.aload_n 0, 1) := fx_dat dk_Paths_judge 39 rfl
theorem d_Paths_judge_79 : decode prog_9_method_8_code 79 = .ok (.getfield 31, 3) := fx_dat dk_Paths_judge 40 rfl
theorem d_Paths_judge_82 : decode prog_9_method_8_code 82 = .ok (.if_icmp .gt 64, 3) := fx_dat dk_Paths_judge 41 rfl
theorem d_Paths_judge_85 : decode prog_9_method_8_code 85 = .ok (.aload_n 0, 1) := fx_dat dk_Paths_judge 42 rfl
theorem d_Paths_judge_86 : decode prog_9_method_8_code 86 = .ok (.iload 7, 2) := fx_dat dk_Paths_judge 43 rfl
theorem d_Paths_judge_88 : decode prog_9_method_8_code 88 = .ok (.invokevirtual 80, 3) := fx_dat dk_Paths_judge 44 rfl
theorem d_Paths_judge_91 : decode prog_9_method_8_code 91 = .ok (.astore 8, 2) := fx_dat dk_Paths_judge 45 rfl
theorem d_Paths_judge_93 : decode prog_9_method_8_code 93 = .ok (.aload 8, 2) := fx_dat dk_Paths_judge 46 rfl
theorem d_Paths_judge_95 : decode prog_9_method_8_code 95 = .ok (.getfield 91, 3) := fx_dat dk_Paths_judge 47 rfl
theorem d_Paths_judge_98 : decode prog_9_method_8_code 98 = .ok (.ifCond .eq 6, 3) := fx_dat dk_Paths_judge 48 rfl
theorem d_Paths_judge_101 : decode prog_9_method_8_code 101 = .ok (.bipush 43, 2) := fx_dat dk_Paths_judge 49 rfl
theorem d_Paths_judge_103 : decode prog_9_method_8_code 103 = .ok (.ireturn, 1) := fx_dat dk_Paths_judge 50 rfl
theorem d_Paths_judge_104 : decode prog_9_method_8_code 104 = .ok (.iload 7, 2) := fx_dat dk_Paths_judge 51 rfl
theorem d_Paths_judge_106 : decode prog_9_method_8_code 106 = .ok (.ifCond .le 34, 3) := fx_dat dk_Paths_judge 52 rfl
theorem d_Paths_judge_109 : decode prog_9_method_8_code 109 = .ok (.aload 8, 2) := fx_dat dk_Paths_judge 53 rfl
theorem d_Paths_judge_111 : decode prog_9_method_8_code 111 = .ok (.invokevirtual 94, 3) := fx_dat dk_Paths_judge 54 rfl
theorem d_Paths_judge_114 : decode prog_9_method_8_code 114 = .ok (.ifCond .eq 23, 3) := fx_dat dk_Paths_judge 55 rfl
theorem d_Paths_judge_117 : decode prog_9_method_8_code 117 = .ok (.aload 8, 2) := fx_dat dk_Paths_judge 56 rfl
theorem d_Paths_judge_119 : decode prog_9_method_8_code 119 = .ok (.getfield 98, 3) := fx_dat dk_Paths_judge 57 rfl
theorem d_Paths_judge_122 : decode prog_9_method_8_code 122 = .ok (.ifCond .lt 18, 3) := fx_dat dk_Paths_judge 58 rfl
theorem d_Paths_judge_125 : decode prog_9_method_8_code 125 = .ok (.iload 7, 2) := fx_dat dk_Paths_judge 59 rfl
theorem d_Paths_judge_127 : decode prog_9_method_8_code 127 = .ok (.iconst 1, 1) := fx_dat dk_Paths_judge 60 rfl
theorem d_Paths_judge_128 : decode prog_9_method_8_code 128 = .ok (.isub, 1) := fx_dat dk_Paths_judge 61 rfl
theorem d_Paths_judge_129 : decode prog_9_method_8_code 129 = .ok (.aload 8, 2) := fx_dat dk_Paths_judge 62 rfl
theorem d_Paths_judge_131 : decode prog_9_method_8_code 131 = .ok (.getfield 98, 3) := fx_dat dk_Paths_judge 63 rfl
theorem d_Paths_judge_134 : decode prog_9_method_8_code 134 = .ok (.if_icmp .le 6, 3) := fx_dat dk_Paths_judge 64 rfl
theorem d_Paths_judge_137 : decode prog_9_method_8_code 137 = .ok (.bipush 43, 2) := fx_dat dk_Paths_judge 65 rfl
theorem d_Paths_judge_139 : decode prog_9_method_8_code 139 = .ok (.ireturn, 1) := fx_dat dk_Paths_judge 66 rfl
theorem d_Paths_judge_140 : decode prog_9_method_8_code 140 = .ok (.iinc 7 1, 3) := fx_dat dk_Paths_judge 67 rfl
theorem d_Paths_judge_143 : decode prog_9_method_8_code 143 = .ok (.goto (-67), 3) := fx_dat dk_Paths_judge 68 rfl
theorem d_Paths_judge_146 : decode prog_9_method_8_code 146 = .ok (.aload_n 0, 1) := fx_dat dk_Paths_judge 69 rfl
theorem d_Paths_judge_147 : decode prog_9_method_8_code 147 = .ok (.getfield 10, 3) := fx_dat dk_Paths_judge 70 rfl
theorem d_Paths_judge_150 : decode prog_9_method_8_code 150 = .ok (.iconst 0, 1) := fx_dat dk_Paths_judge 71 rfl
theorem d_Paths_judge_151 : decode prog_9_method_8_code 151 = .ok (.invokevirtual 54, 3) := fx_dat dk_Paths_judge 72 rfl
theorem d_Paths_judge_154 : decode prog_9_method_8_code 154 = .ok (.checkcast 45, 3) := fx_dat dk_Paths_judge 73 rfl
theorem d_Paths_judge_157 : decode prog_9_method_8_code 157 = .ok (.astore 7, 2) := fx_dat dk_Paths_judge 74 rfl
theorem d_Paths_judge_159 : decode prog_9_method_8_code 159 = .ok (.aload 7, 2) := fx_dat dk_Paths_judge 75 rfl
theorem d_Paths_judge_161 : decode prog_9_method_8_code 161 = .ok (.iload_n 1, 1) := fx_dat dk_Paths_judge 76 rfl
theorem d_Paths_judge_162 : decode prog_9_method_8_code 162 = .ok (.invokevirtual 101, 3) := fx_dat dk_Paths_judge 77 rfl
theorem d_Paths_judge_165 : decode prog_9_method_8_code 165 = .ok (.ifCond .ne 6, 3) := fx_dat dk_Paths_judge 78 rfl
theorem d_Paths_judge_168 : decode prog_9_method_8_code 168 = .ok (.bipush 43, 2) := fx_dat dk_Paths_judge 79 rfl
theorem d_Paths_judge_170 : decode prog_9_method_8_code 170 = .ok (.ireturn, 1) := fx_dat dk_Paths_judge 80 rfl
theorem d_Paths_judge_171 : decode prog_9_method_8_code 171 = .ok (.iload_n 1, 1) := fx_dat dk_Paths_judge 81 rfl
theorem d_Paths_judge_172 : decode prog_9_method_8_code 172 = .ok (.ifCond .ne 25, 3) := fx_dat dk_Paths_judge 82 rfl
theorem d_Paths_judge_175 : decode prog_9_method_8_code 175 = .ok (.iload 5, 2) := fx_dat dk_Paths_judge 83 rfl
theorem d_Paths_judge_177 : decode prog_9_method_8_code 177 = .ok (.ifCond .le 20, 3) := fx_dat dk_Paths_judge 84 rfl
theorem d_Paths_judge_180 : decode prog_9_method_8_code 180 = .ok (.aload 7, 2) := fx_dat dk_Paths_judge 85 rfl
theorem d_Paths_judge_182 : decode prog_9_method_8_code 182 = .ok (.aload 4, 2) := fx_dat dk_Paths_judge 86 rfl
theorem d_Paths_judge_184 : decode prog_9_method_8_code 184 = .ok (.iload 5, 2) := fx_dat dk_Paths_judge 87 rfl
theorem d_Paths_judge_186 : decode prog_9_method_8_code 186 = .ok (.invokevirtual 104, 3) := fx_dat dk_Paths_judge 88 rfl
theorem d_Paths_judge_189 : decode prog_9_method_8_code 189 = .ok (.ifCond .ne 8, 3) := fx_dat dk_Paths_judge 89 rfl
theorem d_Paths_judge_192 : decode prog_9_method_8_code 192 = .ok (.bipush 46, 2) := fx_dat dk_Paths_judge 90 rfl
theorem d_Paths_judge_194 : decode prog_9_method_8_code 194 = .ok (.goto 4, 3) := fx_dat dk_Paths_judge 91 rfl
theorem d_Paths_judge_197 : decode prog_9_method_8_code 197 = .ok (.iconst 0, 1) := fx_dat dk_Paths_judge 92 rfl
theorem d_Paths_judge_198 : decode prog_9_method_8_code 198 = .ok (.ireturn, 1) := fx_dat dk_Paths_judge 93 rfl
def m_Paths_judge_198 (Q : Int32 → AH → Prop) (E : Nat → AH → Prop) (sx0 : Int32) (h : AH) : Prop := Q sx0 h
def m_Paths_judge_197 (Q : Int32 → AH → Prop) (E : Nat → AH → Prop) (h : AH) : Prop := m_Paths_judge_198 Q E (0 : Int32) h
def m_Paths_judge_140 (Q : Int32 → AH → Prop) (E : Nat → AH → Prop) (X76 : Int32 × AH → Prop) (r0 : Nat) (x1 : Int32) (r4 : Nat) (x5 : Int32) (x7 : Int32) (h : AH) : Prop := ∀ v1 : Int32, v1 = (x7 + (1 : Int32)) → X76 (v1, h)
def m_Paths_judge_137 (Q : Int32 → AH → Prop) (E : Nat → AH → Prop) (h : AH) : Prop := Q (43 : Int32) h
def m_Paths_judge_76_b (Q : Int32 → AH → Prop) (E : Nat → AH → Prop) (X76 : Int32 × AH → Prop) (r0 : Nat) (x1 : Int32) (r4 : Nat) (x5 : Int32) (x7 : Int32) (h : AH) : Prop := hp_k h r0 = 7 ∧ ((hp_I h r0 6) < x7 → ∃ b1, hp_R h r0 1 = some b1 ∧ hp_k h b1 = 12 ∧ m_AL_get (fun q1 h1 => fx_ext h h1 → hp_k h1 q1 = 8 ∧ m_Cert_serves (fun v1 h2 => fx_ext h1 h2 → zb v1 → (¬ v1 = 0 → (¬ x1 = 0 → m_Paths_judge_197 Q E h2) ∧ (x1 = 0 → (x5 ≤ 0 → m_Paths_judge_197 Q E h2) ∧ (¬ x5 ≤ 0 → m_Cert_fits (fun v2 h3 => fx_ext h2 h3 → zb v2 → (¬ v2 = 0 → m_Paths_judge_197 Q E h3) ∧ (v2 = 0 → m_Paths_judge_198 Q E (46 : Int32) h3)) (fun a ht => fx_ext h2 ht → E a ht) q1 r4 x5 h2))) ∧ (v1 = 0 → Q (43 : Int32) h2)) q1 x1 h1) b1 (0 : Int32) h) ∧ (¬ (hp_I h r0 6) < x7 → m_Paths_step (fun q2 h4 => fx_ext h h4 → hp_k h4 q2 = 8 ∧ ((hp_I h4 q2 19) = 0 → (x7 ≤ 0 → m_Paths_judge_140 Q E X76 r0 x1 r4 x5 x7 h4) ∧ (¬ x7 ≤ 0 → m_Cert_isAuthority (fun v3 h5 => fx_ext h4 h5 → zb v3 → (v3 = 0 → m_Paths_judge_137 Q E h5) ∧ (¬ v3 = 0 → ((hp_I h5 q2 21) < 0 → m_Paths_judge_140 Q E X76 r0 x1 r4 x5 x7 h5) ∧ (¬ (hp_I h5 q2 21) < 0 → ((x7 - (1 : Int32)) ≤ (hp_I h5 q2 21) → m_Paths_judge_140 Q E X76 r0 x1 r4 x5 x7 h5) ∧ (¬ (x7 - (1 : Int32)) ≤ (hp_I h5 q2 21) → m_Paths_judge_137 Q E h5)))) q2 h4)) ∧ (¬ (hp_I h4 q2 19) = 0 → Q (43 : Int32) h4)) r0 x7 h)
def m_Paths_judge_76 (Q : Int32 → AH → Prop) (E : Nat → AH → Prop) (r0 : Nat) (x1 : Int32) (r4 : Nat) (x5 : Int32) (x7 : Int32) (h : AH) : Prop := fx_loop (fun (X76 : Int32 × AH → Prop) (st : Int32 × AH) => m_Paths_judge_76_b Q E X76 r0 x1 r4 x5 st.1 st.2) (x7, h)
def m_Paths_judge_64 (Q : Int32 → AH → Prop) (E : Nat → AH → Prop) (h : AH) : Prop := Q (45 : Int32) h
def m_Paths_judge_27_b (Q : Int32 → AH → Prop) (E : Nat → AH → Prop) (X27 : Int32 × AH → Prop) (r0 : Nat) (x1 : Int32) (w2 : Int64) (r4 : Nat) (x5 : Int32) (x7 : Int32) (h : AH) : Prop := hp_k h r0 = 7 ∧ ((hp_I h r0 6) < x7 → m_Paths_judge_76 Q E r0 x1 r4 x5 (0 : Int32) h) ∧ (¬ (hp_I h r0 6) < x7 → m_Paths_step (fun q1 h1 => fx_ext h h1 → hp_k h1 q1 = 8 ∧ ((lg_cmp w2 (hp_L h1 q1 16)) < 0 → m_Paths_judge_64 Q E h1) ∧ (¬ (lg_cmp w2 (hp_L h1 q1 16)) < 0 → m_Paths_step (fun q2 h2 => fx_ext h1 h2 → hp_k h2 q2 = 8 ∧ ((lg_cmp w2 (hp_L h2 q2 17)) ≤ 0 → ∀ v1 : Int32, v1 = (x7 + (1 : Int32)) → X27 (v1, h2)) ∧ (¬ (lg_cmp w2 (hp_L h2 q2 17)) ≤ 0 → m_Paths_judge_64 Q E h2)) r0 x7 h1)) r0 x7 h)
def m_Paths_judge_27 (Q : Int32 → AH → Prop) (E : Nat → AH → Prop) (r0 : Nat) (x1 : Int32) (w2 : Int64) (r4 : Nat) (x5 : Int32) (x7 : Int32) (h : AH) : Prop := fx_loop (fun (X27 : Int32 × AH → Prop) (st : Int32 × AH) => m_Paths_judge_27_b Q E X27 r0 x1 w2 r4 x5 st.1 st.2) (x7, h)
def m_Paths_judge (Q : Int32 → AH → Prop) (E : Nat → AH → Prop) (r0 : Nat) (x1 : Int32) (w2 : Int64) (r4 : Nat) (x5 : Int32) (h : AH) : Prop := hp_k h r0 = 7 ∧ ((hp_I h r0 4) = 0 → m_Paths_find (fun v1 h1 => fx_ext h h1 → (v1 = 0 → m_Paths_judge_27 Q E r0 x1 w2 r4 x5 (0 : Int32) h1) ∧ (¬ v1 = 0 → Q v1 h1)) r0 h) ∧ (¬ (hp_I h r0 4) = 0 → Q (42 : Int32) h)
theorem b_Paths_judge_198 {p : Program} {l : Launch} {e : Env} {R : Room} {s : State} {m : MethodId} {args : Array Value} {below : List Frame} {meth : Method} {c : Code} {D : DD} {h0 : AH} {Q : Int32 → AH → Prop} {E : Nat → AH → Prop} (C : fx_CX D y_Paths_judge prog_9_method_8_code 9 13 228 (Option.some FieldType.int) [] h0 p R s m meth c) (hl : l.flags = flags0) (sx0 : Int32) (h : AH) (hw : m_Paths_judge_198 Q E sx0 h) : ∀ (ls : Array Slot) (H : Heap) (locs : List Loc) (cells slots : Nat), lv_has ls 9 [] → fx_F D h0 h H locs cells slots → W p l e R s m args below meth c H locs cells slots (fx_Z D below s h0 (fx_oI Q E)) (F0 m 198 ls [.int sx0]) := by
  unfold m_Paths_judge_198 at hw
  intro ls H locs cells slots hv F
  exact fx_iret C F d_Paths_judge_198 (Or.inl ⟨_, rfl, hw⟩)
theorem b_Paths_judge_197 {p : Program} {l : Launch} {e : Env} {R : Room} {s : State} {m : MethodId} {args : Array Value} {below : List Frame} {meth : Method} {c : Code} {D : DD} {h0 : AH} {Q : Int32 → AH → Prop} {E : Nat → AH → Prop} (C : fx_CX D y_Paths_judge prog_9_method_8_code 9 13 228 (Option.some FieldType.int) [] h0 p R s m meth c) (hl : l.flags = flags0) (h : AH) (hw : m_Paths_judge_197 Q E h) : ∀ (ls : Array Slot) (H : Heap) (locs : List Loc) (cells slots : Nat), lv_has ls 9 [] → fx_F D h0 h H locs cells slots → W p l e R s m args below meth c H locs cells slots (fx_Z D below s h0 (fx_oI Q E)) (F0 m 197 ls []) := by
  unfold m_Paths_judge_197 at hw
  intro ls H locs cells slots hv F
  refine lv_iconst (v := (0 : Int32)) C.ex C.by d_Paths_judge_197 (by decide) ?_
  exact b_Paths_judge_198 C hl _ _ hw _ _ _ _ _ hv F
theorem b_Paths_judge_140 {p : Program} {l : Launch} {e : Env} {R : Room} {s : State} {m : MethodId} {args : Array Value} {below : List Frame} {meth : Method} {c : Code} {D : DD} {h0 : AH} {Q : Int32 → AH → Prop} {E : Nat → AH → Prop} {X76 : Int32 × AH → Prop} (C : fx_CX D y_Paths_judge prog_9_method_8_code 9 13 228 (Option.some FieldType.int) [] h0 p R s m meth c) (hl : l.flags = flags0) (r0 : Nat) (x1 : Int32) (r4 : Nat) (x5 : Int32) (x7 : Int32) (h : AH) (hX76 : ∀ st, X76 st → ∀ (ls : Array Slot) (H : Heap) (locs : List Loc) (cells slots : Nat), lv_has ls 9 [(0, .ref r0), (1, .int x1), (4, .ref r4), (5, .int x5), (7, .int st.1)] → fx_F D h0 st.2 H locs cells slots → W p l e R s m args below meth c H locs cells slots (fx_Z D below s h0 (fx_oI Q E)) (F0 m 76 ls [])) (hw : m_Paths_judge_140 Q E X76 r0 x1 r4 x5 x7 h) : ∀ (ls : Array Slot) (H : Heap) (locs : List Loc) (cells slots : Nat), lv_has ls 9 [(0, .ref r0), (1, .int x1), (4, .ref r4), (5, .int x5), (7, .int x7)] → fx_F D h0 h H locs cells slots → W p l e R s m args below meth c H locs cells slots (fx_Z D below s h0 (fx_oI Q E)) (F0 m 140 ls []) := by
  unfold m_Paths_judge_140 at hw
  intro ls H locs cells slots hv F
  let v1 : Int32 := (x7 + (1 : Int32))
  replace hw := hw v1 rfl
  refine lv_iinc (v := v1) (k := 4) (lv' := [(7, .int v1), (0, .ref r0), (1, .int x1), (4, .ref r4), (5, .int x5)]) C.ex C.by d_Paths_judge_140 hv rfl (congrArg (fun z => x7 + z) (by decide)) (by decide) rfl (fun ls hv => ?_)
  refine lv_goto C.ex C.by d_Paths_judge_143 rfl ?_
  exact hX76 _ hw _ _ _ _ _ (lv_sub hv [1, 2, 3, 4, 0] rfl) F
theorem b_Paths_judge_137 {p : Program} {l : Launch} {e : Env} {R : Room} {s : State} {m : MethodId} {args : Array Value} {below : List Frame} {meth : Method} {c : Code} {D : DD} {h0 : AH} {Q : Int32 → AH → Prop} {E : Nat → AH → Prop} (C : fx_CX D y_Paths_judge prog_9_method_8_code 9 13 228 (Option.some FieldType.int) [] h0 p R s m meth c) (hl : l.flags = flags0) (h : AH) (hw : m_Paths_judge_137 Q E h) : ∀ (ls : Array Slot) (H : Heap) (locs : List Loc) (cells slots : Nat), lv_has ls 9 [] → fx_F D h0 h H locs cells slots → W p l e R s m args below meth c H locs cells slots (fx_Z D below s h0 (fx_oI Q E)) (F0 m 137 ls []) := by
  unfold m_Paths_judge_137 at hw
  intro ls H locs cells slots hv F
  refine lv_bipush (v := (43 : Int32)) C.ex C.by d_Paths_judge_137 (by decide) ?_
  exact fx_iret C F d_Paths_judge_139 (Or.inl ⟨_, rfl, hw⟩)
theorem b_Paths_judge_76 {p : Program} {l : Launch} {e : Env} {R : Room} {s : State} {m : MethodId} {args : Array Value} {below : List Frame} {meth : Method} {c : Code} {D : DD} {h0 : AH} {Q : Int32 → AH → Prop} {E : Nat → AH → Prop} (C : fx_CX D y_Paths_judge prog_9_method_8_code 9 13 228 (Option.some FieldType.int) [] h0 p R s m meth c) (hl : l.flags = flags0) (r0 : Nat) (x1 : Int32) (r4 : Nat) (x5 : Int32) (x7 : Int32) (h : AH) (hw : m_Paths_judge_76 Q E r0 x1 r4 x5 x7 h) : ∀ (ls : Array Slot) (H : Heap) (locs : List Loc) (cells slots : Nat), lv_has ls 9 [(0, .ref r0), (1, .int x1), (4, .ref r4), (5, .int x5), (7, .int x7)] → fx_F D h0 h H locs cells slots → W p l e R s m args below meth c H locs cells slots (fx_Z D below s h0 (fx_oI Q E)) (F0 m 76 ls []) := by
  refine fx_loop.use hw (fun st => ∀ (ls : Array Slot) (H : Heap) (locs : List Loc) (cells slots : Nat), lv_has ls 9 [(0, .ref r0), (1, .int x1), (4, .ref r4), (5, .int x5), (7, .int st.1)] → fx_F D h0 st.2 H locs cells slots → W p l e R s m args below meth c H locs cells slots (fx_Z D below s h0 (fx_oI Q E)) (F0 m 76 ls [])) (fun X76 st hX76 hw => ?_)
  obtain ⟨x7, h⟩ := st
  replace hw : m_Paths_judge_76_b Q E X76 r0 x1 r4 x5 x7 h := hw
  unfold m_Paths_judge_76_b at hw
  intro ls H locs cells slots hv F
  refine lv_iload C.ex C.by d_Paths_judge_76 (lv_at hv 4 rfl) ?_
  refine lv_aload_n C.ex C.by d_Paths_judge_78 rfl (lv_at hv 0 rfl) ?_
  obtain ⟨hk1, hw⟩ := hw
  refine fx_getI C F lf_Paths_31 hk1 rfl d_Paths_judge_79 ?_
  refine lv_icmp_gt C.ex C.by d_Paths_judge_82 rfl (fun hc => ?_) (fun hc => ?_)
  · replace hw := hw.1 hc
    refine lv_aload_n C.ex C.by d_Paths_judge_146 rfl (lv_at hv 0 rfl) ?_
    obtain ⟨b1, hb1, hw⟩ := hw
    refine fx_getR C F lf_Paths_10 hk1 rfl hb1 d_Paths_judge_147 ?_
    refine lv_iconst (v := (0 : Int32)) C.ex C.by d_Paths_judge_150 (by decide) ?_
    obtain ⟨hk2, hw⟩ := hw
    refine fx_callR C F (c_AL_get hl hw) hm_AL_get hi_AL_get hv.1 (by decide) (Nat.le_of_ble_eq_true rfl) (iv_AL_get C F lm_Paths_54 hk2 d_Paths_judge_151) (fx_out0 _) fx_eno (fun q1 h1 H locs cells slots hw hx1 F => ?_)
    replace hw := hw hx1
    have hk2 := (hx1).k hk2
    have hk1 := (hx1).k hk1
    obtain ⟨hk3, hw⟩ := hw
    refine fx_cast (ci := 7) (r := ("ChainJudge$Certificate", fx_T7, 29)) (nm := "ChainJudge$Certificate") C F rfl (by decide) hk3 (fx_m5 (List.mem_of_getElem? (i := 146) rfl)) (fx_m8 (List.mem_of_getElem? (i := 8) rfl)) d_Paths_judge_154 ?_
    refine lv_astore (lv' := [(7, .ref q1), (0, .ref r0), (1, .int x1), (4, .ref r4), (5, .int x5)]) C.ex C.by d_Paths_judge_157 hv (by decide) rfl (fun ls hv => ?_)
    refine lv_aload C.ex C.by d_Paths_judge_159 (lv_at hv 0 rfl) ?_
    refine lv_iload_n C.ex C.by d_Paths_judge_161 rfl (lv_at hv 2 rfl) ?_
    refine fx_callZ C F (c_Cert_serves hl hw) hm_Cert_serves hi_Cert_serves hv.1 (by decide) (Nat.le_of_ble_eq_true rfl) (iv_Cert_serves C F lm_Paths_101 hk3 d_Paths_judge_162) (fx_out0 _) fx_eno (fun v1 h2 H locs cells slots hw hx2 hzb F => ?_)
    replace hw := hw hx2 hzb
    have hk2 := (hx2).k hk2
    have hk3 := (hx2).k hk3
    have hk1 := (hx2).k hk1
    refine lv_if_ne C.ex C.by d_Paths_judge_165 rfl (fun hc => ?_) (fun hc => ?_)
    · replace hw := hw.1 hc
      refine lv_iload_n C.ex C.by d_Paths_judge_171 rfl (lv_at hv 2 rfl) ?_
      refine lv_if_ne C.ex C.by d_Paths_judge_172 rfl (fun hc => ?_) (fun hc => ?_)
      · replace hw := hw.1 hc
        exact b_Paths_judge_197 C hl _ hw _ _ _ _ _ (lv_sub hv [] rfl) F
      · replace hw := hw.2 hc
        refine lv_iload C.ex C.by d_Paths_judge_175 (lv_at hv 4 rfl) ?_
        refine lv_if_le C.ex C.by d_Paths_judge_177 rfl (fun hc => ?_) (fun hc => ?_)
        · replace hw := hw.1 hc
          exact b_Paths_judge_197 C hl _ hw _ _ _ _ _ (lv_sub hv [] rfl) F
        · replace hw := hw.2 hc
          refine lv_aload C.ex C.by d_Paths_judge_180 (lv_at hv 0 rfl) ?_
          refine lv_aload C.ex C.by d_Paths_judge_182 (lv_at hv 3 rfl) ?_
          refine lv_iload C.ex C.by d_Paths_judge_184 (lv_at hv 4 rfl) ?_
          refine fx_callZ C F (c_Cert_fits hl hw) hm_Cert_fits hi_Cert_fits hv.1 (by decide) (Nat.le_of_ble_eq_true rfl) (iv_Cert_fits C F lm_Paths_104 hk3 d_Paths_judge_186) (fx_out0 _) (fun _ _ hE hx => Or.inr ⟨_, rfl, hE hx⟩) (fun v2 h3 H locs cells slots hw hx3 hzb F => ?_)
          replace hw := hw hx3 hzb
          have hk2 := (hx3).k hk2
          have hk3 := (hx3).k hk3
          have hk1 := (hx3).k hk1
          refine lv_if_ne C.ex C.by d_Paths_judge_189 rfl (fun hc => ?_) (fun hc => ?_)
          · replace hw := hw.1 hc
            exact b_Paths_judge_197 C hl _ hw _ _ _ _ _ (lv_sub hv [] rfl) F
          · replace hw := hw.2 hc
            refine lv_bipush (v := (46 : Int32)) C.ex C.by d_Paths_judge_192 (by decide) ?_
            refine lv_goto C.ex C.by d_Paths_judge_194 rfl ?_
            exact b_Paths_judge_198 C hl _ _ hw _ _ _ _ _ (lv_sub hv [] rfl) F
    · replace hw := hw.2 hc
      refine lv_bipush (v := (43 : Int32)) C.ex C.by d_Paths_judge_168 (by decide) ?_
      exact fx_iret C F d_Paths_judge_170 (Or.inl ⟨_, rfl, hw⟩)
  · replace hw := hw.2 hc
    refine lv_aload_n C.ex C.by d_Paths_judge_85 rfl (lv_at hv 0 rfl) ?_
    refine lv_iload C.ex C.by d_Paths_judge_86 (lv_at hv 4 rfl) ?_
    refine fx_callR C F (c_Paths_step hl hw) hm_Paths_step hi_Paths_step hv.1 (by decide) (Nat.le_of_ble_eq_true rfl) (iv_Paths_step C F lm_Paths_80 hk1 d_Paths_judge_88) (fx_out0 _) fx_eno (fun q2 h4 H locs cells slots hw hx4 F => ?_)
    replace hw := hw hx4
    have hk1 := (hx4).k hk1
    refine lv_astore (lv' := [(8, .ref q2), (0, .ref r0), (1, .int x1), (4, .ref r4), (5, .int x5), (7, .int x7)]) C.ex C.by d_Paths_judge_91 hv (by decide) rfl (fun ls hv => ?_)
    refine lv_aload C.ex C.by d_Paths_judge_93 (lv_at hv 0 rfl) ?_
    obtain ⟨hk4, hw⟩ := hw
    refine fx_getI C F lf_Paths_91 hk4 rfl d_Paths_judge_95 ?_
    refine lv_if_eq C.ex C.by d_Paths_judge_98 rfl (fun hc => ?_) (fun hc => ?_)
    · replace hw := hw.1 hc
      refine lv_iload C.ex C.by d_Paths_judge_104 (lv_at hv 5 rfl) ?_
      refine lv_if_le C.ex C.by d_Paths_judge_106 rfl (fun hc => ?_) (fun hc => ?_)
      · replace hw := hw.1 hc
        exact b_Paths_judge_140 C hl _ _ _ _ _ _ hX76 hw _ _ _ _ _ (lv_sub hv [1, 2, 3, 4, 5] rfl) F
      · replace hw := hw.2 hc
        refine lv_aload C.ex C.by d_Paths_judge_109 (lv_at hv 0 rfl) ?_
        refine fx_callZ C F (c_Cert_isAuthority hl hw) hm_Cert_isAuthority hi_Cert_isAuthority hv.1 (by decide) (Nat.le_of_ble_eq_true rfl) (iv_Cert_isAuthority C F lm_Paths_94 hk4 d_Paths_judge_111) (fx_out0 _) fx_eno (fun v3 h5 H locs cells slots hw hx5 hzb F => ?_)
        replace hw := hw hx5 hzb
        have hk4 := (hx5).k hk4
        have hk1 := (hx5).k hk1
        refine lv_if_eq C.ex C.by d_Paths_judge_114 rfl (fun hc => ?_) (fun hc => ?_)
        · replace hw := hw.1 hc
          exact b_Paths_judge_137 C hl _ hw _ _ _ _ _ (lv_sub hv [] rfl) F
        · replace hw := hw.2 hc
          refine lv_aload C.ex C.by d_Paths_judge_117 (lv_at hv 0 rfl) ?_
          refine fx_getI C F lf_Paths_98 hk4 rfl d_Paths_judge_119 ?_
          refine lv_if_lt C.ex C.by d_Paths_judge_122 rfl (fun hc => ?_) (fun hc => ?_)
          · replace hw := hw.1 hc
            exact b_Paths_judge_140 C hl _ _ _ _ _ _ hX76 hw _ _ _ _ _ (lv_sub hv [1, 2, 3, 4, 5] rfl) F
          · replace hw := hw.2 hc
            refine lv_iload C.ex C.by d_Paths_judge_125 (lv_at hv 5 rfl) ?_
            refine lv_iconst (v := (1 : Int32)) C.ex C.by d_Paths_judge_127 (by decide) ?_
            refine lv_isub C.ex C.by d_Paths_judge_128 ?_
            refine lv_aload C.ex C.by d_Paths_judge_129 (lv_at hv 0 rfl) ?_
            refine fx_getI C F lf_Paths_98 hk4 rfl d_Paths_judge_131 ?_
            refine lv_icmp_le C.ex C.by d_Paths_judge_134 rfl (fun hc => ?_) (fun hc => ?_)
            · replace hw := hw.1 hc
              exact b_Paths_judge_140 C hl _ _ _ _ _ _ hX76 hw _ _ _ _ _ (lv_sub hv [1, 2, 3, 4, 5] rfl) F
            · replace hw := hw.2 hc
              exact b_Paths_judge_137 C hl _ hw _ _ _ _ _ (lv_sub hv [] rfl) F
    · replace hw := hw.2 hc
      refine lv_bipush (v := (43 : Int32)) C.ex C.by d_Paths_judge_101 (by decide) ?_
      exact fx_iret C F d_Paths_judge_103 (Or.inl ⟨_, rfl, hw⟩)
theorem b_Paths_judge_64 {p : Program} {l : Launch} {e : Env} {R : Room} {s : State} {m : MethodId} {args : Array Value} {below : List Frame} {meth : Method} {c : Code} {D : DD} {h0 : AH} {Q : Int32 → AH → Prop} {E : Nat → AH → Prop} (C : fx_CX D y_Paths_judge prog_9_method_8_code 9 13 228 (Option.some FieldType.int) [] h0 p R s m meth c) (hl : l.flags = flags0) (h : AH) (hw : m_Paths_judge_64 Q E h) : ∀ (ls : Array Slot) (H : Heap) (locs : List Loc) (cells slots : Nat), lv_has ls 9 [] → fx_F D h0 h H locs cells slots → W p l e R s m args below meth c H locs cells slots (fx_Z D below s h0 (fx_oI Q E)) (F0 m 64 ls []) := by
  unfold m_Paths_judge_64 at hw
  intro ls H locs cells slots hv F
  refine lv_bipush (v := (45 : Int32)) C.ex C.by d_Paths_judge_64 (by decide) ?_
  exact fx_iret C F d_Paths_judge_66 (Or.inl ⟨_, rfl, hw⟩)
theorem b_Paths_judge_27 {p : Program} {l : Launch} {e : Env} {R : Room} {s : State} {m : MethodId} {args : Array Value} {below : List Frame} {meth : Method} {c : Code} {D : DD} {h0 : AH} {Q : Int32 → AH → Prop} {E : Nat → AH → Prop} (C : fx_CX D y_Paths_judge prog_9_method_8_code 9 13 228 (Option.some FieldType.int) [] h0 p R s m meth c) (hl : l.flags = flags0) (r0 : Nat) (x1 : Int32) (w2 : Int64) (r4 : Nat) (x5 : Int32) (x7 : Int32) (h : AH) (hw : m_Paths_judge_27 Q E r0 x1 w2 r4 x5 x7 h) : ∀ (ls : Array Slot) (H : Heap) (locs : List Loc) (cells slots : Nat), lv_has ls 9 [(0, .ref r0), (1, .int x1), (2, .long w2), (4, .ref r4), (5, .int x5), (7, .int x7)] → fx_F D h0 h H locs cells slots → W p l e R s m args below meth c H locs cells slots (fx_Z D below s h0 (fx_oI Q E)) (F0 m 27 ls []) := by
  refine fx_loop.use hw (fun st => ∀ (ls : Array Slot) (H : Heap) (locs : List Loc) (cells slots : Nat), lv_has ls 9 [(0, .ref r0), (1, .int x1), (2, .long w2), (4, .ref r4), (5, .int x5), (7, .int st.1)] → fx_F D h0 st.2 H locs cells slots → W p l e R s m args below meth c H locs cells slots (fx_Z D below s h0 (fx_oI Q E)) (F0 m 27 ls [])) (fun X27 st hX27 hw => ?_)
  obtain ⟨x7, h⟩ := st
  replace hw : m_Paths_judge_27_b Q E X27 r0 x1 w2 r4 x5 x7 h := hw
  unfold m_Paths_judge_27_b at hw
  intro ls H locs cells slots hv F
  refine lv_iload C.ex C.by d_Paths_judge_27 (lv_at hv 5 rfl) ?_
  refine lv_aload_n C.ex C.by d_Paths_judge_29 rfl (lv_at hv 0 rfl) ?_
  obtain ⟨hk1, hw⟩ := hw
  refine fx_getI C F lf_Paths_31 hk1 rfl d_Paths_judge_30 ?_
  refine lv_icmp_gt C.ex C.by d_Paths_judge_33 rfl (fun hc => ?_) (fun hc => ?_)
  · replace hw := hw.1 hc
    refine lv_iconst (v := (0 : Int32)) C.ex C.by d_Paths_judge_73 (by decide) ?_
    refine lv_istore (lv' := [(7, .int (0 : Int32)), (0, .ref r0), (1, .int x1), (2, .long w2), (4, .ref r4), (5, .int x5)]) C.ex C.by d_Paths_judge_74 hv (by decide) rfl (fun ls hv => ?_)
    exact b_Paths_judge_76 C hl _ _ _ _ _ _ hw _ _ _ _ _ (lv_sub hv [1, 2, 4, 5, 0] rfl) F
  · replace hw := hw.2 hc
    refine lv_lload_n C.ex C.by d_Paths_judge_36 rfl (lv_at hv 2 rfl) ?_
    refine lv_aload_n C.ex C.by d_Paths_judge_37 rfl (lv_at hv 0 rfl) ?_
    refine lv_iload C.ex C.by d_Paths_judge_38 (lv_at hv 5 rfl) ?_
    refine fx_callR C F (c_Paths_step hl hw) hm_Paths_step hi_Paths_step hv.1 (by decide) (Nat.le_of_ble_eq_true rfl) (iv_Paths_step C F lm_Paths_80 hk1 d_Paths_judge_40) (fx_out0 _) fx_eno (fun q1 h1 H locs cells slots hw hx1 F => ?_)
    replace hw := hw hx1
    have hk1 := (hx1).k hk1
    obtain ⟨hk2, hw⟩ := hw
    refine fx_getL C F lf_Paths_84 hk2 rfl d_Paths_judge_43 ?_
    refine W.lcmp C.ex C.by d_Paths_judge_46 ?_
    refine lv_if_lt C.ex C.by d_Paths_judge_47 rfl (fun hc => ?_) (fun hc => ?_)
    · replace hw := hw.1 hc
      exact b_Paths_judge_64 C hl _ hw _ _ _ _ _ (lv_sub hv [] rfl) F
    · replace hw := hw.2 hc
      refine lv_lload_n C.ex C.by d_Paths_judge_50 rfl (lv_at hv 2 rfl) ?_
      refine lv_aload_n C.ex C.by d_Paths_judge_51 rfl (lv_at hv 0 rfl) ?_
      refine lv_iload C.ex C.by d_Paths_judge_52 (lv_at hv 5 rfl) ?_
      refine fx_callR C F (c_Paths_step hl hw) hm_Paths_step hi_Paths_step hv.1 (by decide) (Nat.le_of_ble_eq_true rfl) (iv_Paths_step C F lm_Paths_80 hk1 d_Paths_judge_54) (fx_out0 _) fx_eno (fun q2 h2 H locs cells slots hw hx2 F => ?_)
      replace hw := hw hx2
      have hk2 := (hx2).k hk2
      have hk1 := (hx2).k hk1
      obtain ⟨hk3, hw⟩ := hw
      refine fx_getL C F lf_Paths_88 hk3 rfl d_Paths_judge_57 ?_
      refine W.lcmp C.ex C.by d_Paths_judge_60 ?_
      refine lv_if_le C.ex C.by d_Paths_judge_61 rfl (fun hc => ?_) (fun hc => ?_)
      · replace hw := hw.1 hc
        let v1 : Int32 := (x7 + (1 : Int32))
        replace hw := hw v1 rfl
        refine lv_iinc (v := v1) (k := 5) (lv' := [(7, .int v1), (0, .ref r0), (1, .int x1), (2, .long w2), (4, .ref r4), (5, .int x5)]) C.ex C.by d_Paths_judge_67 hv rfl (congrArg (fun z => x7 + z) (by decide)) (by decide) rfl (fun ls hv => ?_)
        refine lv_goto C.ex C.by d_Paths_judge_70 rfl ?_
        exact hX27 _ hw _ _ _ _ _ (lv_sub hv [1, 2, 3, 4, 5, 0] rfl) F
      · replace hw := hw.2 hc
        exact b_Paths_judge_64 C hl _ hw _ _ _ _ _ (lv_sub hv [] rfl) F
theorem b_Paths_judge_0 {p : Program} {l : Launch} {e : Env} {R : Room} {s : State} {m : MethodId} {args : Array Value} {below : List Frame} {meth : Method} {c : Code} {D : DD} {h0 : AH} {Q : Int32 → AH → Prop} {E : Nat → AH → Prop} (C : fx_CX D y_Paths_judge prog_9_method_8_code 9 13 228 (Option.some FieldType.int) [] h0 p R s m meth c) (hl : l.flags = flags0) (r0 : Nat) (x1 : Int32) (w2 : Int64) (r4 : Nat) (x5 : Int32) (h : AH) (hw : m_Paths_judge Q E r0 x1 w2 r4 x5 h) : ∀ (ls : Array Slot) (H : Heap) (locs : List Loc) (cells slots : Nat), lv_has ls 9 [(0, .ref r0), (1, .int x1), (2, .long w2), (4, .ref r4), (5, .int x5)] → fx_F D h0 h H locs cells slots → W p l e R s m args below meth c H locs cells slots (fx_Z D below s h0 (fx_oI Q E)) (F0 m 0 ls []) := by
  unfold m_Paths_judge at hw
  intro ls H locs cells slots hv F
  refine lv_aload_n C.ex C.by d_Paths_judge_0 rfl (lv_at hv 0 rfl) ?_
  obtain ⟨hk1, hw⟩ := hw
  refine fx_getI C F lf_Paths_23 hk1 rfl d_Paths_judge_1 ?_
  refine lv_if_eq C.ex C.by d_Paths_judge_4 rfl (fun hc => ?_) (fun hc => ?_)
  · replace hw := hw.1 hc
    refine lv_aload_n C.ex C.by d_Paths_judge_10 rfl (lv_at hv 0 rfl) ?_
    refine fx_callI C F (c_Paths_find hl hw) hm_Paths_find hi_Paths_find hv.1 (by decide) (Nat.le_of_ble_eq_true rfl) (iv_Paths_find C F lm_Paths_77 hk1 d_Paths_judge_11) (fx_out0 _) fx_eno (fun v1 h1 H locs cells slots hw hx1 F => ?_)
    replace hw := hw hx1
    have hk1 := (hx1).k hk1
    refine lv_istore (lv' := [(6, .int v1), (0, .ref r0), (1, .int x1), (2, .long w2), (4, .ref r4), (5, .int x5)]) C.ex C.by d_Paths_judge_14 hv (by decide) rfl (fun ls hv => ?_)
    refine lv_iload C.ex C.by d_Paths_judge_16 (lv_at hv 0 rfl) ?_
    refine lv_if_eq C.ex C.by d_Paths_judge_18 rfl (fun hc => ?_) (fun hc => ?_)
    · replace hw := hw.1 hc
      refine lv_iconst (v := (0 : Int32)) C.ex C.by d_Paths_judge_24 (by decide) ?_
      refine lv_istore (lv' := [(7, .int (0 : Int32)), (6, .int v1), (0, .ref r0), (1, .int x1), (2, .long w2), (4, .ref r4), (5, .int x5)]) C.ex C.by d_Paths_judge_25 hv (by decide) rfl (fun ls hv => ?_)
      exact b_Paths_judge_27 C hl _ _ _ _ _ _ _ hw _ _ _ _ _ (lv_sub hv [2, 3, 4, 5, 6, 0] rfl) F
    · replace hw := hw.2 hc
      refine lv_iload C.ex C.by d_Paths_judge_21 (lv_at hv 0 rfl) ?_
      exact fx_iret C F d_Paths_judge_23 (Or.inl ⟨_, rfl, hw⟩)
  · replace hw := hw.2 hc
    refine lv_bipush (v := (42 : Int32)) C.ex C.by d_Paths_judge_7 (by decide) ?_
    exact fx_iret C F d_Paths_judge_9 (Or.inl ⟨_, rfl, hw⟩)
theorem hm_Paths_judge : fx_hd y_Paths_judge prog_9_method_8_code 9 (Option.some FieldType.int) [] ∈ tables_1 := (fx_m5 (List.mem_of_getElem? (i := 155) rfl))
theorem hi_Paths_judge : Cond.initialized y_Paths_judge.cls ∈ tables_1 := (fx_m1 (List.mem_of_getElem? (i := 10) rfl))
theorem c_Paths_judge {l : Launch} (hl : l.flags = flags0) {D : DD} {Q : Int32 → AH → Prop} {E : Nat → AH → Prop} {r0 : Nat} {x1 : Int32} {w2 : Int64} {r4 : Nat} {x5 : Int32} {h : AH} (hw : m_Paths_judge Q E r0 x1 w2 r4 x5 h) : fx_Mt l D y_Paths_judge (fx_hd y_Paths_judge prog_9_method_8_code 9 (Option.some FieldType.int) []) 13 228 [.ref r0, .int x1, .long w2, .ref r4, .int x5] h (fx_oI Q E) := by
  refine fx_ofW (plainFor_of_name (by decide)) (fun p e s m below meth c C F => ?_)
  have hv := lv_entry ([.ref r0, .int x1, .long w2, .ref r4, .int x5]) (n := 9) (Nat.le_of_ble_eq_true rfl)
  rw [lg_entry_eq]
  generalize (lg_sl ([.ref r0, .int x1, .long w2, .ref r4, .int x5]) ++ List.replicate (9 - (lg_sl ([.ref r0, .int x1, .long w2, .ref r4, .int x5])).length) Slot.unset).toArray = ls at hv ⊢
  have hv : lv_has ls 9 [(0, .ref r0), (1, .int x1), (2, .long w2), (4, .ref r4), (5, .int x5)] := hv
  exact b_Paths_judge_0 C hl _ _ _ _ _ _ hw _ _ _ _ _ hv F
