set_option maxRecDepth 10000
/-! ChainJudgeModel.bits(I)I: frames 2, words 32 -/
abbrev y_M_bits : MethodName := ⟨"ChainJudgeModel", "bits", "(I)I"⟩
def dl_M_bits : List (Nat × Instr × Nat) := [(0, .aload_n 0, 1), (1, .iconst 3, 1), (2, .iload_n 1, 1), (3, .invokevirtual 140, 3), (6, .istore_n 2, 1), (7, .aload_n 0, 1), (8, .getfield 124, 3), (11, .ifCond .ne 31, 3), (14, .aload_n 0, 1), (15, .iload_n 2, 1), (16, .aload_n 0, 1), (17, .getfield 128, 3), (20, .if_icmp .le 18, 3), (23, .aload_n 0, 1), (24, .aload_n 0, 1), (25, .getfield 128, 3), (28, .invokevirtual 131, 3), (31, .ifCond .ne 7, 3), (34, .iconst 1, 1), (35, .goto 4, 3), (38, .iconst 0, 1), (39, .invokevirtual 143, 3), (42, .iload_n 2, 1), (43, .ireturn, 1)]
theorem dk_M_bits : fx_dec prog_15_method_35_code dl_M_bits = true := by decide +kernel
theorem d_M_bits_0 : decode prog_15_method_35_code 0 = .ok (.aload_n 0, 1) := fx_dat dk_M_bits 0 rfl
theorem d_M_bits_1 : decode prog_15_method_35_code 1 = .ok (.iconst 3, 1) := fx_dat dk_M_bits 1 rfl
theorem d_M_bits_2 : decode prog_15_method_35_code 2 = .ok (.iload_n 1, 1) := fx_dat dk_M_bits 2 rfl
theorem d_M_bits_3 : decode prog_15_method_35_code 3 = .ok (.invokevirtual 140, 3) := fx_dat dk_M_bits 3 rfl
theorem d_M_bits_6 : decode prog_15_method_35_code 6 = .ok (.istore_n 2, 1) := fx_dat dk_M_bits 4 rfl
theorem d_M_bits_7 : decode prog_15_method_35_code 7 = .ok (.aload_n 0, 1) := fx_dat dk_M_bits 5 rfl
theorem d_M_bits_8 : decode prog_15_method_35_code 8 = .ok (.getfield 124, 3) := fx_dat dk_M_bits 6 rfl
theorem d_M_bits_11 : decode prog_15_method_35_code 11 = .ok (.ifCond .ne 31, 3) := fx_dat dk_M_bits 7 rfl
theorem d_M_bits_14 : decode prog_15_method_35_code 14 = .ok (.aload_n 0, 1) := fx_dat dk_M_bits 8 rfl
theorem d_M_bits_15 : decode prog_15_method_35_code 15 = .ok (.iload_n 2, 1) := fx_dat dk_M_bits 9 rfl
theorem d_M_bits_16 : decode prog_15_method_35_code 16 = .ok (.aload_n 0, 1) := fx_dat dk_M_bits 10 rfl
theorem d_M_bits_17 : decode prog_15_method_35_code 17 = .ok (.getfield 128, 3) := fx_dat dk_M_bits 11 rfl
theorem d_M_bits_20 : decode prog_15_method_35_code 20 = .ok (.if_icmp .le 18, 3) := fx_dat dk_M_bits 12 rfl
theorem d_M_bits_23 : decode prog_15_method_35_code 23 = .ok (.aload_n 0, 1) := fx_dat dk_M_bits 13 rfl
theorem d_M_bits_24 : decode prog_15_method_35_code 24 = .ok (.aload_n 0, 1) := fx_dat dk_M_bits 14 rfl
theorem d_M_bits_25 : decode prog_15_method_35_code 25 = .ok (.getfield 128, 3) := fx_dat dk_M_bits 15 rfl
theorem d_M_bits_28 : decode prog_15_method_35_code 28 = .ok (.invokevirtual 131, 3) := fx_dat dk_M_bits 16 rfl
theorem d_M_bits_31 : decode prog_15_method_35_code 31 = .ok (.ifCond .ne 7, 3) := fx_dat dk_M_bits 17 rfl
theorem d_M_bits_34 : decode prog_15_method_35_code 34 = .ok (.iconst 1, 1) := fx_dat dk_M_bits 18 rfl
theorem d_M_bits_35 : decode prog_15_method_35_code 35 = .ok (.goto 4, 3) := fx_dat dk_M_bits 19 rfl
theorem d_M_bits_38 : decode prog_15_method_35_code 38 = .ok (.iconst 0, 1) := fx_dat dk_M_bits 20 rfl
theorem d_M_bits_39 : decode prog_15_method_35_code 39 = .ok (.invokevirtual 143, 3) := fx_dat dk_M_bits 21 rfl
theorem d_M_bits_42 : decode prog_15_method_35_code 42 = .ok (.iload_n 2, 1) := fx_dat dk_M_bits 22 rfl
theorem d_M_bits_43 : decode prog_15_method_35_code 43 = .ok (.ireturn, 1) := fx_dat dk_M_bits 23 rfl
def m_M_bits_42 (Q : Int32 → AH → Prop) (x2 : Int32) (h : AH) : Prop := Q x2 h
def m_M_bits_39 (Q : Int32 → AH → Prop) (x2 : Int32) (sr0 : Nat) (sx1 : Int32) (h : AH) : Prop := hp_k h sr0 = 13 ∧ m_M_need (fun h1 => fx_ext h h1 → m_M_bits_42 Q x2 h1) sr0 sx1 h
def m_M_bits_38 (Q : Int32 → AH → Prop) (x2 : Int32) (sr0 : Nat) (h : AH) : Prop := m_M_bits_39 Q x2 sr0 (0 : Int32) h
def m_M_bits (Q : Int32 → AH → Prop) (r0 : Nat) (x1 : Int32) (h : AH) : Prop := hp_k h r0 = 13 ∧ m_M_open (fun v1 h1 => fx_ext h h1 → (¬ (hp_I h1 r0 21) = 0 → m_M_bits_42 Q v1 h1) ∧ ((hp_I h1 r0 21) = 0 → (v1 ≤ (hp_I h1 r0 20) → m_M_bits_38 Q v1 r0 h1) ∧ (¬ v1 ≤ (hp_I h1 r0 20) → m_M_here (fun v2 h2 => fx_ext h1 h2 → (¬ v2 = 0 → m_M_bits_38 Q v1 r0 h2) ∧ (v2 = 0 → m_M_bits_39 Q v1 r0 (1 : Int32) h2)) r0 (hp_I h1 r0 20) h1))) r0 (3 : Int32) x1 h
theorem b_M_bits_42 {p : Program} {l : Launch} {e : Env} {R : Room} {s : State} {m : MethodId} {args : Array Value} {below : List Frame} {meth : Method} {c : Code} {D : DD} {h0 : AH} {Q : Int32 → AH → Prop} (C : fx_CX D y_M_bits prog_15_method_35_code 3 2 32 (Option.some FieldType.int) [] h0 p R s m meth c) (hl : l.flags = flags0) (x2 : Int32) (h : AH) (hw : m_M_bits_42 Q x2 h) : ∀ (ls : Array Slot) (H : Heap) (locs : List Loc) (cells slots : Nat), lv_has ls 3 [(2, .int x2)] → fx_F D h0 h H locs cells slots → W p l e R s m args below meth c H locs cells slots (fx_Z D below s h0 (fx_oI Q fx_no)) (F0 m 42 ls []) := by
  unfold m_M_bits_42 at hw
  intro ls H locs cells slots hv F
  refine lv_iload_n C.ex C.by d_M_bits_42 rfl (lv_at hv 0 rfl) ?_
  exact fx_iret C F d_M_bits_43 (Or.inl ⟨_, rfl, hw⟩)
theorem b_M_bits_39 {p : Program} {l : Launch} {e : Env} {R : Room} {s : State} {m : MethodId} {args : Array Value} {below : List Frame} {meth : Method} {c : Code} {D : DD} {h0 : AH} {Q : Int32 → AH → Prop} (C : fx_CX D y_M_bits prog_15_method_35_code 3 2 32 (Option.some FieldType.int) [] h0 p R s m meth c) (hl : l.flags = flags0) (x2 : Int32) (sr0 : Nat) (sx1 : Int32) (h : AH) (hw : m_M_bits_39 Q x2 sr0 sx1 h) : ∀ (ls : Array Slot) (H : Heap) (locs : List Loc) (cells slots : Nat), lv_has ls 3 [(2, .int x2)] → fx_F D h0 h H locs cells slots → W p l e R s m args below meth c H locs cells slots (fx_Z D below s h0 (fx_oI Q fx_no)) (F0 m 39 ls [.int sx1, .ref sr0]) := by
  unfold m_M_bits_39 at hw
  intro ls H locs cells slots hv F
  obtain ⟨hk1, hw⟩ := hw
  refine fx_callV C F (c_M_need hl hw) hm_M_need hi_M_need hv.1 (by decide) (Nat.le_of_ble_eq_true rfl) (iv_M_need C F lm_M_143 hk1 d_M_bits_39) (fx_out0 _) fx_eno (fun h1 H locs cells slots hw hx1 F => ?_)
  replace hw := hw hx1
  have hk1 := (hx1).k hk1
  exact b_M_bits_42 C hl _ _ hw _ _ _ _ _ hv F
theorem b_M_bits_38 {p : Program} {l : Launch} {e : Env} {R : Room} {s : State} {m : MethodId} {args : Array Value} {below : List Frame} {meth : Method} {c : Code} {D : DD} {h0 : AH} {Q : Int32 → AH → Prop} (C : fx_CX D y_M_bits prog_15_method_35_code 3 2 32 (Option.some FieldType.int) [] h0 p R s m meth c) (hl : l.flags = flags0) (x2 : Int32) (sr0 : Nat) (h : AH) (hw : m_M_bits_38 Q x2 sr0 h) : ∀ (ls : Array Slot) (H : Heap) (locs : List Loc) (cells slots : Nat), lv_has ls 3 [(2, .int x2)] → fx_F D h0 h H locs cells slots → W p l e R s m args below meth c H locs cells slots (fx_Z D below s h0 (fx_oI Q fx_no)) (F0 m 38 ls [.ref sr0]) := by
  unfold m_M_bits_38 at hw
  intro ls H locs cells slots hv F
  refine lv_iconst (v := (0 : Int32)) C.ex C.by d_M_bits_38 (by decide) ?_
  exact b_M_bits_39 C hl _ _ _ _ hw _ _ _ _ _ hv F
theorem b_M_bits_0 {p : Program} {l : Launch} {e : Env} {R : Room} {s : State} {m : MethodId} {args : Array Value} {below : List Frame} {meth : Method} {c : Code} {D : DD} {h0 : AH} {Q : Int32 → AH → Prop} (C : fx_CX D y_M_bits prog_15_method_35_code 3 2 32 (Option.some FieldType.int) [] h0 p R s m meth c) (hl : l.flags = flags0) (r0 : Nat) (x1 : Int32) (h : AH) (hw : m_M_bits Q r0 x1 h) : ∀ (ls : Array Slot) (H : Heap) (locs : List Loc) (cells slots : Nat), lv_has ls 3 [(0, .ref r0), (1, .int x1)] → fx_F D h0 h H locs cells slots → W p l e R s m args below meth c H locs cells slots (fx_Z D below s h0 (fx_oI Q fx_no)) (F0 m 0 ls []) := by
  unfold m_M_bits at hw
  intro ls H locs cells slots hv F
  refine lv_aload_n C.ex C.by d_M_bits_0 rfl (lv_at hv 0 rfl) ?_
  refine lv_iconst (v := (3 : Int32)) C.ex C.by d_M_bits_1 (by decide) ?_
  refine lv_iload_n C.ex C.by d_M_bits_2 rfl (lv_at hv 1 rfl) ?_
  obtain ⟨hk1, hw⟩ := hw
  refine fx_callI C F (c_M_open hl hw) hm_M_open hi_M_open hv.1 (by decide) (Nat.le_of_ble_eq_true rfl) (iv_M_open C F lm_M_140 hk1 d_M_bits_3) (fx_out0 _) fx_eno (fun v1 h1 H locs cells slots hw hx1 F => ?_)
  replace hw := hw hx1
  have hk1 := (hx1).k hk1
  refine lv_istore_n (lv' := [(2, .int v1), (0, .ref r0), (1, .int x1)]) C.ex C.by d_M_bits_6 rfl hv (by decide) rfl (fun ls hv => ?_)
  refine lv_aload_n C.ex C.by d_M_bits_7 rfl (lv_at hv 1 rfl) ?_
  refine fx_getI C F lf_M_124 hk1 rfl d_M_bits_8 ?_
  refine lv_if_ne C.ex C.by d_M_bits_11 rfl (fun hc => ?_) (fun hc => ?_)
  · replace hw := hw.1 hc
    exact b_M_bits_42 C hl _ _ hw _ _ _ _ _ (lv_sub hv [0] rfl) F
  · replace hw := hw.2 hc
    refine lv_aload_n C.ex C.by d_M_bits_14 rfl (lv_at hv 1 rfl) ?_
    refine lv_iload_n C.ex C.by d_M_bits_15 rfl (lv_at hv 0 rfl) ?_
    refine lv_aload_n C.ex C.by d_M_bits_16 rfl (lv_at hv 1 rfl) ?_
    refine fx_getI C F lf_M_128 hk1 rfl d_M_bits_17 ?_
    refine lv_icmp_le C.ex C.by d_M_bits_20 rfl (fun hc => ?_) (fun hc => ?_)
    · replace hw := hw.1 hc
      exact b_M_bits_38 C hl _ _ _ hw _ _ _ _ _ (lv_sub hv [0] rfl) F
    · replace hw := hw.2 hc
      refine lv_aload_n C.ex C.by d_M_bits_23 rfl (lv_at hv 1 rfl) ?_
      refine lv_aload_n C.ex C.by d_M_bits_24 rfl (lv_at hv 1 rfl) ?_
      refine fx_getI C F lf_M_128 hk1 rfl d_M_bits_25 ?_
      refine fx_callI C F (c_M_here hl hw) hm_M_here hi_M_here hv.1 (by decide) (Nat.le_of_ble_eq_true rfl) (iv_M_here C F lm_M_131 hk1 d_M_bits_28) (fx_out0 _) fx_eno (fun v2 h2 H locs cells slots hw hx2 F => ?_)
      replace hw := hw hx2
      have hk1 := (hx2).k hk1
      refine lv_if_ne C.ex C.by d_M_bits_31 rfl (fun hc => ?_) (fun hc => ?_)
      · replace hw := hw.1 hc
        exact b_M_bits_38 C hl _ _ _ hw _ _ _ _ _ (lv_sub hv [0] rfl) F
      · replace hw := hw.2 hc
        refine lv_iconst (v := (1 : Int32)) C.ex C.by d_M_bits_34 (by decide) ?_
        refine lv_goto C.ex C.by d_M_bits_35 rfl ?_
        exact b_M_bits_39 C hl _ _ _ _ hw _ _ _ _ _ (lv_sub hv [0] rfl) F
theorem hm_M_bits : fx_hd y_M_bits prog_15_method_35_code 3 (Option.some FieldType.int) [] ∈ tables_1 := (fx_m7 (List.mem_of_getElem? (i := 38) rfl))
theorem hi_M_bits : Cond.initialized y_M_bits.cls ∈ tables_1 := (fx_m1 (List.mem_of_getElem? (i := 15) rfl))
theorem c_M_bits {l : Launch} (hl : l.flags = flags0) {D : DD} {Q : Int32 → AH → Prop} {r0 : Nat} {x1 : Int32} {h : AH} (hw : m_M_bits Q r0 x1 h) : fx_Mt l D y_M_bits (fx_hd y_M_bits prog_15_method_35_code 3 (Option.some FieldType.int) []) 2 32 [.ref r0, .int x1] h (fx_oI Q fx_no) := by
  refine fx_ofW (plainFor_of_name (by decide)) (fun p e s m below meth c C F => ?_)
  have hv := lv_entry ([.ref r0, .int x1]) (n := 3) (Nat.le_of_ble_eq_true rfl)
  rw [lg_entry_eq]
  generalize (lg_sl ([.ref r0, .int x1]) ++ List.replicate (3 - (lg_sl ([.ref r0, .int x1])).length) Slot.unset).toArray = ls at hv ⊢
  have hv : lv_has ls 3 [(0, .ref r0), (1, .int x1)] := hv
  exact b_M_bits_0 C hl _ _ _ hw _ _ _ _ _ hv F
/-! ChainJudgeModel.key(I)V: frames 3, words 46 -/
abbrev y_M_key_I : MethodName := ⟨"ChainJudgeModel", "key", "(I)V"⟩
theorem lf_M_238 : fx_Lk "ChainJudgeModel" 238 12 41 := fx_Lk.mk (C := "ChainJudgeModel") (T := fx_T12) (N := 57) rfl (by decide) (by decide) (fx_m6 (List.mem_of_getElem? (i := 47) rfl))
theorem lm_M_232 : Cond.methodLink "ChainJudgeModel" 232 y_M_algorithm ∈ tables_1 ∨ ∃ host, Cond.methodLinkNest "ChainJudgeModel" 232 y_M_algorithm host ∈ tables_1 := Or.inl (fx_m6 (List.mem_of_getElem? (i := 231) rfl))
theorem lm_M_235 : Cond.methodLink "ChainJudgeModel" 235 y_M_bits ∈ tables_1 ∨ ∃ host, Cond.methodLinkNest "ChainJudgeModel" 235 y_M_bits host ∈ tables_1 := Or.inl (fx_m7 (List.mem_of_getElem? (i := 35) rfl))
section
variable {p : Program} {l : Launch} {e : Env} {R : Room} {s : State} {m : MethodId} {args : Array Value} {below : List Frame} {meth : Method} {c : Code} {H : Heap} {locs : List Loc} {cells slots : Nat}
variable {D : DD} {y : MethodName} {cc : ByteArray} {nL kf kw : Nat} {ret : Option FieldType} {hh : List (Nat × Nat × Nat × Nat)} {h0 h : AH} {pc : Nat} {ls : Array Slot} {rest : List Value} {b idx : Nat}
theorem iv_M_algorithm {x1 : Int32} (C : fx_CX D y cc nL kf kw ret hh h0 p R s m meth c) (F : fx_F D h0 h H locs cells slots) (hw1 : Cond.methodLink y.cls idx y_M_algorithm ∈ tables_1 ∨ ∃ host, Cond.methodLinkNest y.cls idx y_M_algorithm host ∈ tables_1) (hk : hp_k h b = 13) (hd : decode cc pc = .ok (.invokevirtual idx, 3)) : fx_IV p l e R s m args below meth c H locs cells slots (F0 m pc ls (.int x1 :: .ref b :: rest)) rest y_M_algorithm [.ref b, .int x1] 3 := fun T hT X => fx_invV (As := [.int x1]) (Cn := "ChainJudgeModel") C X hw1 (fx_m6 (List.mem_of_getElem? (i := 233) rfl)) (fx_selP C ⟨by decide, by decide⟩ (fx_m5 (List.mem_of_getElem? (i := 217) rfl)) (fx_m6 (List.mem_of_getElem? (i := 232) rfl)) (fx_m6 (List.mem_of_getElem? (i := 233) rfl))) hm_M_algorithm ⟨by decide, by decide⟩ (by rw [hT]; exact fx_clsO (ci := 12) (r := ("ChainJudgeModel", fx_T12, 57)) C F rfl (by decide) hk) rfl (n := 1) (by decide +kernel) rfl rfl hd
theorem iv_M_bits {x1 : Int32} (C : fx_CX D y cc nL kf kw ret hh h0 p R s m meth c) (F : fx_F D h0 h H locs cells slots) (hw1 : Cond.methodLink y.cls idx y_M_bits ∈ tables_1 ∨ ∃ host, Cond.methodLinkNest y.cls idx y_M_bits host ∈ tables_1) (hk : hp_k h b = 13) (hd : decode cc pc = .ok (.invokevirtual idx, 3)) : fx_IV p l e R s m args below meth c H locs cells slots (F0 m pc ls (.int x1 :: .ref b :: rest)) rest y_M_bits [.ref b, .int x1] 3 := fun T hT X => fx_invV (As := [.int x1]) (Cn := "ChainJudgeModel") C X hw1 (fx_m7 (List.mem_of_getElem? (i := 37) rfl)) (fx_selP C ⟨by decide, by decide⟩ (fx_m5 (List.mem_of_getElem? (i := 217) rfl)) (fx_m7 (List.mem_of_getElem? (i := 36) rfl)) (fx_m7 (List.mem_of_getElem? (i := 37) rfl))) hm_M_bits ⟨by decide, by decide⟩ (by rw [hT]; exact fx_clsO (ci := 12) (r := ("ChainJudgeModel", fx_T12, 57)) C F rfl (by decide) hk) rfl (n := 1) (by decide +kernel) rfl rfl hd
end
def dl_M_key_I : List (Nat × Instr × Nat) := [(0, .aload_n 0, 1), (1, .bipush 48, 2), (3, .iload_n 1, 1), (4, .invokevirtual 140, 3), (7, .istore_n 2, 1), (8, .aload_n 0, 1), (9, .iload_n 2, 1), (10, .invokevirtual 232, 3), (13, .aload_n 0, 1), (14, .iload_n 2, 1), (15, .invokevirtual 235, 3), (18, .istore_n 3, 1), (19, .aload_n 0, 1), (20, .getfield 124, 3), (23, .ifCond .eq 4, 3), (26, .return_, 1), (27, .aload_n 0, 1), (28, .iload_n 3, 1), (29, .iload_n 2, 1), (30, .if_icmp .ne 18, 3), (33, .iload_n 3, 1), (34, .aload_n 0, 1), (35, .getfield 128, 3), (38, .isub, 1), (39, .bipush 33, 2), (41, .if_icmp .ne 7, 3), (44, .iconst 1, 1), (45, .goto 4, 3), (48, .iconst 0, 1), (49, .invokevirtual 143, 3), (52, .aload_n 0, 1), (53, .aload_n 0, 1), (54, .getfield 128, 3), (57, .iconst 1, 1), (58, .iadd, 1), (59, .putfield 238, 3), (62, .aload_n 0, 1), (63, .iload_n 2, 1), (64, .putfield 128, 3), (67, .return_, 1)]
theorem dk_M_key_I : fx_dec prog_15_method_36_code dl_M_key_I = true := by decide +kernel
theorem d_M_key_I_0 : decode prog_15_method_36_code 0 = .ok (.aload_n 0, 1) := fx_dat dk_M_key_I 0 rfl
theorem d_M_key_I_1 : decode prog_15_method_36_code 1 = .ok (.bipush 48, 2) := fx_dat dk_M_key_I 1 rfl
theorem d_M_key_I_3 : decode prog_15_method_36_code 3 = .ok (.iload_n 1, 1) := fx_dat dk_M_key_I 2 rfl
theorem d_M_key_I_4 : decode prog_15_method_36_code 4 = .ok (.invokevirtual 140, 3) := fx_dat dk_M_key_I 3 rfl
theorem d_M_key_I_7 : decode prog_15_method_36_code 7 = .ok (.istore_n 2, 1) := fx_dat dk_M_key_I 4 rfl
theorem d_M_key_I_8 : decode prog_15_method_36_code 8 = .ok (.aload_n 0, 1) := fx_dat dk_M_key_I 5 rfl
theorem d_M_key_I_9 : decode prog_15_method_36_code 9 = .ok (.iload_n 2, 1) := fx_dat dk_M_key_I 6 rfl
theorem d_M_key_I_10 : decode prog_15_method_36_code 10 = .ok (.invokevirtual 232, 3) := fx_dat dk_M_key_I 7 rfl
theorem d_M_key_I_13 : decode prog_15_method_36_code 13 = .ok (.aload_n 0, 1) := fx_dat dk_M_key_I 8 rfl
theorem d_M_key_I_14 : decode prog_15_method_36_code 14 = .ok (.iload_n 2, 1) := fx_dat dk_M_key_I 9 rfl
theorem d_M_key_I_15 : decode prog_15_method_36_code 15 = .ok (.invokevirtual 235, 3) := fx_dat dk_M_key_I 10 rfl
theorem d_M_key_I_18 : decode prog_15_method_36_code 18 = .ok (.istore_n 3, 1) := fx_dat dk_M_key_I 11 rfl
theorem d_M_key_I_19 : decode prog_15_method_36_code 19 = .ok (.aload_n 0, 1) := fx_dat dk_M_key_I 12 rfl
theorem d_M_key_I_20 : decode prog_15_method_36_code 20 = .ok (.getfield 124, 3) := fx_dat dk_M_key_I 13 rfl
theorem d_M_key_I_23 : decode prog_15_method_36_code 23 = .ok (.ifCond .eq 4, 3) := fx_dat dk_M_key_I 14 rfl
theorem d_M_key_I_26 : decode prog_15_method_36_code 26 = .ok (.return_, 1) := fx_dat dk_M_key_I 15 rfl
theorem d_M_key_I_27 : decode prog_15_method_36_code 27 = .ok (.aload_n 0, 1) := fx_dat dk_M_key_I 16 rfl
theorem d_M_key_I_28 : decode prog_15_method_36_code 28 = .ok (.iload_n 3, 1) := fx_dat dk_M_key_I 17 rfl
theorem d_M_key_I_29 : decode prog_15_method_36_code 29 = .ok (.iload_n 2, 1) := fx_dat dk_M_key_I 18 rfl
theorem d_M_key_I_30 : decode prog_15_method_36_code 30 = .ok (.if_icmp .ne 18, 3) := fx_dat dk_M_key_I 19 rfl
theorem d_M_key_I_33 : decode prog_15_method_36_code 33 = .ok (.iload_n 3, 1) := fx_dat dk_M_key_I 20 rfl
theorem d_M_key_I_34 : decode prog_15_method_36_code 34 = .ok (.aload_n 0, 1) := fx_dat dk_M_key_I 21 rfl
theorem d_M_key_I_35 : decode prog_15_method_36_code 35 = .ok (.getfield 128, 3) := fx_dat dk_M_key_I 22 rfl
theorem d_M_key_I_38 : decode prog_15_method_36_code 38 = .ok (.isub, 1) := fx_dat dk_M_key_I 23 rfl
theorem d_M_key_I_39 : decode prog_15_method_36_code 39 = .ok (.bipush 33, 2) := fx_dat dk_M_key_I 24 rfl
theorem d_M_key_I_41 : decode prog_15_method_36_code 41 = .ok (.if_icmp .ne 7, 3) := fx_dat dk_M_key_I 25 rfl
theorem d_M_key_I_44 : decode prog_15_method_36_code 44 = .ok (.iconst 1, 1) := fx_dat dk_M_key_I 26 rfl
theorem d_M_key_I_45 : decode prog_15_method_36_code 45 = .ok (.goto 4, 3) := fx_dat dk_M_key_I 27 rfl
theorem d_M_key_I_48 : decode prog_15_method_36_code 48 = .ok (.iconst 0, 1) := fx_dat dk_M_key_I 28 rfl
theorem d_M_key_I_49 : decode prog_15_method_36_code 49 = .ok (.invokevirtual 143, 3) := fx_dat dk_M_key_I 29 rfl
theorem d_M_key_I_52 : decode prog_15_method_36_code 52 = .ok (.aload_n 0, 1) := fx_dat dk_M_key_I 30 rfl
theorem d_M_key_I_53 : decode prog_15_method_36_code 53 = .ok (.aload_n 0, 1) := fx_dat dk_M_key_I 31 rfl
theorem d_M_key_I_54 : decode prog_15_method_36_code 54 = .ok (.getfield 128, 3) := fx_dat dk_M_key_I 32 rfl
theorem d_M_key_I_57 : decode prog_15_method_36_code 57 = .ok (.iconst 1, 1) := fx_dat dk_M_key_I 33 rfl
theorem d_M_key_I_58 : decode prog_15_method_36_code 58 = .ok (.iadd, 1) := fx_dat dk_M_key_I 34 rfl
theorem d_M_key_I_59 : decode prog_15_method_36_code 59 = .ok (.putfield 238, 3) := fx_dat dk_M_key_I 35 rfl
theorem d_M_key_I_62 : decode prog_15_method_36_code 62 = .ok (.aload_n 0, 1) := fx_dat dk_M_key_I 36 rfl
theorem d_M_key_I_63 : decode prog_15_method_36_code 63 = .ok (.iload_n 2, 1) := fx_dat dk_M_key_I 37 rfl
theorem d_M_key_I_64 : decode prog_15_method_36_code 64 = .ok (.putfield 128, 3) := fx_dat dk_M_key_I 38 rfl
theorem d_M_key_I_67 : decode prog_15_method_36_code 67 = .ok (.return_, 1) := fx_dat dk_M_key_I 39 rfl
def m_M_key_I_49 (Q : AH → Prop) (r0 : Nat) (x2 : Int32) (sr0 : Nat) (sx1 : Int32) (h : AH) : Prop := hp_k h sr0 = 13 ∧ m_M_need (fun h1 => fx_ext h h1 → hp_k h1 r0 = 13 ∧ ∀ h2 : AH, h2 = up_I h1 r0 41 ((hp_I h1 r0 20) + (1 : Int32)) → ∀ h3 : AH, h3 = up_I h2 r0 20 x2 → Q h3) sr0 sx1 h
def m_M_key_I_48 (Q : AH → Prop) (r0 : Nat) (x2 : Int32) (sr0 : Nat) (h : AH) : Prop := m_M_key_I_49 Q r0 x2 sr0 (0 : Int32) h
def m_M_key_I (Q : AH → Prop) (r0 : Nat) (x1 : Int32) (h : AH) : Prop := hp_k h r0 = 13 ∧ m_M_open (fun v1 h1 => fx_ext h h1 → m_M_algorithm (fun h2 => fx_ext h1 h2 → m_M_bits (fun v2 h3 => fx_ext h2 h3 → ((hp_I h3 r0 21) = 0 → (¬ v2 = v1 → m_M_key_I_48 Q r0 v1 r0 h3) ∧ (v2 = v1 → (¬ (v2 - (hp_I h3 r0 20)) = (33 : Int32) → m_M_key_I_48 Q r0 v1 r0 h3) ∧ ((v2 - (hp_I h3 r0 20)) = (33 : Int32) → m_M_key_I_49 Q r0 v1 r0 (1 : Int32) h3))) ∧ (¬ (hp_I h3 r0 21) = 0 → Q h3)) r0 v1 h2) r0 v1 h1) r0 (48 : Int32) x1 h
theorem b_M_key_I_49 {p : Program} {l : Launch} {e : Env} {R : Room} {s : State} {m : MethodId} {args : Array Value} {below : List Frame} {meth : Method} {c : Code} {D : DD} {h0 : AH} {Q : AH → Prop} (C : fx_CX D y_M_key_I prog_15_method_36_code 4 3 46 (none) [] h0 p R s m meth c) (hl : l.flags = flags0) (r0 : Nat) (x2 : Int32) (sr0 : Nat) (sx1 : Int32) (h : AH) (hw : m_M_key_I_49 Q r0 x2 sr0 sx1 h) : ∀ (ls : Array Slot) (H : Heap) (locs : List Loc) (cells slots : Nat), lv_has ls 4 [(0, .ref r0), (2, .int x2)] → fx_F D h0 h H locs cells slots → W p l e R s m args below meth c H locs cells slots (fx_Z D below s h0 (fx_oV Q fx_no)) (F0 m 49 ls [.int sx1, .ref sr0]) := by
  unfold m_M_key_I_49 at hw
  intro ls H locs cells slots hv F
  obtain ⟨hk1, hw⟩ := hw
  refine fx_callV C F (c_M_need hl hw) hm_M_need hi_M_need hv.1 (by decide) (Nat.le_of_ble_eq_true rfl) (iv_M_need C F lm_M_143 hk1 d_M_key_I_49) (fx_out0 _) fx_eno (fun h1 H locs cells slots hw hx1 F => ?_)
  replace hw := hw hx1
  have hk1 := (hx1).k hk1
  refine lv_aload_n C.ex C.by d_M_key_I_52 rfl (lv_at hv 0 rfl) ?_
  refine lv_aload_n C.ex C.by d_M_key_I_53 rfl (lv_at hv 0 rfl) ?_
  obtain ⟨hk2, hw⟩ := hw
  refine fx_getI C F lf_M_128 hk2 rfl d_M_key_I_54 ?_
  refine lv_iconst (v := (1 : Int32)) C.ex C.by d_M_key_I_57 (by decide) ?_
  refine lv_iadd C.ex C.by d_M_key_I_58 ?_
  let h2 : AH := up_I h1 r0 41 ((hp_I h1 r0 20) + (1 : Int32))
  replace hw := hw h2 rfl
  refine fx_putI C F lf_M_238 hk2 rfl rfl (fx_mayF.no rfl rfl) d_M_key_I_59 (fun H locs (F : fx_F D h0 h2 H locs _ _) => ?_)
  refine lv_aload_n C.ex C.by d_M_key_I_62 rfl (lv_at hv 0 rfl) ?_
  refine lv_iload_n C.ex C.by d_M_key_I_63 rfl (lv_at hv 1 rfl) ?_
  let h3 : AH := up_I h2 r0 20 x2
  replace hw := hw h3 rfl
  refine fx_putI C F lf_M_128 hk2 rfl rfl (fx_mayF.no rfl rfl) d_M_key_I_64 (fun H locs (F : fx_F D h0 h3 H locs _ _) => ?_)
  exact fx_vret C F d_M_key_I_67 (Or.inl ⟨rfl, hw⟩)
theorem b_M_key_I_48 {p : Program} {l : Launch} {e : Env} {R : Room} {s : State} {m : MethodId} {args : Array Value} {below : List Frame} {meth : Method} {c : Code} {D : DD} {h0 : AH} {Q : AH → Prop} (C : fx_CX D y_M_key_I prog_15_method_36_code 4 3 46 (none) [] h0 p R s m meth c) (hl : l.flags = flags0) (r0 : Nat) (x2 : Int32) (sr0 : Nat) (h : AH) (hw : m_M_key_I_48 Q r0 x2 sr0 h) : ∀ (ls : Array Slot) (H : Heap) (locs : List Loc) (cells slots : Nat), lv_has ls 4 [(0, .ref r0), (2, .int x2)] → fx_F D h0 h H locs cells slots → W p l e R s m args below meth c H locs cells slots (fx_Z D below s h0 (fx_oV Q fx_no)) (F0 m 48 ls [.ref sr0]) := by
  unfold m_M_key_I_48 at hw
  intro ls H locs cells slots hv F
  refine lv_iconst (v := (0 : Int32)) C.ex C.by d_M_key_I_48 (by decide) ?_
  exact b_M_key_I_49 C hl _ _ _ _ _ hw _ _ _ _ _ hv F
theorem b_M_key_I_0 {p : Program} {l : Launch} {e : Env} {R : Room} {s : State} {m : MethodId} {args : Array Value} {below : List Frame} {meth : Method} {c : Code} {D : DD} {h0 : AH} {Q : AH → Prop} (C : fx_CX D y_M_key_I prog_15_method_36_code 4 3 46 (none) [] h0 p R s m meth c) (hl : l.flags = flags0) (r0 : Nat) (x1 : Int32) (h : AH) (hw : m_M_key_I Q r0 x1 h) : ∀ (ls : Array Slot) (H : Heap) (locs : List Loc) (cells slots : Nat), lv_has ls 4 [(0, .ref r0), (1, .int x1)] → fx_F D h0 h H locs cells slots → W p l e R s m args below meth c H locs cells slots (fx_Z D below s h0 (fx_oV Q fx_no)) (F0 m 0 ls []) := by
  unfold m_M_key_I at hw
  intro ls H locs cells slots hv F
  refine lv_aload_n C.ex C.by d_M_key_I_0 rfl (lv_at hv 0 rfl) ?_
  refine lv_bipush (v := (48 : Int32)) C.ex C.by d_M_key_I_1 (by decide) ?_
  refine lv_iload_n C.ex C.by d_M_key_I_3 rfl (lv_at hv 1 rfl) ?_
  obtain ⟨hk1, hw⟩ := hw
  refine fx_callI C F (c_M_open hl hw) hm_M_open hi_M_open hv.1 (by decide) (Nat.le_of_ble_eq_true rfl) (iv_M_open C F lm_M_140 hk1 d_M_key_I_4) (fx_out0 _) fx_eno (fun v1 h1 H locs cells slots hw hx1 F => ?_)
  replace hw := hw hx1
  have hk1 := (hx1).k hk1
  refine lv_istore_n (lv' := [(2, .int v1), (0, .ref r0), (1, .int x1)]) C.ex C.by d_M_key_I_7 rfl hv (by decide) rfl (fun ls hv => ?_)
  refine lv_aload_n C.ex C.by d_M_key_I_8 rfl (lv_at hv 1 rfl) ?_
  refine lv_iload_n C.ex C.by d_M_key_I_9 rfl (lv_at hv 0 rfl) ?_
  refine fx_callV C F (c_M_algorithm hl hw) hm_M_algorithm hi_M_algorithm hv.1 (by decide) (Nat.le_of_ble_eq_true rfl) (iv_M_algorithm C F lm_M_232 hk1 d_M_key_I_10) (fx_out0 _) fx_eno (fun h2 H locs cells slots hw hx2 F => ?_)
  replace hw := hw hx2
  have hk1 := (hx2).k hk1
  refine lv_aload_n C.ex C.by d_M_key_I_13 rfl (lv_at hv 1 rfl) ?_
  refine lv_iload_n C.ex C.by d_M_key_I_14 rfl (lv_at hv 0 rfl) ?_
  refine fx_callI C F (c_M_bits hl hw) hm_M_bits hi_M_bits hv.1 (by decide) (Nat.le_of_ble_eq_true rfl) (iv_M_bits C F lm_M_235 hk1 d_M_key_I_15) (fx_out0 _) fx_eno (fun v2 h3 H locs cells slots hw hx3 F => ?_)
  replace hw := hw hx3
  have hk1 := (hx3).k hk1
  refine lv_istore_n (lv' := [(3, .int v2), (2, .int v1), (0, .ref r0), (1, .int x1)]) C.ex C.by d_M_key_I_18 rfl hv (by decide) rfl (fun ls hv => ?_)
  refine lv_aload_n C.ex C.by d_M_key_I_19 rfl (lv_at hv 2 rfl) ?_
  refine fx_getI C F lf_M_124 hk1 rfl d_M_key_I_20 ?_
  refine lv_if_eq C.ex C.by d_M_key_I_23 rfl (fun hc => ?_) (fun hc => ?_)
  · replace hw := hw.1 hc
    refine lv_aload_n C.ex C.by d_M_key_I_27 rfl (lv_at hv 2 rfl) ?_
    refine lv_iload_n C.ex C.by d_M_key_I_28 rfl (lv_at hv 0 rfl) ?_
    refine lv_iload_n C.ex C.by d_M_key_I_29 rfl (lv_at hv 1 rfl) ?_
    refine lv_icmp_ne C.ex C.by d_M_key_I_30 rfl (fun hc => ?_) (fun hc => ?_)
    · replace hw := hw.1 hc
      exact b_M_key_I_48 C hl _ _ _ _ hw _ _ _ _ _ (lv_sub hv [2, 1] rfl) F
    · replace hw := hw.2 hc
      refine lv_iload_n C.ex C.by d_M_key_I_33 rfl (lv_at hv 0 rfl) ?_
      refine lv_aload_n C.ex C.by d_M_key_I_34 rfl (lv_at hv 2 rfl) ?_
      refine fx_getI C F lf_M_128 hk1 rfl d_M_key_I_35 ?_
      refine lv_isub C.ex C.by d_M_key_I_38 ?_
      refine lv_bipush (v := (33 : Int32)) C.ex C.by d_M_key_I_39 (by decide) ?_
      refine lv_icmp_ne C.ex C.by d_M_key_I_41 rfl (fun hc => ?_) (fun hc => ?_)
      · replace hw := hw.1 hc
        exact b_M_key_I_48 C hl _ _ _ _ hw _ _ _ _ _ (lv_sub hv [2, 1] rfl) F
      · replace hw := hw.2 hc
        refine lv_iconst (v := (1 : Int32)) C.ex C.by d_M_key_I_44 (by decide) ?_
        refine lv_goto C.ex C.by d_M_key_I_45 rfl ?_
        exact b_M_key_I_49 C hl _ _ _ _ _ hw _ _ _ _ _ (lv_sub hv [2, 1] rfl) F
  · replace hw := hw.2 hc
    exact fx_vret C F d_M_key_I_26 (Or.inl ⟨rfl, hw⟩)
theorem hm_M_key_I : fx_hd y_M_key_I prog_15_method_36_code 4 (none) [] ∈ tables_1 := (fx_m7 (List.mem_of_getElem? (i := 34) rfl))
theorem hi_M_key_I : Cond.initialized y_M_key_I.cls ∈ tables_1 := (fx_m1 (List.mem_of_getElem? (i := 15) rfl))
theorem c_M_key_I {l : Launch} (hl : l.flags = flags0) {D : DD} {Q : AH → Prop} {r0 : Nat} {x1 : Int32} {h : AH} (hw : m_M_key_I Q r0 x1 h) : fx_Mt l D y_M_key_I (fx_hd y_M_key_I prog_15_method_36_code 4 (none) []) 3 46 [.ref r0, .int x1] h (fx_oV Q fx_no) := by
  refine fx_ofW (plainFor_of_name (by decide)) (fun p e s m below meth c C F => ?_)
  have hv := lv_entry ([.ref r0, .int x1]) (n := 4) (Nat.le_of_ble_eq_true rfl)
  rw [lg_entry_eq]
  generalize (lg_sl ([.ref r0, .int x1]) ++ List.replicate (4 - (lg_sl ([.ref r0, .int x1])).length) Slot.unset).toArray = ls at hv ⊢
  have hv : lv_has ls 4 [(0, .ref r0), (1, .int x1)] := hv
  exact b_M_key_I_0 C hl _ _ _ hw _ _ _ _ _ hv F
/-! ChainJudgeModel.alike(III)Z: frames 1, words 14 -/
abbrev y_M_alike : MethodName := ⟨"ChainJudgeModel", "alike", "(III)Z"⟩
def dl_M_alike : List (Nat × Instr × Nat) := [(0, .iconst 0, 1), (1, .istore 4, 2), (3, .iload 4, 2), (5, .iload_n 3, 1), (6, .if_icmp .ge 30, 3), (9, .aload_n 0, 1), (10, .iload_n 1, 1), (11, .iload 4, 2), (13, .iadd, 1), (14, .invokevirtual 131, 3), (17, .aload_n 0, 1), (18, .iload_n 2, 1), (19, .iload 4, 2), (21, .iadd, 1), (22, .invokevirtual 131, 3), (25, .if_icmp .eq 5, 3), (28, .iconst 0, 1), (29, .ireturn, 1), (30, .iinc 4 1, 3), (33, .goto (-30), 3), (36, .iconst 1, 1), (37, .ireturn, 1)]
theorem dk_M_alike : fx_dec prog_15_method_33_code dl_M_alike = true := by decide +kernel
theorem d_M_alike_0 : decode prog_15_method_33_code 0 = .ok (.iconst 0, 1) := fx_dat dk_M_alike 0 rfl
theorem d_M_alike_1 : decode prog_15_method_33_code 1 = .ok (.istore 4, 2) := fx_dat dk_M_alike 1 rfl
theorem d_M_alike_3 : decode prog_15_method_33_code 3 = .ok (.iload 4, 2) := fx_dat dk_M_alike 2 rfl
theorem d_M_alike_5 : decode prog_15_method_33_code 5 = .ok (.iload_n 3, 1) := fx_dat dk_M_alike 3 rfl
theorem d_M_alike_6 : decode prog_15_method_33_code 6 = .ok (.if_icmp .ge 30, 3) := fx_dat dk_M_alike 4 rfl
theorem d_M_alike_9 : decode prog_15_method_33_code 9 = .ok (.aload_n 0, 1) := fx_dat dk_M_alike 5 rfl
theorem d_M_alike_10 : decode prog_15_method_33_code 10 = .ok (.iload_n 1, 1) := fx_dat dk_M_alike 6 rfl
theorem d_M_alike_11 : decode prog_15_method_33_code 11 = .ok (.iload 4, 2) := fx_dat dk_M_alike 7 rfl
theorem d_M_alike_13 : decode prog_15_method_33_code 13 = .ok (.iadd, 1) := fx_dat dk_M_alike 8 rfl
theorem d_M_alike_14 : decode prog_15_method_33_code 14 = .ok (.invokevirtual 131, 3) := fx_dat dk_M_alike 9 rfl
theorem d_M_alike_17 : decode prog_15_method_33_code 17 = .ok (.aload_n 0, 1) := fx_dat dk_M_alike 10 rfl
theorem d_M_alike_18 : decode prog_15_method_33_code 18 = .ok (.iload_n 2, 1) := fx_dat dk_M_alike 11 rfl
theorem d_M_alike_19 : decode prog_15_method_33_code 19 = .ok (.iload 4, 2) := fx_dat dk_M_alike 12 rfl
theorem d_M_alike_21 : decode prog_15_method_33_code 21 = .ok (.iadd, 1) := fx_dat dk_M_alike 13 rfl
theorem d_M_alike_22 : decode prog_15_method_33_code 22 = .ok (.invokevirtual 131, 3) := fx_dat dk_M_alike 14 rfl
theorem d_M_alike_25 : decode prog_15_method_33_code 25 = .ok (.if_icmp .eq 5, 3) := fx_dat dk_M_alike 15 rfl
theorem d_M_alike_28 : decode prog_15_method_33_code 28 = .ok (.iconst 0, 1) := fx_dat dk_M_alike 16 rfl
theorem d_M_alike_29 : decode prog_15_method_33_code 29 = .ok (.ireturn, 1) := fx_dat dk_M_alike 17 rfl
theorem d_M_alike_30 : decode prog_15_method_33_code 30 = .ok (.iinc 4 1, 3) := fx_dat dk_M_alike 18 rfl
theorem d_M_alike_33 : decode prog_15_method_33_code 33 = .ok (.goto (-30), 3) := fx_dat dk_M_alike 19 rfl
theorem d_M_alike_36 : decode prog_15_method_33_code 36 = .ok (.iconst 1, 1) := fx_dat dk_M_alike 20 rfl
theorem d_M_alike_37 : decode prog_15_method_33_code 37 = .ok (.ireturn, 1) := fx_dat dk_M_alike 21 rfl
def m_M_alike_3_b (Q : Int32 → AH → Prop) (X3 : Int32 × AH → Prop) (r0 : Nat) (x1 : Int32) (x2 : Int32) (x3 : Int32) (x4 : Int32) (h : AH) : Prop := (x3 ≤ x4 → Q (1 : Int32) h) ∧ (¬ x3 ≤ x4 → hp_k h r0 = 13 ∧ m_M_here (fun v1 h1 => fx_ext h h1 → m_M_here (fun v2 h2 => fx_ext h1 h2 → (v1 = v2 → ∀ v3 : Int32, v3 = (x4 + (1 : Int32)) → X3 (v3, h2)) ∧ (¬ v1 = v2 → Q (0 : Int32) h2)) r0 (x2 + x4) h1) r0 (x1 + x4) h)
def m_M_alike_3 (Q : Int32 → AH → Prop) (r0 : Nat) (x1 : Int32) (x2 : Int32) (x3 : Int32) (x4 : Int32) (h : AH) : Prop := fx_loop (fun (X3 : Int32 × AH → Prop) (st : Int32 × AH) => m_M_alike_3_b Q X3 r0 x1 x2 x3 st.1 st.2) (x4, h)
def m_M_alike (Q : Int32 → AH → Prop) (r0 : Nat) (x1 : Int32) (x2 : Int32) (x3 : Int32) (h : AH) : Prop := m_M_alike_3 Q r0 x1 x2 x3 (0 : Int32) h
theorem b_M_alike_3 {p : Program} {l : Launch} {e : Env} {R : Room} {s : State} {m : MethodId} {args : Array Value} {below : List Frame} {meth : Method} {c : Code} {D : DD} {h0 : AH} {Q : Int32 → AH → Prop} (C : fx_CX D y_M_alike prog_15_method_33_code 5 1 14 (Option.some FieldType.boolean) [] h0 p R s m meth c) (hl : l.flags = flags0) (r0 : Nat) (x1 : Int32) (x2 : Int32) (x3 : Int32) (x4 : Int32) (h : AH) (hw : m_M_alike_3 Q r0 x1 x2 x3 x4 h) : ∀ (ls : Array Slot) (H : Heap) (locs : List Loc) (cells slots : Nat), lv_has ls 5 [(0, .ref r0), (1, .int x1), (2, .int x2), (3, .int x3), (4, .int x4)] → fx_F D h0 h H locs cells slots → W p l e R s m args below meth c H locs cells slots (fx_Z D below s h0 (fx_oZ Q fx_no)) (F0 m 3 ls []) := by
  refine fx_loop.use hw (fun st => ∀ (ls : Array Slot) (H : Heap) (locs : List Loc) (cells slots : Nat), lv_has ls 5 [(0, .ref r0), (1, .int x1), (2, .int x2), (3, .int x3), (4, .int st.1)] → fx_F D h0 st.2 H locs cells slots → W p l e R s m args below meth c H locs cells slots (fx_Z D below s h0 (fx_oZ Q fx_no)) (F0 m 3 ls [])) (fun X3 st hX3 hw => ?_)
  obtain ⟨x4, h⟩ := st
  replace hw : m_M_alike_3_b Q X3 r0 x1 x2 x3 x4 h := hw
  unfold m_M_alike_3_b at hw
  intro ls H locs cells slots hv F
  refine lv_iload C.ex C.by d_M_alike_3 (lv_at hv 4 rfl) ?_
  refine lv_iload_n C.ex C.by d_M_alike_5 rfl (lv_at hv 3 rfl) ?_
  refine lv_icmp_ge C.ex C.by d_M_alike_6 rfl (fun hc => ?_) (fun hc => ?_)
  · replace hw := hw.1 hc
    refine lv_iconst (v := (1 : Int32)) C.ex C.by d_M_alike_36 (by decide) ?_
    exact fx_zret C F d_M_alike_37 (Or.inr rfl) (Or.inl ⟨_, rfl, Or.inr rfl, hw⟩)
  · replace hw := hw.2 hc
    refine lv_aload_n C.ex C.by d_M_alike_9 rfl (lv_at hv 0 rfl) ?_
    refine lv_iload_n C.ex C.by d_M_alike_10 rfl (lv_at hv 1 rfl) ?_
    refine lv_iload C.ex C.by d_M_alike_11 (lv_at hv 4 rfl) ?_
    refine lv_iadd C.ex C.by d_M_alike_13 ?_
    obtain ⟨hk1, hw⟩ := hw
    refine fx_callI C F (c_M_here hl hw) hm_M_here hi_M_here hv.1 (by decide) (Nat.le_of_ble_eq_true rfl) (iv_M_here C F lm_M_131 hk1 d_M_alike_14) (fx_out0 _) fx_eno (fun v1 h1 H locs cells slots hw hx1 F => ?_)
    replace hw := hw hx1
    have hk1 := (hx1).k hk1
    refine lv_aload_n C.ex C.by d_M_alike_17 rfl (lv_at hv 0 rfl) ?_
    refine lv_iload_n C.ex C.by d_M_alike_18 rfl (lv_at hv 2 rfl) ?_
    refine lv_iload C.ex C.by d_M_alike_19 (lv_at hv 4 rfl) ?_
    refine lv_iadd C.ex C.by d_M_alike_21 ?_
    refine fx_callI C F (c_M_here hl hw) hm_M_here hi_M_here hv.1 (by decide) (Nat.le_of_ble_eq_true rfl) (iv_M_here C F lm_M_131 hk1 d_M_alike_22) (fx_out0 _) fx_eno (fun v2 h2 H locs cells slots hw hx2 F => ?_)
    replace hw := hw hx2
    have hk1 := (hx2).k hk1
    refine lv_icmp_eq C.ex C.by d_M_alike_25 rfl (fun hc => ?_) (fun hc => ?_)
    · replace hw := hw.1 hc
      let v3 : Int32 := (x4 + (1 : Int32))
      replace hw := hw v3 rfl
      refine lv_iinc (v := v3) (k := 4) (lv' := [(4, .int v3), (0, .ref r0), (1, .int x1), (2, .int x2), (3, .int x3)]) C.ex C.by d_M_alike_30 hv rfl (congrArg (fun z => x4 + z) (by decide)) (by decide) rfl (fun ls hv => ?_)
      refine lv_goto C.ex C.by d_M_alike_33 rfl ?_
      exact hX3 _ hw _ _ _ _ _ (lv_sub hv [1, 2, 3, 4, 0] rfl) F
    · replace hw := hw.2 hc
      refine lv_iconst (v := (0 : Int32)) C.ex C.by d_M_alike_28 (by decide) ?_
      exact fx_zret C F d_M_alike_29 (Or.inl rfl) (Or.inl ⟨_, rfl, Or.inl rfl, hw⟩)
theorem b_M_alike_0 {p : Program} {l : Launch} {e : Env} {R : Room} {s : State} {m : MethodId} {args : Array Value} {below : List Frame} {meth : Method} {c : Code} {D : DD} {h0 : AH} {Q : Int32 → AH → Prop} (C : fx_CX D y_M_alike prog_15_method_33_code 5 1 14 (Option.some FieldType.boolean) [] h0 p R s m meth c) (hl : l.flags = flags0) (r0 : Nat) (x1 : Int32) (x2 : Int32) (x3 : Int32) (h : AH) (hw : m_M_alike Q r0 x1 x2 x3 h) : ∀ (ls : Array Slot) (H : Heap) (locs : List Loc) (cells slots : Nat), lv_has ls 5 [(0, .ref r0), (1, .int x1), (2, .int x2), (3, .int x3)] → fx_F D h0 h H locs cells slots → W p l e R s m args below meth c H locs cells slots (fx_Z D below s h0 (fx_oZ Q fx_no)) (F0 m 0 ls []) := by
  unfold m_M_alike at hw
  intro ls H locs cells slots hv F
  refine lv_iconst (v := (0 : Int32)) C.ex C.by d_M_alike_0 (by decide) ?_
  refine lv_istore (lv' := [(4, .int (0 : Int32)), (0, .ref r0), (1, .int x1), (2, .int x2), (3, .int x3)]) C.ex C.by d_M_alike_1 hv (by decide) rfl (fun ls hv => ?_)
  exact b_M_alike_3 C hl _ _ _ _ _ _ hw _ _ _ _ _ (lv_sub hv [1, 2, 3, 4, 0] rfl) F
theorem hm_M_alike : fx_hd y_M_alike prog_15_method_33_code 5 (Option.some FieldType.boolean) [] ∈ tables_1 := (fx_m7 (List.mem_of_getElem? (i := 46) rfl))
theorem hi_M_alike : Cond.initialized y_M_alike.cls ∈ tables_1 := (fx_m1 (List.mem_of_getElem? (i := 15) rfl))
theorem c_M_alike {l : Launch} (hl : l.flags = flags0) {D : DD} {Q : Int32 → AH → Prop} {r0 : Nat} {x1 : Int32} {x2 : Int32} {x3 : Int32} {h : AH} (hw : m_M_alike Q r0 x1 x2 x3 h) : fx_Mt l D y_M_alike (fx_hd y_M_alike prog_15_method_33_code 5 (Option.some FieldType.boolean) []) 1 14 [.ref r0, .int x1, .int x2, .int x3] h (fx_oZ Q fx_no) := by
  refine fx_ofW (plainFor_of_name (by decide)) (fun p e s m below meth c C F => ?_)
  have hv := lv_entry ([.ref r0, .int x1, .int x2, .int x3]) (n := 5) (Nat.le_of_ble_eq_true rfl)
  rw [lg_entry_eq]
  generalize (lg_sl ([.ref r0, .int x1, .int x2, .int x3]) ++ List.replicate (5 - (lg_sl ([.ref r0, .int x1, .int x2, .int x3])).length) Slot.unset).toArray = ls at hv ⊢
  have hv : lv_has ls 5 [(0, .ref r0), (1, .int x1), (2, .int x2), (3, .int x3)] := hv
  exact b_M_alike_0 C hl _ _ _ _ _ hw _ _ _ _ _ hv F
/-! ChainJudgeModel.truth(I)V: frames 2, words 32 -/
abbrev y_M_truth : MethodName := ⟨"ChainJudgeModel", "truth", "(I)V"⟩
def dl_M_truth : List (Nat × Instr × Nat) := [(0, .aload_n 0, 1), (1, .iconst 1, 1), (2, .iload_n 1, 1), (3, .invokevirtual 140, 3), (6, .istore_n 2, 1), (7, .aload_n 0, 1), (8, .getfield 124, 3), (11, .ifCond .ne 36, 3), (14, .aload_n 0, 1), (15, .iload_n 2, 1), (16, .aload_n 0, 1), (17, .getfield 128, 3), (20, .isub, 1), (21, .iconst 1, 1), (22, .if_icmp .ne 21, 3), (25, .aload_n 0, 1), (26, .aload_n 0, 1), (27, .getfield 128, 3), (30, .invokevirtual 131, 3), (33, .sipush 255, 3), (36, .if_icmp .ne 7, 3), (39, .iconst 1, 1), (40, .goto 4, 3), (43, .iconst 0, 1), (44, .invokevirtual 143, 3), (47, .aload_n 0, 1), (48, .getfield 124, 3), (51, .ifCond .ne 8, 3), (54, .aload_n 0, 1), (55, .iload_n 2, 1), (56, .putfield 128, 3), (59, .return_, 1)]
theorem dk_M_truth : fx_dec prog_15_method_28_code dl_M_truth = true := by decide +kernel
theorem d_M_truth_0 : decode prog_15_method_28_code 0 = .ok (.aload_n 0, 1) := fx_dat dk_M_truth 0 rfl
theorem d_M_truth_1 : decode prog_15_method_28_code 1 = .ok (.iconst 1, 1) := fx_dat dk_M_truth 1 rfl
theorem d_M_truth_2 : decode prog_15_method_28_code 2 = .ok (.iload_n 1, 1) := fx_dat dk_M_truth 2 rfl
theorem d_M_truth_3 : decode prog_15_method_28_code 3 = .ok (.invokevirtual 140, 3) := fx_dat dk_M_truth 3 rfl
theorem d_M_truth_6 : decode prog_15_method_28_code 6 = .ok (.istore_n 2, 1) := fx_dat dk_M_truth 4 rfl
theorem d_M_truth_7 : decode prog_15_method_28_code 7 = .ok (.aload_n 0, 1) := fx_dat dk_M_truth 5 rfl
theorem d_M_truth_8 : decode prog_15_method_28_code 8 = .ok (.getfield 124, 3) := fx_dat dk_M_truth 6 rfl
theorem d_M_truth_11 : decode prog_15_method_28_code 11 = .ok (.ifCond .ne 36, 3) := fx_dat dk_M_truth 7 rfl
theorem d_M_truth_14 : decode prog_15_method_28_code 14 = .ok (.aload_n 0, 1) := fx_dat dk_M_truth 8 rfl
theorem d_M_truth_15 : decode prog_15_method_28_code 15 = .ok (.iload_n 2, 1) := fx_dat dk_M_truth 9 rfl
theorem d_M_truth_16 : decode prog_15_method_28_code 16 = .ok (.aload_n 0, 1) := fx_dat dk_M_truth 10 rfl
theorem d_M_truth_17 : decode prog_15_method_28_code 17 = .ok (.getfield 128, 3) := fx_dat dk_M_truth 11 rfl
theorem d_M_truth_20 : decode prog_15_method_28_code 20 = .ok (.isub, 1) := fx_dat dk_M_truth 12 rfl
theorem d_M_truth_21 : decode prog_15_method_28_code 21 = .ok (.iconst 1, 1) := fx_dat dk_M_truth 13 rfl
theorem d_M_truth_22 : decode prog_15_method_28_code 22 = .ok (.if_icmp .ne 21, 3) := fx_dat dk_M_truth 14 rfl
theorem d_M_truth_25 : decode prog_15_method_28_code 25 = .ok (.aload_n 0, 1) := fx_dat dk_M_truth 15 rfl
theorem d_M_truth_26 : decode prog_15_method_28_code 26 = .ok (.aload_n 0, 1) := fx_dat dk_M_truth 16 rfl
theorem d_M_truth_27 : decode prog_15_method_28_code 27 = .ok (.getfield 128, 3) := fx_dat dk_M_truth 17 rfl
theorem d_M_truth_30 : decode prog_15_method_28_code 30 = .ok (.invokevirtual 131, 3) := fx_dat dk_M_truth 18 rfl
theorem d_M_truth_33 : decode prog_15_method_28_code 33 = .ok (.sipush 255, 3) := fx_dat dk_M_truth 19 rfl
theorem d_M_truth_36 : decode prog_15_method_28_code 36 = .ok (.if_icmp .ne 7, 3) := fx_dat dk_M_truth 20 rfl
theorem d_M_truth_39 : decode prog_15_method_28_code 39 = .ok (.iconst 1, 1) := fx_dat dk_M_truth 21 rfl
theorem d_M_truth_40 : decode prog_15_method_28_code 40 = .ok (.goto 4, 3) := fx_dat dk_M_truth 22 rfl
theorem d_M_truth_43 : decode prog_15_method_28_code 43 = .ok (.iconst 0, 1) := fx_dat dk_M_truth 23 rfl
theorem d_M_truth_44 : decode prog_15_method_28_code 44 = .ok (.invokevirtual 143, 3) := fx_dat dk_M_truth 24 rfl
theorem d_M_truth_47 : decode prog_15_method_28_code 47 = .ok (.aload_n 0, 1) := fx_dat dk_M_truth 25 rfl
theorem d_M_truth_48 : decode prog_15_method_28_code 48 = .ok (.getfield 124, 3) := fx_dat dk_M_truth 26 rfl
theorem d_M_truth_51 : decode prog_15_method_28_code 51 = .ok (.ifCond .ne 8, 3) := fx_dat dk_M_truth 27 rfl
theorem d_M_truth_54 : decode prog_15_method_28_code 54 = .ok (.aload_n 0, 1) := fx_dat dk_M_truth 28 rfl
theorem d_M_truth_55 : decode prog_15_method_28_code 55 = .ok (.iload_n 2, 1) := fx_dat dk_M_truth 29 rfl
theorem d_M_truth_56 : decode prog_15_method_28_code 56 = .ok (.putfield 128, 3) := fx_dat dk_M_truth 30 rfl
theorem d_M_truth_59 : decode prog_15_method_28_code 59 = .ok (.return_, 1) := fx_dat dk_M_truth 31 rfl
def m_M_truth_59 (Q : AH → Prop) (h : AH) : Prop := Q h
def m_M_truth_47 (Q : AH → Prop) (r0 : Nat) (x2 : Int32) (h : AH) : Prop := hp_k h r0 = 13 ∧ (¬ (hp_I h r0 21) = 0 → m_M_truth_59 Q h) ∧ ((hp_I h r0 21) = 0 → ∀ h1 : AH, h1 = up_I h r0 20 x2 → m_M_truth_59 Q h1)
def m_M_truth_44 (Q : AH → Prop) (r0 : Nat) (x2 : Int32) (sr0 : Nat) (sx1 : Int32) (h : AH) : Prop := hp_k h sr0 = 13 ∧ m_M_need (fun h1 => fx_ext h h1 → m_M_truth_47 Q r0 x2 h1) sr0 sx1 h
def m_M_truth_43 (Q : AH → Prop) (r0 : Nat) (x2 : Int32) (sr0 : Nat) (h : AH) : Prop := m_M_truth_44 Q r0 x2 sr0 (0 : Int32) h
def m_M_truth (Q : AH → Prop) (r0 : Nat) (x1 : Int32) (h : AH) : Prop := hp_k h r0 = 13 ∧ m_M_open (fun v1 h1 => fx_ext h h1 → (¬ (hp_I h1 r0 21) = 0 → m_M_truth_47 Q r0 v1 h1) ∧ ((hp_I h1 r0 21) = 0 → (¬ (v1 - (hp_I h1 r0 20)) = (1 : Int32) → m_M_truth_43 Q r0 v1 r0 h1) ∧ ((v1 - (hp_I h1 r0 20)) = (1 : Int32) → m_M_here (fun v2 h2 => fx_ext h1 h2 → (¬ v2 = (255 : Int32) → m_M_truth_43 Q r0 v1 r0 h2) ∧ (v2 = (255 : Int32) → m_M_truth_44 Q r0 v1 r0 (1 : Int32) h2)) r0 (hp_I h1 r0 20) h1))) r0 (1 : Int32) x1 h
theorem b_M_truth_59 {p : Program} {l : Launch} {e : Env} {R : Room} {s : State} {m : MethodId} {args : Array Value} {below : List Frame} {meth : Method} {c : Code} {D : DD} {h0 : AH} {Q : AH → Prop} (C : fx_CX D y_M_truth prog_15_method_28_code 3 2 32 (none) [] h0 p R s m meth c) (hl : l.flags = flags0) (h : AH) (hw : m_M_truth_59 Q h) : ∀ (ls : Array Slot) (H : Heap) (locs : List Loc) (cells slots : Nat), lv_has ls 3 [] → fx_F D h0 h H locs cells slots → W p l e R s m args below meth c H locs cells slots (fx_Z D below s h0 (fx_oV Q fx_no)) (F0 m 59 ls []) := by
  unfold m_M_truth_59 at hw
  intro ls H locs cells slots hv F
  exact fx_vret C F d_M_truth_59 (Or.inl ⟨rfl, hw⟩)
theorem b_M_truth_47 {p : Program} {l : Launch} {e : Env} {R : Room} {s : State} {m : MethodId} {args : Array Value} {below : List Frame} {meth : Method} {c : Code} {D : DD} {h0 : AH} {Q : AH → Prop} (C : fx_CX D y_M_truth prog_15_method_28_code 3 2 32 (none) [] h0 p R s m meth c) (hl : l.flags = flags0) (r0 : Nat) (x2 : Int32) (h : AH) (hw : m_M_truth_47 Q r0 x2 h) : ∀ (ls : Array Slot) (H : Heap) (locs : List Loc) (cells slots : Nat), lv_has ls 3 [(0, .ref r0), (2, .int x2)] → fx_F D h0 h H locs cells slots → W p l e R s m args below meth c H locs cells slots (fx_Z D below s h0 (fx_oV Q fx_no)) (F0 m 47 ls []) := by
  unfold m_M_truth_47 at hw
  intro ls H locs cells slots hv F
  refine lv_aload_n C.ex C.by d_M_truth_47 rfl (lv_at hv 0 rfl) ?_
  obtain ⟨hk1, hw⟩ := hw
  refine fx_getI C F lf_M_124 hk1 rfl d_M_truth_48 ?_
  refine lv_if_ne C.ex C.by d_M_truth_51 rfl (fun hc => ?_) (fun hc => ?_)
  · replace hw := hw.1 hc
    exact b_M_truth_59 C hl _ hw _ _ _ _ _ (lv_sub hv [] rfl) F
  · replace hw := hw.2 hc
    refine lv_aload_n C.ex C.by d_M_truth_54 rfl (lv_at hv 0 rfl) ?_
    refine lv_iload_n C.ex C.by d_M_truth_55 rfl (lv_at hv 1 rfl) ?_
    let h1 : AH := up_I h r0 20 x2
    replace hw := hw h1 rfl
    refine fx_putI C F lf_M_128 hk1 rfl rfl (fx_mayF.no rfl rfl) d_M_truth_56 (fun H locs (F : fx_F D h0 h1 H locs _ _) => ?_)
    exact b_M_truth_59 C hl _ hw _ _ _ _ _ (lv_sub hv [] rfl) F
theorem b_M_truth_44 {p : Program} {l : Launch} {e : Env} {R : Room} {s : State} {m : MethodId} {args : Array Value} {below : List Frame} {meth : Method} {c : Code} {D : DD} {h0 : AH} {Q : AH → Prop} (C : fx_CX D y_M_truth prog_15_method_28_code 3 2 32 (none) [] h0 p R s m meth c) (hl : l.flags = flags0) (r0 : Nat) (x2 : Int32) (sr0 : Nat) (sx1 : Int32) (h : AH) (hw : m_M_truth_44 Q r0 x2 sr0 sx1 h) : ∀ (ls : Array Slot) (H : Heap) (locs : List Loc) (cells slots : Nat), lv_has ls 3 [(0, .ref r0), (2, .int x2)] → fx_F D h0 h H locs cells slots → W p l e R s m args below meth c H locs cells slots (fx_Z D below s h0 (fx_oV Q fx_no)) (F0 m 44 ls [.int sx1, .ref sr0]) := by
  unfold m_M_truth_44 at hw
  intro ls H locs cells slots hv F
  obtain ⟨hk1, hw⟩ := hw
  refine fx_callV C F (c_M_need hl hw) hm_M_need hi_M_need hv.1 (by decide) (Nat.le_of_ble_eq_true rfl) (iv_M_need C F lm_M_143 hk1 d_M_truth_44) (fx_out0 _) fx_eno (fun h1 H locs cells slots hw hx1 F => ?_)
  replace hw := hw hx1
  have hk1 := (hx1).k hk1
  exact b_M_truth_47 C hl _ _ _ hw _ _ _ _ _ hv F
theorem b_M_truth_43 {p : Program} {l : Launch} {e : Env} {R : Room} {s : State} {m : MethodId} {args : Array Value} {below : List Frame} {meth : Method} {c : Code} {D : DD} {h0 : AH} {Q : AH → Prop} (C : fx_CX D y_M_truth prog_15_method_28_code 3 2 32 (none) [] h0 p R s m meth c) (hl : l.flags = flags0) (r0 : Nat) (x2 : Int32) (sr0 : Nat) (h : AH) (hw : m_M_truth_43 Q r0 x2 sr0 h) : ∀ (ls : Array Slot) (H : Heap) (locs : List Loc) (cells slots : Nat), lv_has ls 3 [(0, .ref r0), (2, .int x2)] → fx_F D h0 h H locs cells slots → W p l e R s m args below meth c H locs cells slots (fx_Z D below s h0 (fx_oV Q fx_no)) (F0 m 43 ls [.ref sr0]) := by
  unfold m_M_truth_43 at hw
  intro ls H locs cells slots hv F
  refine lv_iconst (v := (0 : Int32)) C.ex C.by d_M_truth_43 (by decide) ?_
  exact b_M_truth_44 C hl _ _ _ _ _ hw _ _ _ _ _ hv F
theorem b_M_truth_0 {p : Program} {l : Launch} {e : Env} {R : Room} {s : State} {m : MethodId} {args : Array Value} {below : List Frame} {meth : Method} {c : Code} {D : DD} {h0 : AH} {Q : AH → Prop} (C : fx_CX D y_M_truth prog_15_method_28_code 3 2 32 (none) [] h0 p R s m meth c) (hl : l.flags = flags0) (r0 : Nat) (x1 : Int32) (h : AH) (hw : m_M_truth Q r0 x1 h) : ∀ (ls : Array Slot) (H : Heap) (locs : List Loc) (cells slots : Nat), lv_has ls 3 [(0, .ref r0), (1, .int x1)] → fx_F D h0 h H locs cells slots → W p l e R s m args below meth c H locs cells slots (fx_Z D below s h0 (fx_oV Q fx_no)) (F0 m 0 ls []) := by
  unfold m_M_truth at hw
  intro ls H locs cells slots hv F
  refine lv_aload_n C.ex C.by d_M_truth_0 rfl (lv_at hv 0 rfl) ?_
  refine lv_iconst (v := (1 : Int32)) C.ex C.by d_M_truth_1 (by decide) ?_
  refine lv_iload_n C.ex C.by d_M_truth_2 rfl (lv_at hv 1 rfl) ?_
  obtain ⟨hk1, hw⟩ := hw
  refine fx_callI C F (c_M_open hl hw) hm_M_open hi_M_open hv.1 (by decide) (Nat.le_of_ble_eq_true rfl) (iv_M_open C F lm_M_140 hk1 d_M_truth_3) (fx_out0 _) fx_eno (fun v1 h1 H locs cells slots hw hx1 F => ?_)
  replace hw := hw hx1
  have hk1 := (hx1).k hk1
  refine lv_istore_n (lv' := [(2, .int v1), (0, .ref r0), (1, .int x1)]) C.ex C.by d_M_truth_6 rfl hv (by decide) rfl (fun ls hv => ?_)
  refine lv_aload_n C.ex C.by d_M_truth_7 rfl (lv_at hv 1 rfl) ?_
  refine fx_getI C F lf_M_124 hk1 rfl d_M_truth_8 ?_
  refine lv_if_ne C.ex C.by d_M_truth_11 rfl (fun hc => ?_) (fun hc => ?_)
  · replace hw := hw.1 hc
    exact b_M_truth_47 C hl _ _ _ hw _ _ _ _ _ (lv_sub hv [1, 0] rfl) F
  · replace hw := hw.2 hc
    refine lv_aload_n C.ex C.by d_M_truth_14 rfl (lv_at hv 1 rfl) ?_
    refine lv_iload_n C.ex C.by d_M_truth_15 rfl (lv_at hv 0 rfl) ?_
    refine lv_aload_n C.ex C.by d_M_truth_16 rfl (lv_at hv 1 rfl) ?_
    refine fx_getI C F lf_M_128 hk1 rfl d_M_truth_17 ?_
    refine lv_isub C.ex C.by d_M_truth_20 ?_
    refine lv_iconst (v := (1 : Int32)) C.ex C.by d_M_truth_21 (by decide) ?_
    refine lv_icmp_ne C.ex C.by d_M_truth_22 rfl (fun hc => ?_) (fun hc => ?_)
    · replace hw := hw.1 hc
      exact b_M_truth_43 C hl _ _ _ _ hw _ _ _ _ _ (lv_sub hv [1, 0] rfl) F
    · replace hw := hw.2 hc
      refine lv_aload_n C.ex C.by d_M_truth_25 rfl (lv_at hv 1 rfl) ?_
      refine lv_aload_n C.ex C.by d_M_truth_26 rfl (lv_at hv 1 rfl) ?_
      refine fx_getI C F lf_M_128 hk1 rfl d_M_truth_27 ?_
      refine fx_callI C F (c_M_here hl hw) hm_M_here hi_M_here hv.1 (by decide) (Nat.le_of_ble_eq_true rfl) (iv_M_here C F lm_M_131 hk1 d_M_truth_30) (fx_out0 _) fx_eno (fun v2 h2 H locs cells slots hw hx2 F => ?_)
      replace hw := hw hx2
      have hk1 := (hx2).k hk1
      refine lv_sipush (v := (255 : Int32)) C.ex C.by d_M_truth_33 (by decide) ?_
      refine lv_icmp_ne C.ex C.by d_M_truth_36 rfl (fun hc => ?_) (fun hc => ?_)
      · replace hw := hw.1 hc
        exact b_M_truth_43 C hl _ _ _ _ hw _ _ _ _ _ (lv_sub hv [1, 0] rfl) F
      · replace hw := hw.2 hc
        refine lv_iconst (v := (1 : Int32)) C.ex C.by d_M_truth_39 (by decide) ?_
        refine lv_goto C.ex C.by d_M_truth_40 rfl ?_
        exact b_M_truth_44 C hl _ _ _ _ _ hw _ _ _ _ _ (lv_sub hv [1, 0] rfl) F
theorem hm_M_truth : fx_hd y_M_truth prog_15_method_28_code 3 (none) [] ∈ tables_1 := (fx_m7 (List.mem_of_getElem? (i := 50) rfl))
theorem hi_M_truth : Cond.initialized y_M_truth.cls ∈ tables_1 := (fx_m1 (List.mem_of_getElem? (i := 15) rfl))
theorem c_M_truth {l : Launch} (hl : l.flags = flags0) {D : DD} {Q : AH → Prop} {r0 : Nat} {x1 : Int32} {h : AH} (hw : m_M_truth Q r0 x1 h) : fx_Mt l D y_M_truth (fx_hd y_M_truth prog_15_method_28_code 3 (none) []) 2 32 [.ref r0, .int x1] h (fx_oV Q fx_no) := by
  refine fx_ofW (plainFor_of_name (by decide)) (fun p e s m below meth c C F => ?_)
  have hv := lv_entry ([.ref r0, .int x1]) (n := 3) (Nat.le_of_ble_eq_true rfl)
  rw [lg_entry_eq]
  generalize (lg_sl ([.ref r0, .int x1]) ++ List.replicate (3 - (lg_sl ([.ref r0, .int x1])).length) Slot.unset).toArray = ls at hv ⊢
  have hv : lv_has ls 3 [(0, .ref r0), (1, .int x1)] := hv
  exact b_M_truth_0 C hl _ _ _ hw _ _ _ _ _ hv F
/-! ChainJudgeModel.constraints(I)V: frames 3, words 46 -/
abbrev y_M_constraints : MethodName := ⟨"ChainJudgeModel", "constraints", "(I)V"⟩
theorem lf_M_184 : fx_Lk "ChainJudgeModel" 184 12 25 := fx_Lk.mk (C := "ChainJudgeModel") (T := fx_T12) (N := 57) rfl (by decide) (by decide) (fx_m6 (List.mem_of_getElem? (i := 31) rfl))
theorem lf_M_187 : fx_Lk "ChainJudgeModel" 187 12 27 := fx_Lk.mk (C := "ChainJudgeModel") (T := fx_T12) (N := 57) rfl (by decide) (by decide) (fx_m6 (List.mem_of_getElem? (i := 33) rfl))
theorem lm_M_181 : Cond.methodLink "ChainJudgeModel" 181 y_M_truth ∈ tables_1 ∨ ∃ host, Cond.methodLinkNest "ChainJudgeModel" 181 y_M_truth host ∈ tables_1 := Or.inl (fx_m7 (List.mem_of_getElem? (i := 47) rfl))
section
variable {p : Program} {l : Launch} {e : Env} {R : Room} {s : State} {m : MethodId} {args : Array Value} {below : List Frame} {meth : Method} {c : Code} {H : Heap} {locs : List Loc} {cells slots : Nat}
variable {D : DD} {y : MethodName} {cc : ByteArray} {nL kf kw : Nat} {ret : Option FieldType} {hh : List (Nat × Nat × Nat × Nat)} {h0 h : AH} {pc : Nat} {ls : Array Slot} {rest : List Value} {b idx : Nat}
theorem iv_M_truth {x1 : Int32} (C : fx_CX D y cc nL kf kw ret hh h0 p R s m meth c) (F : fx_F D h0 h H locs cells slots) (hw1 : Cond.methodLink y.cls idx y_M_truth ∈ tables_1 ∨ ∃ host, Cond.methodLinkNest y.cls idx y_M_truth host ∈ tables_1) (hk : hp_k h b = 13) (hd : decode cc pc = .ok (.invokevirtual idx, 3)) : fx_IV p l e R s m args below meth c H locs cells slots (F0 m pc ls (.int x1 :: .ref b :: rest)) rest y_M_truth [.ref b, .int x1] 3 := fun T hT X => fx_invV (As := [.int x1]) (Cn := "ChainJudgeModel") C X hw1 (fx_m7 (List.mem_of_getElem? (i := 49) rfl)) (fx_selP C ⟨by decide, by decide⟩ (fx_m5 (List.mem_of_getElem? (i := 217) rfl)) (fx_m7 (List.mem_of_getElem? (i := 48) rfl)) (fx_m7 (List.mem_of_getElem? (i := 49) rfl))) hm_M_truth ⟨by decide, by decide⟩ (by rw [hT]; exact fx_clsO (ci := 12) (r := ("ChainJudgeModel", fx_T12, 57)) C F rfl (by decide) hk) rfl (n := 1) (by decide +kernel) rfl rfl hd
end
def dl_M_constraints : List (Nat × Instr × Nat) := [(0, .aload_n 0, 1), (1, .bipush 48, 2), (3, .iload_n 1, 1), (4, .invokevirtual 140, 3), (7, .istore_n 2, 1), (8, .aload_n 0, 1), (9, .getfield 124, 3), (12, .ifCond .eq 4, 3), (15, .return_, 1), (16, .aload_n 0, 1), (17, .iload_n 2, 1), (18, .iload_n 1, 1), (19, .if_icmp .ne 7, 3), (22, .iconst 1, 1), (23, .goto 4, 3), (26, .iconst 0, 1), (27, .invokevirtual 143, 3), (30, .aload_n 0, 1), (31, .getfield 128, 3), (34, .iload_n 2, 1), (35, .if_icmp .ge 111, 3), (38, .aload_n 0, 1), (39, .aload_n 0, 1), (40, .getfield 128, 3), (43, .invokevirtual 131, 3), (46, .iconst 1, 1), (47, .if_icmp .ne 99, 3), (50, .aload_n 0, 1), (51, .iload_n 2, 1), (52, .invokevirtual 181, 3), (55, .aload_n 0, 1), (56, .iconst 1, 1), (57, .putfield 184, 3), (60, .aload_n 0, 1), (61, .getfield 124, 3), (64, .ifCond .ne 82, 3), (67, .aload_n 0, 1), (68, .getfield 128, 3), (71, .iload_n 2, 1), (72, .if_icmp .ge 74, 3), (75, .aload_n 0, 1), (76, .iconst 2, 1), (77, .iload_n 2, 1), (78, .invokevirtual 140, 3), (81, .istore_n 3, 1), (82, .aload_n 0, 1), (83, .getfield 124, 3), (86, .ifCond .ne 36, 3), (89, .aload_n 0, 1), (90, .iload_n 3, 1), (91, .aload_n 0, 1), (92, .getfield 128, 3), (95, .isub, 1), (96, .iconst 1, 1), (97, .if_icmp .ne 21, 3), (100, .aload_n 0, 1), (101, .aload_n 0, 1), (102, .getfield 128, 3), (105, .invokevirtual 131, 3), (108, .sipush 128, 3), (111, .if_icmp .ge 7, 3), (114, .iconst 1, 1), (115, .goto 4, 3), (118, .iconst 0, 1), (119, .invokevirtual 143, 3), (122, .aload_n 0, 1), (123, .getfield 124, 3), (126, .ifCond .ne 15, 3), (129, .aload_n 0, 1), (130, .aload_n 0, 1), (131, .aload_n 0, 1), (132, .getfield 128, 3), (135, .invokevirtual 131, 3), (138, .putfield 187, 3), (141, .aload_n 0, 1), (142, .iload_n 3, 1), (143, .putfield 128, 3), (146, .aload_n 0, 1), (147, .getfield 124, 3), (150, .ifCond .ne 20, 3), (153, .aload_n 0, 1), (154, .aload_n 0, 1), (155, .getfield 128, 3), (158, .iload_n 2, 1), (159, .if_icmp .ne 7, 3), (162, .iconst 1, 1), (163, .goto 4, 3), (166, .iconst 0, 1), (167, .invokevirtual 143, 3), (170, .return_, 1)]
theorem dk_M_constraints : fx_dec prog_15_method_27_code dl_M_constraints = true := by decide +kernel
theorem d_M_constraints_0 : decode prog_15_method_27_code 0 = .ok (.aload_n 0, 1) := fx_dat dk_M_constraints 0 rfl
theorem d_M_constraints_1 : decode prog_15_method_27_code 1 = .ok (.bipush 48, 2) := fx_dat dk_M_constraints 1 rfl
theorem d_M_constraints_3 : decode prog_15_method_27_code 3 = .ok (.iload_n 1, 1) := fx_dat dk_M_constraints 2 rfl
theorem d_M_constraints_4 : decode prog_15_method_27_code 4 = .ok (.invokevirtual 140, 3) := fx_dat dk_M_constraints 3 rfl
theorem d_M_constraints_7 : decode prog_15_method_27_code 7 = .ok (.istore_n 2, 1) := fx_dat dk_M_constraints 4 rfl
theorem d_M_constraints_8 : decode prog_15_method_27_code 8 = .ok (.aload_n 0, 1) := fx_dat dk_M_constraints 5 rfl
theorem d_M_constraints_9 : decode prog_15_method_27_code 9 = .ok (.getfield 124, 3) := fx_dat dk_M_constraints 6 rfl
theorem d_M_constraints_12 : decode prog_15_method_27_code 12 = .ok (.ifCond .eq 4, 3) := fx_dat dk_M_constraints 7 rfl
theorem d_M_constraints_15 : decode prog_15_method_27_code 15 = .ok (.return_, 1) := fx_dat dk_M_constraints 8 rfl
theorem d_M_constraints_16 : decode prog_15_method_27_code 16 = .ok (.aload_n 0, 1) := fx_dat dk_M_constraints 9 rfl
theorem d_M_constraints_17 : decode prog_15_method_27_code 17 = .ok (.iload_n 2, 1) := fx_dat dk_M_constraints 10 rfl
theorem d_M_constraints_18 : decode prog_15_method_27_code 18 = .ok (.iload_n 1, 1) := fx_dat dk_M_constraints 11 rfl
theorem d_M_constraints_19 : decode prog_15_method_27_code 19 = .ok (.if_icmp .ne 7, 3) := fx_dat dk_M_constraints 12 rfl
theorem d_M_constraints_22 : decode prog_15_method_27_code 22 = .ok (.iconst 1, 1) := fx_dat dk_M_constraints 13 rfl
theorem d_M_constraints_23 : decode prog_15_method_27_code 23 = .ok (.goto 4, 3) := fx_dat dk_M_constraints 14 rfl
theorem d_M_constraints_26 : decode prog_15_method_27_code 26 = .ok (.iconst 0, 1) := fx_dat dk_M_constraints 15 rfl
theorem d_M_constraints_27 : decode prog_15_method_27_code 27 = .ok (.invokevirtual 143, 3) := fx_dat dk_M_constraints 16 rfl
theorem d_M_constraints_30 : decode prog_15_method_27_code 30 = .ok (.aload_n 0, 1) := fx_dat dk_M_constraints 17 rfl
theorem d_M_constraints_31 : decode prog_15_method_27_code 31 = .ok (.getfield 128, 3) := fx_dat dk_M_constraints 18 rfl
theorem d_M_constraints_34 : decode prog_15_method_27_code 34 = .ok (.iload_n 2, 1) := fx_dat dk_M_constraints 19 rfl
theorem d_M_constraints_35 : decode prog_15_method_27_code 35 = .ok (.if_icmp .ge 111, 3) := fx_dat dk_M_constraints 20 rfl
theorem d_M_constraints_38 : decode prog_15_method_27_code 38 = .ok (.aload_n 0, 1) := fx_dat dk_M_constraints 21 rfl
theorem d_M_constraints_39 : decode prog_15_method_27_code 39 = .ok (.aload_n 0, 1) := fx_dat dk_M_constraints 22 rfl
theorem d_M_constraints_40 : decode prog_15_method_27_code 40 = .ok (.getfield 128, 3) := fx_dat dk_M_constraints 23 rfl
theorem d_M_constraints_43 : decode prog_15_method_27_code 43 = .ok (.invokevirtual 131, 3) := fx_dat dk_M_constraints 24 rfl
theorem d_M_constraints_46 : decode prog_15_method_27_code 46 = .ok (.iconst 1, 1) := fx_dat dk_M_constraints 25 rfl
theorem d_M_constraints_47 : decode prog_15_method_27_code 47 = .ok (.if_icmp .ne 99, 3) := fx_dat dk_M_constraints 26 rfl
theorem d_M_constraints_50 : decode prog_15_method_27_code 50 = .ok (.aload_n 0, 1) := fx_dat dk_M_constraints 27 rfl
theorem d_M_constraints_51 : decode prog_15_method_27_code 51 = .ok (.iload_n 2, 1) := fx_dat dk_M_constraints 28 rfl
theorem d_M_constraints_52 : decode prog_15_method_27_code 52 = .ok (.invokevirtual 181, 3) := fx_dat dk_M_constraints 29 rfl
theorem d_M_constraints_55 : decode prog_15_method_27_code 55 = .ok (.aload_n 0, 1) := fx_dat dk_M_constraints 30 rfl
theorem d_M_constraints_56 : decode prog_15_method_27_code 56 = .ok (.iconst 1, 1) := fx_dat dk_M_constraints 31 rfl
theorem d_M_constraints_57 : decode prog_15_method_27_code 57 = .ok (.putfield 184, 3) := fx_dat dk_M_constraints 32 rfl
theorem d_M_constraints_60 : decode prog_15_method_27_code 60 = .ok (.aload_n 0, 1) := fx_dat dk_M_constraints 33 rfl
theorem d_M_constraints_61 : decode prog_15_method_27_code 61 = .ok (.getfield 124, 3) := fx_dat dk_M_constraints 34 rfl
theorem d_M_constraints_64 : decode prog_15_method_27_code 64 = .ok (.ifCond .ne 82, 3) := fx_dat dk_M_constraints 35 rfl
theorem d_M_constraints_67 : decode prog_15_method_27_code 67 = .ok (.aload_n 0, 1) := fx_dat dk_M_constraints 36 rfl
theorem d_M_constraints_68 : decode prog_15_method_27_code 68 = .ok (.getfield 128, 3) := fx_dat dk_M_constraints 37 rfl
theorem d_M_constraints_71 : decode prog_15_method_27_code 71 = .ok (.iload_n 2, 1) := fx_dat dk_M_constraints 38 rfl
theorem d_M_constraints_72 : decode prog_15_method_27_code 72 = .ok (.if_icmp .ge 74, 3) := fx_dat dk_M_constraints 39 rfl
theorem d_M_constraints_75 : decode prog_15_method_27_code 75 = .ok (.aload_n 0, 1) := fx_dat dk_M_constraints 40 rfl
theorem d_M_constraints_76 : decode prog_15_method_27_code 76 = .ok (.iconst 2, 1) := fx_dat dk_M_constraints 41 rfl
theorem d_M_constraints_77 : decode prog_15_method_27_code 77 = .ok (.iload_n 2, 1) := fx_dat dk_M_constraints 42 rfl
theorem d_M_constraints_78 : decode prog_15_method_27_code 78 = .ok (.invokevirtual 140, 3) := fx_dat dk_M_constraints 43 rfl
theorem d_M_constraints_81 : decode prog_15_method_27_code 81 = .ok (.istore_n 3, 1) := fx_dat dk_M_constraints 44 rfl
theorem d_M_constraints_82 : decode prog_15_method_27_code 82 = .ok (.aload_n 0, 1) := fx_dat dk_M_constraints 45 rfl
theorem d_M_constraints_83 : decode prog_15_method_27_code 83 = .ok (.getfield 124, 3) := fx_dat dk_M_constraints 46 rfl
theorem d_M_constraints_86 : decode prog_15_method_27_code 86 = .ok (.ifCond .ne 36, 3) := fx_dat dk_M_constraints 47 rfl
theorem d_M_constraints_89 : decode prog_15_method_27_code 89 = .ok (.aload_n 0, 1) := fx_dat dk_M_constraints 48 rfl
theorem d_M_constraints_90 : decode prog_15_method_27_code 90 = .ok (.iload_n 3, 1) := fx_dat dk_M_constraints 49 rfl
theorem d_M_constraints_91 : decode prog_15_method_27_code 91 = .ok (.aload_n 0, 1) := fx_dat dk_M_constraints 50 rfl
theorem d_M_constraints_92 : decode prog_15_method_27_code 92 = .ok (.getfield 128, 3) := fx_dat dk_M_constraints 51 rfl
theorem d_M_constraints_95 : decode prog_15_method_27_code 95 = .ok (.isub, 1) := fx_dat dk_M_constraints 52 rfl
theorem d_M_constraints_96 : decode prog_15_method_27_code 96 = .ok (.iconst 1, 1) := fx_dat dk_M_constraints 53 rfl
theorem d_M_constraints_97 : decode prog_15_method_27_code 97 = .ok (.if_icmp .ne 21, 3) := fx_dat dk_M_constraints 54 rfl
theorem d_M_constraints_100 : decode prog_15_method_27_code 100 = .ok (.aload_n 0, 1) := fx_dat dk_M_constraints 55 rfl
theorem d_M_constraints_101 : decode prog_15_method_27_code 101 = .ok (.aload_n 0, 1) := fx_dat dk_M_constraints 56 rfl
theorem d_M_constraints_102 : decode prog_15_method_27_code 102 = .ok (.getfield 128, 3) := fx_dat dk_M_constraints 57 rfl
theorem d_M_constraints_105 : decode prog_15_method_27_code 105 = .ok (.invokevirtual 131, 3) := fx_dat dk_M_constraints 58 rfl
theorem d_M_constraints_108 : decode prog_15_method_27_code 108 = .ok (.sipush 128, 3) := fx_dat dk_M_constraints 59 rfl
theorem d_M_constraints_111 : decode prog_15_method_27_code 111 = .ok (.if_icmp .ge 7, 3) := fx_dat dk_M_constraints 60 rfl
theorem d_M_constraints_114 : decode prog_15_method_27_code 114 = .ok (.iconst 1, 1) := fx_dat dk_M_constraints 61 rfl
theorem d_M_constraints_115 : decode prog_15_method_27_code 115 = .ok (.goto 4, 3) := fx_dat dk_M_constraints 62 rfl
theorem d_M_constraints_118 : decode prog_15_method_27_code 118 = .ok (.iconst 0, 1) := fx_dat dk_M_constraints 63 rfl
theorem d_M_constraints_119 : decode prog_15_method_27_code 119 = .ok (.invokevirtual 143, 3) := fx_dat dk_M_constraints 64 rfl
theorem d_M_constraints_122 : decode prog_15_method_27_code 122 = .ok (.aload_n 0, 1) := fx_dat dk_M_constraints 65 rfl
theorem d_M_constraints_123 : decode prog_15_method_27_code 123 = .ok (.getfield 124, 3) := fx_dat dk_M_constraints 66 rfl
theorem d_M_constraints_126 : decode prog_15_method_27_code 126 = .ok (.ifCond .ne 15, 3) := fx_dat dk_M_constraints 67 rfl
theorem d_M_constraints_129 : decode prog_15_method_27_code 129 = .ok (.aload_n 0, 1) := fx_dat dk_M_constraints 68 rfl
theorem d_M_constraints_130 : decode prog_15_method_27_code 130 = .ok (.aload_n 0, 1) := fx_dat dk_M_constraints 69 rfl
theorem d_M_constraints_131 : decode prog_15_method_27_code 131 = .ok (.aload_n 0, 1) := fx_dat dk_M_constraints 70 rfl
theorem d_M_constraints_132 : decode prog_15_method_27_code 132 = .ok (.getfield 128, 3) := fx_dat dk_M_constraints 71 rfl
theorem d_M_constraints_135 : decode prog_15_method_27_code 135 = .ok (.invokevirtual 131, 3) := fx_dat dk_M_constraints 72 rfl
theorem d_M_constraints_138 : decode prog_15_method_27_code 138 = .ok (.putfield 187, 3) := fx_dat dk_M_constraints 73 rfl
theorem d_M_constraints_141 : decode prog_15_method_27_code 141 = .ok (.aload_n 0, 1) := fx_dat dk_M_constraints 74 rfl
theorem d_M_constraints_142 : decode prog_15_method_27_code 142 = .ok (.iload_n 3, 1) := fx_dat dk_M_constraints 75 rfl
theorem d_M_constraints_143 : decode prog_15_method_27_code 143 = .ok (.putfield 128, 3) := fx_dat dk_M_constraints 76 rfl
theorem d_M_constraints_146 : decode prog_15_method_27_code 146 = .ok (.aload_n 0, 1) := fx_dat dk_M_constraints 77 rfl
theorem d_M_constraints_147 : decode prog_15_method_27_code 147 = .ok (.getfield 124, 3) := fx_dat dk_M_constraints 78 rfl
theorem d_M_constraints_150 : decode prog_15_method_27_code 150 = .ok (.ifCond .ne 20, 3) := fx_dat dk_M_constraints 79 rfl
theorem d_M_constraints_153 : decode prog_15_method_27_code 153 = .ok (.aload_n 0, 1) := fx_dat dk_M_constraints 80 rfl
theorem d_M_constraints_154 : decode prog_15_method_27_code 154 = .ok (.aload_n 0, 1) := fx_dat dk_M_constraints 81 rfl
theorem d_M_constraints_155 : decode prog_15_method_27_code 155 = .ok (.getfield 128, 3) := fx_dat dk_M_constraints 82 rfl
theorem d_M_constraints_158 : decode prog_15_method_27_code 158 = .ok (.iload_n 2, 1) := fx_dat dk_M_constraints 83 rfl
theorem d_M_constraints_159 : decode prog_15_method_27_code 159 = .ok (.if_icmp .ne 7, 3) := fx_dat dk_M_constraints 84 rfl
theorem d_M_constraints_162 : decode prog_15_method_27_code 162 = .ok (.iconst 1, 1) := fx_dat dk_M_constraints 85 rfl
theorem d_M_constraints_163 : decode prog_15_method_27_code 163 = .ok (.goto 4, 3) := fx_dat dk_M_constraints 86 rfl
theorem d_M_constraints_166 : decode prog_15_method_27_code 166 = .ok (.iconst 0, 1) := fx_dat dk_M_constraints 87 rfl
theorem d_M_constraints_167 : decode prog_15_method_27_code 167 = .ok (.invokevirtual 143, 3) := fx_dat dk_M_constraints 88 rfl
theorem d_M_constraints_170 : decode prog_15_method_27_code 170 = .ok (.return_, 1) := fx_dat dk_M_constraints 89 rfl
def m_M_constraints_170 (Q : AH → Prop) (h : AH) : Prop := Q h
def m_M_constraints_167 (Q : AH → Prop) (sr0 : Nat) (sx1 : Int32) (h : AH) : Prop := hp_k h sr0 = 13 ∧ m_M_need (fun h1 => fx_ext h h1 → m_M_constraints_170 Q h1) sr0 sx1 h
def m_M_constraints_146 (Q : AH → Prop) (r0 : Nat) (x2 : Int32) (h : AH) : Prop := hp_k h r0 = 13 ∧ (¬ (hp_I h r0 21) = 0 → m_M_constraints_170 Q h) ∧ ((hp_I h r0 21) = 0 → (¬ (hp_I h r0 20) = x2 → m_M_constraints_167 Q r0 (0 : Int32) h) ∧ ((hp_I h r0 20) = x2 → m_M_constraints_167 Q r0 (1 : Int32) h))
def m_M_constraints_141 (Q : AH → Prop) (r0 : Nat) (x2 : Int32) (x3 : Int32) (h : AH) : Prop := hp_k h r0 = 13 ∧ ∀ h1 : AH, h1 = up_I h r0 20 x3 → m_M_constraints_146 Q r0 x2 h1
def m_M_constraints_122 (Q : AH → Prop) (r0 : Nat) (x2 : Int32) (x3 : Int32) (h : AH) : Prop := hp_k h r0 = 13 ∧ (¬ (hp_I h r0 21) = 0 → m_M_constraints_141 Q r0 x2 x3 h) ∧ ((hp_I h r0 21) = 0 → m_M_here (fun v1 h1 => fx_ext h h1 → ∀ h2 : AH, h2 = up_I h1 r0 27 v1 → m_M_constraints_141 Q r0 x2 x3 h2) r0 (hp_I h r0 20) h)
def m_M_constraints_119 (Q : AH → Prop) (r0 : Nat) (x2 : Int32) (x3 : Int32) (sr0 : Nat) (sx1 : Int32) (h : AH) : Prop := hp_k h sr0 = 13 ∧ m_M_need (fun h1 => fx_ext h h1 → m_M_constraints_122 Q r0 x2 x3 h1) sr0 sx1 h
def m_M_constraints_118 (Q : AH → Prop) (r0 : Nat) (x2 : Int32) (x3 : Int32) (sr0 : Nat) (h : AH) : Prop := m_M_constraints_119 Q r0 x2 x3 sr0 (0 : Int32) h
def m_M_constraints_27 (Q : AH → Prop) (r0 : Nat) (x2 : Int32) (sr0 : Nat) (sx1 : Int32) (h : AH) : Prop := hp_k h sr0 = 13 ∧ m_M_need (fun h1 => fx_ext h h1 → hp_k h1 r0 = 13 ∧ (x2 ≤ (hp_I h1 r0 20) → m_M_constraints_146 Q r0 x2 h1) ∧ (¬ x2 ≤ (hp_I h1 r0 20) → m_M_here (fun v1 h2 => fx_ext h1 h2 → (¬ v1 = (1 : Int32) → m_M_constraints_146 Q r0 x2 h2) ∧ (v1 = (1 : Int32) → m_M_truth (fun h3 => fx_ext h2 h3 → ∀ h4 : AH, h4 = up_I h3 r0 25 (1 : Int32) → (¬ (hp_I h4 r0 21) = 0 → m_M_constraints_146 Q r0 x2 h4) ∧ ((hp_I h4 r0 21) = 0 → (x2 ≤ (hp_I h4 r0 20) → m_M_constraints_146 Q r0 x2 h4) ∧ (¬ x2 ≤ (hp_I h4 r0 20) → m_M_open (fun v2 h5 => fx_ext h4 h5 → (¬ (hp_I h5 r0 21) = 0 → m_M_constraints_122 Q r0 x2 v2 h5) ∧ ((hp_I h5 r0 21) = 0 → (¬ (v2 - (hp_I h5 r0 20)) = (1 : Int32) → m_M_constraints_118 Q r0 x2 v2 r0 h5) ∧ ((v2 - (hp_I h5 r0 20)) = (1 : Int32) → m_M_here (fun v3 h6 => fx_ext h5 h6 → ((128 : Int32) ≤ v3 → m_M_constraints_118 Q r0 x2 v2 r0 h6) ∧ (¬ (128 : Int32) ≤ v3 → m_M_constraints_119 Q r0 x2 v2 r0 (1 : Int32) h6)) r0 (hp_I h5 r0 20) h5))) r0 (2 : Int32) x2 h4))) r0 x2 h2)) r0 (hp_I h1 r0 20) h1)) sr0 sx1 h
def m_M_constraints (Q : AH → Prop) (r0 : Nat) (x1 : Int32) (h : AH) : Prop := hp_k h r0 = 13 ∧ m_M_open (fun v1 h1 => fx_ext h h1 → ((hp_I h1 r0 21) = 0 → (¬ v1 = x1 → m_M_constraints_27 Q r0 v1 r0 (0 : Int32) h1) ∧ (v1 = x1 → m_M_constraints_27 Q r0 v1 r0 (1 : Int32) h1)) ∧ (¬ (hp_I h1 r0 21) = 0 → Q h1)) r0 (48 : Int32) x1 h
theorem b_M_constraints_170 {p : Program} {l : Launch} {e : Env} {R : Room} {s : State} {m : MethodId} {args : Array Value} {below : List Frame} {meth : Method} {c : Code} {D : DD} {h0 : AH} {Q : AH → Prop} (C : fx_CX D y_M_constraints prog_15_method_27_code 4 3 46 (none) [] h0 p R s m meth c) (hl : l.flags = flags0) (h : AH) (hw : m_M_constraints_170 Q h) : ∀ (ls : Array Slot) (H : Heap) (locs : List Loc) (cells slots : Nat), lv_has ls 4 [] → fx_F D h0 h H locs cells slots → W p l e R s m args below meth c H locs cells slots (fx_Z D below s h0 (fx_oV Q fx_no)) (F0 m 170 ls []) := by
  unfold m_M_constraints_170 at hw
  intro ls H locs cells slots hv F
  exact fx_vret C F d_M_constraints_170 (Or.inl ⟨rfl, hw⟩)
theorem b_M_constraints_167 {p : Program} {l : Launch} {e : Env} {R : Room} {s : State} {m : MethodId} {args : Array Value} {below : List Frame} {meth : Method} {c : Code} {D : DD} {h0 : AH} {Q : AH → Prop} (C : fx_CX D y_M_constraints prog_15_method_27_code 4 3 46 (none) [] h0 p R s m meth c) (hl : l.flags = flags0) (sr0 : Nat) (sx1 : Int32) (h : AH) (hw : m_M_constraints_167 Q sr0 sx1 h) : ∀ (ls : Array Slot) (H : Heap) (locs : List Loc) (cells slots : Nat), lv_has ls 4 [] → fx_F D h0 h H locs cells slots → W p l e R s m args below meth c H locs cells slots (fx_Z D below s h0 (fx_oV Q fx_no)) (F0 m 167 ls [.int sx1, .ref sr0]) := by
  unfold m_M_constraints_167 at hw
  intro ls H locs cells slots hv F
  obtain ⟨hk1, hw⟩ := hw
  refine fx_callV C F (c_M_need hl hw) hm_M_need hi_M_need hv.1 (by decide) (Nat.le_of_ble_eq_true rfl) (iv_M_need C F lm_M_143 hk1 d_M_constraints_167) (fx_out0 _) fx_eno (fun h1 H locs cells slots hw hx1 F => ?_)
  replace hw := hw hx1
  have hk1 := (hx1).k hk1
  exact b_M_constraints_170 C hl _ hw _ _ _ _ _ hv F
theorem b_M_constraints_146 {p : Program} {l : Launch} {e : Env} {R : Room} {s : State} {m : MethodId} {args : Array Value} {below : List Frame} {meth : Method} {c : Code} {D : DD} {h0 : AH} {Q : AH → Prop} (C : fx_CX D y_M_constraints prog_15_method_27_code 4 3 46 (none) [] h0 p R s m meth c) (hl : l.flags = flags0) (r0 : Nat) (x2 : Int32) (h : AH) (hw : m_M_constraints_146 Q r0 x2 h) : ∀ (ls : Array Slot) (H : Heap) (locs : List Loc) (cells slots : Nat), lv_has ls 4 [(0, .ref r0), (2, .int x2)] → fx_F D h0 h H locs cells slots → W p l e R s m args below meth c H locs cells slots (fx_Z D below s h0 (fx_oV Q fx_no)) (F0 m 146 ls []) := by
  unfold m_M_constraints_146 at hw
  intro ls H locs cells slots hv F
  refine lv_aload_n C.ex C.by d_M_constraints_146 rfl (lv_at hv 0 rfl) ?_
  obtain ⟨hk1, hw⟩ := hw
  refine fx_getI C F lf_M_124 hk1 rfl d_M_constraints_147 ?_
  refine lv_if_ne C.ex C.by d_M_constraints_150 rfl (fun hc => ?_) (fun hc => ?_)
  · replace hw := hw.1 hc
    exact b_M_constraints_170 C hl _ hw _ _ _ _ _ (lv_sub hv [] rfl) F
  · replace hw := hw.2 hc
    refine lv_aload_n C.ex C.by d_M_constraints_153 rfl (lv_at hv 0 rfl) ?_
    refine lv_aload_n C.ex C.by d_M_constraints_154 rfl (lv_at hv 0 rfl) ?_
    refine fx_getI C F lf_M_128 hk1 rfl d_M_constraints_155 ?_
    refine lv_iload_n C.ex C.by d_M_constraints_158 rfl (lv_at hv 1 rfl) ?_
    refine lv_icmp_ne C.ex C.by d_M_constraints_159 rfl (fun hc => ?_) (fun hc => ?_)
    · replace hw := hw.1 hc
      refine lv_iconst (v := (0 : Int32)) C.ex C.by d_M_constraints_166 (by decide) ?_
      exact b_M_constraints_167 C hl _ _ _ hw _ _ _ _ _ (lv_sub hv [] rfl) F
    · replace hw := hw.2 hc
      refine lv_iconst (v := (1 : Int32)) C.ex C.by d_M_constraints_162 (by decide) ?_
      refine lv_goto C.ex C.by d_M_constraints_163 rfl ?_
      exact b_M_constraints_167 C hl _ _ _ hw _ _ _ _ _ (lv_sub hv [] rfl) F
theorem b_M_constraints_141 {p : Program} {l : Launch} {e : Env} {R : Room} {s : State} {m : MethodId} {args : Array Value} {below : List Frame} {meth : Method} {c : Code} {D : DD} {h0 : AH} {Q : AH → Prop} (C : fx_CX D y_M_constraints prog_15_method_27_code 4 3 46 (none) [] h0 p R s m meth c) (hl : l.flags = flags0) (r0 : Nat) (x2 : Int32) (x3 : Int32) (h : AH) (hw : m_M_constraints_141 Q r0 x2 x3 h) : ∀ (ls : Array Slot) (H : Heap) (locs : List Loc) (cells slots : Nat), lv_has ls 4 [(0, .ref r0), (2, .int x2), (3, .int x3)] → fx_F D h0 h H locs cells slots → W p l e R s m args below meth c H locs cells slots (fx_Z D below s h0 (fx_oV Q fx_no)) (F0 m 141 ls []) := by
  unfold m_M_constraints_141 at hw
  intro ls H locs cells slots hv F
  refine lv_aload_n C.ex C.by d_M_constraints_141 rfl (lv_at hv 0 rfl) ?_
  refine lv_iload_n C.ex C.by d_M_constraints_142 rfl (lv_at hv 2 rfl) ?_
  obtain ⟨hk1, hw⟩ := hw
  let h1 : AH := up_I h r0 20 x3
  replace hw := hw h1 rfl
  refine fx_putI C F lf_M_128 hk1 rfl rfl (fx_mayF.no rfl rfl) d_M_constraints_143 (fun H locs (F : fx_F D h0 h1 H locs _ _) => ?_)
  exact b_M_constraints_146 C hl _ _ _ hw _ _ _ _ _ (lv_sub hv [0, 1] rfl) F
theorem b_M_constraints_122 {p : Program} {l : Launch} {e : Env} {R : Room} {s : State} {m : MethodId} {args : Array Value} {below : List Frame} {meth : Method} {c : Code} {D : DD} {h0 : AH} {Q : AH → Prop} (C : fx_CX D y_M_constraints prog_15_method_27_code 4 3 46 (none) [] h0 p R s m meth c) (hl : l.flags = flags0) (r0 : Nat) (x2 : Int32) (x3 : Int32) (h : AH) (hw : m_M_constraints_122 Q r0 x2 x3 h) : ∀ (ls : Array Slot) (H : Heap) (locs : List Loc) (cells slots : Nat), lv_has ls 4 [(0, .ref r0), (2, .int x2), (3, .int x3)] → fx_F D h0 h H locs cells slots → W p l e R s m args below meth c H locs cells slots (fx_Z D below s h0 (fx_oV Q fx_no)) (F0 m 122 ls []) := by
  unfold m_M_constraints_122 at hw
  intro ls H locs cells slots hv F
  refine lv_aload_n C.ex C.by d_M_constraints_122 rfl (lv_at hv 0 rfl) ?_
  obtain ⟨hk1, hw⟩ := hw
  refine fx_getI C F lf_M_124 hk1 rfl d_M_constraints_123 ?_
  refine lv_if_ne C.ex C.by d_M_constraints_126 rfl (fun hc => ?_) (fun hc => ?_)
  · replace hw := hw.1 hc
    exact b_M_constraints_141 C hl _ _ _ _ hw _ _ _ _ _ hv F
  · replace hw := hw.2 hc
    refine lv_aload_n C.ex C.by d_M_constraints_129 rfl (lv_at hv 0 rfl) ?_
    refine lv_aload_n C.ex C.by d_M_constraints_130 rfl (lv_at hv 0 rfl) ?_
    refine lv_aload_n C.ex C.by d_M_constraints_131 rfl (lv_at hv 0 rfl) ?_
    refine fx_getI C F lf_M_128 hk1 rfl d_M_constraints_132 ?_
    refine fx_callI C F (c_M_here hl hw) hm_M_here hi_M_here hv.1 (by decide) (Nat.le_of_ble_eq_true rfl) (iv_M_here C F lm_M_131 hk1 d_M_constraints_135) (fx_out0 _) fx_eno (fun v1 h1 H locs cells slots hw hx1 F => ?_)
    replace hw := hw hx1
    have hk1 := (hx1).k hk1
    let h2 : AH := up_I h1 r0 27 v1
    replace hw := hw h2 rfl
    refine fx_putI C F lf_M_187 hk1 rfl rfl (fx_mayF.no rfl rfl) d_M_constraints_138 (fun H locs (F : fx_F D h0 h2 H locs _ _) => ?_)
    exact b_M_constraints_141 C hl _ _ _ _ hw _ _ _ _ _ hv F
theorem b_M_constraints_119 {p : Program} {l : Launch} {e : Env} {R : Room} {s : State} {m : MethodId} {args : Array Value} {below : List Frame} {meth : Method} {c : Code} {D : DD} {h0 : AH} {Q : AH → Prop} (C : fx_CX D y_M_constraints prog_15_method_27_code 4 3 46 (none) [] h0 p R s m meth c) (hl : l.flags = flags0) (r0 : Nat) (x2 : Int32) (x3 : Int32) (sr0 : Nat) (sx1 : Int32) (h : AH) (hw : m_M_constraints_119 Q r0 x2 x3 sr0 sx1 h) : ∀ (ls : Array Slot) (H : Heap) (locs : List Loc) (cells slots : Nat), lv_has ls 4 [(0, .ref r0), (2, .int x2), (3, .int x3)] → fx_F D h0 h H locs cells slots → W p l e R s m args below meth c H locs cells slots (fx_Z D below s h0 (fx_oV Q fx_no)) (F0 m 119 ls [.int sx1, .ref sr0]) := by
  unfold m_M_constraints_119 at hw
  intro ls H locs cells slots hv F
  obtain ⟨hk1, hw⟩ := hw
  refine fx_callV C F (c_M_need hl hw) hm_M_need hi_M_need hv.1 (by decide) (Nat.le_of_ble_eq_true rfl) (iv_M_need C F lm_M_143 hk1 d_M_constraints_119) (fx_out0 _) fx_eno (fun h1 H locs cells slots hw hx1 F => ?_)
  replace hw := hw hx1
  have hk1 := (hx1).k hk1
  exact b_M_constraints_122 C hl _ _ _ _ hw _ _ _ _ _ hv F
theorem b_M_constraints_118 {p : Program} {l : Launch} {e : Env} {R : Room} {s : State} {m : MethodId} {args : Array Value} {below : List Frame} {meth : Method} {c : Code} {D : DD} {h0 : AH} {Q : AH → Prop} (C : fx_CX D y_M_constraints prog_15_method_27_code 4 3 46 (none) [] h0 p R s m meth c) (hl : l.flags = flags0) (r0 : Nat) (x2 : Int32) (x3 : Int32) (sr0 : Nat) (h : AH) (hw : m_M_constraints_118 Q r0 x2 x3 sr0 h) : ∀ (ls : Array Slot) (H : Heap) (locs : List Loc) (cells slots : Nat), lv_has ls 4 [(0, .ref r0), (2, .int x2), (3, .int x3)] → fx_F D h0 h H locs cells slots → W p l e R s m args below meth c H locs cells slots (fx_Z D below s h0 (fx_oV Q fx_no)) (F0 m 118 ls [.ref sr0]) := by
  unfold m_M_constraints_118 at hw
  intro ls H locs cells slots hv F
  refine lv_iconst (v := (0 : Int32)) C.ex C.by d_M_constraints_118 (by decide) ?_
  exact b_M_constraints_119 C hl _ _ _ _ _ _ hw _ _ _ _ _ hv F
theorem b_M_constraints_27 {p : Program} {l : Launch} {e : Env} {R : Room} {s : State} {m : MethodId} {args : Array Value} {below : List Frame} {meth : Method} {c : Code} {D : DD} {h0 : AH} {Q : AH → Prop} (C : fx_CX D y_M_constraints prog_15_method_27_code 4 3 46 (none) [] h0 p R s m meth c) (hl : l.flags = flags0) (r0 : Nat) (x2 : Int32) (sr0 : Nat) (sx1 : Int32) (h : AH) (hw : m_M_constraints_27 Q r0 x2 sr0 sx1 h) : ∀ (ls : Array Slot) (H : Heap) (locs : List Loc) (cells slots : Nat), lv_has ls 4 [(0, .ref r0), (2, .int x2)] → fx_F D h0 h H locs cells slots → W p l e R s m args below meth c H locs cells slots (fx_Z D below s h0 (fx_oV Q fx_no)) (F0 m 27 ls [.int sx1, .ref sr0]) := by
  unfold m_M_constraints_27 at hw
  intro ls H locs cells slots hv F
  obtain ⟨hk1, hw⟩ := hw
  refine fx_callV C F (c_M_need hl hw) hm_M_need hi_M_need hv.1 (by decide) (Nat.le_of_ble_eq_true rfl) (iv_M_need C F lm_M_143 hk1 d_M_constraints_27) (fx_out0 _) fx_eno (fun h1 H locs cells slots hw hx1 F => ?_)
  replace hw := hw hx1
  have hk1 := (hx1).k hk1
  refine lv_aload_n C.ex C.by d_M_constraints_30 rfl (lv_at hv 0 rfl) ?_
  obtain ⟨hk2, hw⟩ := hw
  refine fx_getI C F lf_M_128 hk2 rfl d_M_constraints_31 ?_
  refine lv_iload_n C.ex C.by d_M_constraints_34 rfl (lv_at hv 1 rfl) ?_
  refine lv_icmp_ge C.ex C.by d_M_constraints_35 rfl (fun hc => ?_) (fun hc => ?_)
  · replace hw := hw.1 hc
    exact b_M_constraints_146 C hl _ _ _ hw _ _ _ _ _ hv F
  · replace hw := hw.2 hc
    refine lv_aload_n C.ex C.by d_M_constraints_38 rfl (lv_at hv 0 rfl) ?_
    refine lv_aload_n C.ex C.by d_M_constraints_39 rfl (lv_at hv 0 rfl) ?_
    refine fx_getI C F lf_M_128 hk2 rfl d_M_constraints_40 ?_
    refine fx_callI C F (c_M_here hl hw) hm_M_here hi_M_here hv.1 (by decide) (Nat.le_of_ble_eq_true rfl) (iv_M_here C F lm_M_131 hk2 d_M_constraints_43) (fx_out0 _) fx_eno (fun v1 h2 H locs cells slots hw hx2 F => ?_)
    replace hw := hw hx2
    have hk2 := (hx2).k hk2
    have hk1 := (hx2).k hk1
    refine lv_iconst (v := (1 : Int32)) C.ex C.by d_M_constraints_46 (by decide) ?_
    refine lv_icmp_ne C.ex C.by d_M_constraints_47 rfl (fun hc => ?_) (fun hc => ?_)
    · replace hw := hw.1 hc
      exact b_M_constraints_146 C hl _ _ _ hw _ _ _ _ _ hv F
    · replace hw := hw.2 hc
      refine lv_aload_n C.ex C.by d_M_constraints_50 rfl (lv_at hv 0 rfl) ?_
      refine lv_iload_n C.ex C.by d_M_constraints_51 rfl (lv_at hv 1 rfl) ?_
      refine fx_callV C F (c_M_truth hl hw) hm_M_truth hi_M_truth hv.1 (by decide) (Nat.le_of_ble_eq_true rfl) (iv_M_truth C F lm_M_181 hk2 d_M_constraints_52) (fx_out0 _) fx_eno (fun h3 H locs cells slots hw hx3 F => ?_)
      replace hw := hw hx3
      have hk2 := (hx3).k hk2
      have hk1 := (hx3).k hk1
      refine lv_aload_n C.ex C.by d_M_constraints_55 rfl (lv_at hv 0 rfl) ?_
      refine lv_iconst (v := (1 : Int32)) C.ex C.by d_M_constraints_56 (by decide) ?_
      let h4 : AH := up_I h3 r0 25 (1 : Int32)
      replace hw := hw h4 rfl
      refine fx_putZ C F lf_M_184 hk2 rfl rfl (Or.inr rfl) (fx_mayF.no rfl rfl) d_M_constraints_57 (fun H locs (F : fx_F D h0 h4 H locs _ _) => ?_)
      refine lv_aload_n C.ex C.by d_M_constraints_60 rfl (lv_at hv 0 rfl) ?_
      refine fx_getI C F lf_M_124 hk2 rfl d_M_constraints_61 ?_
      refine lv_if_ne C.ex C.by d_M_constraints_64 rfl (fun hc => ?_) (fun hc => ?_)
      · replace hw := hw.1 hc
        exact b_M_constraints_146 C hl _ _ _ hw _ _ _ _ _ hv F
      · replace hw := hw.2 hc
        refine lv_aload_n C.ex C.by d_M_constraints_67 rfl (lv_at hv 0 rfl) ?_
        refine fx_getI C F lf_M_128 hk2 rfl d_M_constraints_68 ?_
        refine lv_iload_n C.ex C.by d_M_constraints_71 rfl (lv_at hv 1 rfl) ?_
        refine lv_icmp_ge C.ex C.by d_M_constraints_72 rfl (fun hc => ?_) (fun hc => ?_)
        · replace hw := hw.1 hc
          exact b_M_constraints_146 C hl _ _ _ hw _ _ _ _ _ hv F
        · replace hw := hw.2 hc
          refine lv_aload_n C.ex C.by d_M_constraints_75 rfl (lv_at hv 0 rfl) ?_
          refine lv_iconst (v := (2 : Int32)) C.ex C.by d_M_constraints_76 (by decide) ?_
          refine lv_iload_n C.ex C.by d_M_constraints_77 rfl (lv_at hv 1 rfl) ?_
          refine fx_callI C F (c_M_open hl hw) hm_M_open hi_M_open hv.1 (by decide) (Nat.le_of_ble_eq_true rfl) (iv_M_open C F lm_M_140 hk2 d_M_constraints_78) (fx_out0 _) fx_eno (fun v2 h5 H locs cells slots hw hx4 F => ?_)
          replace hw := hw hx4
          have hk2 := (hx4).k hk2
          have hk1 := (hx4).k hk1
          refine lv_istore_n (lv' := [(3, .int v2), (0, .ref r0), (2, .int x2)]) C.ex C.by d_M_constraints_81 rfl hv (by decide) rfl (fun ls hv => ?_)
          refine lv_aload_n C.ex C.by d_M_constraints_82 rfl (lv_at hv 1 rfl) ?_
          refine fx_getI C F lf_M_124 hk2 rfl d_M_constraints_83 ?_
          refine lv_if_ne C.ex C.by d_M_constraints_86 rfl (fun hc => ?_) (fun hc => ?_)
          · replace hw := hw.1 hc
            exact b_M_constraints_122 C hl _ _ _ _ hw _ _ _ _ _ (lv_sub hv [1, 2, 0] rfl) F
          · replace hw := hw.2 hc
            refine lv_aload_n C.ex C.by d_M_constraints_89 rfl (lv_at hv 1 rfl) ?_
            refine lv_iload_n C.ex C.by d_M_constraints_90 rfl (lv_at hv 0 rfl) ?_
            refine lv_aload_n C.ex C.by d_M_constraints_91 rfl (lv_at hv 1 rfl) ?_
            refine fx_getI C F lf_M_128 hk2 rfl d_M_constraints_92 ?_
            refine lv_isub C.ex C.by d_M_constraints_95 ?_
            refine lv_iconst (v := (1 : Int32)) C.ex C.by d_M_constraints_96 (by decide) ?_
            refine lv_icmp_ne C.ex C.by d_M_constraints_97 rfl (fun hc => ?_) (fun hc => ?_)
            · replace hw := hw.1 hc
              exact b_M_constraints_118 C hl _ _ _ _ _ hw _ _ _ _ _ (lv_sub hv [1, 2, 0] rfl) F
            · replace hw := hw.2 hc
              refine lv_aload_n C.ex C.by d_M_constraints_100 rfl (lv_at hv 1 rfl) ?_
              refine lv_aload_n C.ex C.by d_M_constraints_101 rfl (lv_at hv 1 rfl) ?_
              refine fx_getI C F lf_M_128 hk2 rfl d_M_constraints_102 ?_
              refine fx_callI C F (c_M_here hl hw) hm_M_here hi_M_here hv.1 (by decide) (Nat.le_of_ble_eq_true rfl) (iv_M_here C F lm_M_131 hk2 d_M_constraints_105) (fx_out0 _) fx_eno (fun v3 h6 H locs cells slots hw hx5 F => ?_)
              replace hw := hw hx5
              have hk2 := (hx5).k hk2
              have hk1 := (hx5).k hk1
              refine lv_sipush (v := (128 : Int32)) C.ex C.by d_M_constraints_108 (by decide) ?_
              refine lv_icmp_ge C.ex C.by d_M_constraints_111 rfl (fun hc => ?_) (fun hc => ?_)
              · replace hw := hw.1 hc
                exact b_M_constraints_118 C hl _ _ _ _ _ hw _ _ _ _ _ (lv_sub hv [1, 2, 0] rfl) F
              · replace hw := hw.2 hc
                refine lv_iconst (v := (1 : Int32)) C.ex C.by d_M_constraints_114 (by decide) ?_
                refine lv_goto C.ex C.by d_M_constraints_115 rfl ?_
                exact b_M_constraints_119 C hl _ _ _ _ _ _ hw _ _ _ _ _ (lv_sub hv [1, 2, 0] rfl) F
theorem b_M_constraints_0 {p : Program} {l : Launch} {e : Env} {R : Room} {s : State} {m : MethodId} {args : Array Value} {below : List Frame} {meth : Method} {c : Code} {D : DD} {h0 : AH} {Q : AH → Prop} (C : fx_CX D y_M_constraints prog_15_method_27_code 4 3 46 (none) [] h0 p R s m meth c) (hl : l.flags = flags0) (r0 : Nat) (x1 : Int32) (h : AH) (hw : m_M_constraints Q r0 x1 h) : ∀ (ls : Array Slot) (H : Heap) (locs : List Loc) (cells slots : Nat), lv_has ls 4 [(0, .ref r0), (1, .int x1)] → fx_F D h0 h H locs cells slots → W p l e R s m args below meth c H locs cells slots (fx_Z D below s h0 (fx_oV Q fx_no)) (F0 m 0 ls []) := by
  unfold m_M_constraints at hw
  intro ls H locs cells slots hv F
  refine lv_aload_n C.ex C.by d_M_constraints_0 rfl (lv_at hv 0 rfl) ?_
  refine lv_bipush (v := (48 : Int32)) C.ex C.by d_M_constraints_1 (by decide) ?_
  refine lv_iload_n C.ex C.by d_M_constraints_3 rfl (lv_at hv 1 rfl) ?_
  obtain ⟨hk1, hw⟩ := hw
  refine fx_callI C F (c_M_open hl hw) hm_M_open hi_M_open hv.1 (by decide) (Nat.le_of_ble_eq_true rfl) (iv_M_open C F lm_M_140 hk1 d_M_constraints_4) (fx_out0 _) fx_eno (fun v1 h1 H locs cells slots hw hx1 F => ?_)
  replace hw := hw hx1
  have hk1 := (hx1).k hk1
  refine lv_istore_n (lv' := [(2, .int v1), (0, .ref r0), (1, .int x1)]) C.ex C.by d_M_constraints_7 rfl hv (by decide) rfl (fun ls hv => ?_)
  refine lv_aload_n C.ex C.by d_M_constraints_8 rfl (lv_at hv 1 rfl) ?_
  refine fx_getI C F lf_M_124 hk1 rfl d_M_constraints_9 ?_
  refine lv_if_eq C.ex C.by d_M_constraints_12 rfl (fun hc => ?_) (fun hc => ?_)
  · replace hw := hw.1 hc
    refine lv_aload_n C.ex C.by d_M_constraints_16 rfl (lv_at hv 1 rfl) ?_
    refine lv_iload_n C.ex C.by d_M_constraints_17 rfl (lv_at hv 0 rfl) ?_
    refine lv_iload_n C.ex C.by d_M_constraints_18 rfl (lv_at hv 2 rfl) ?_
    refine lv_icmp_ne C.ex C.by d_M_constraints_19 rfl (fun hc => ?_) (fun hc => ?_)
    · replace hw := hw.1 hc
      refine lv_iconst (v := (0 : Int32)) C.ex C.by d_M_constraints_26 (by decide) ?_
      exact b_M_constraints_27 C hl _ _ _ _ _ hw _ _ _ _ _ (lv_sub hv [1, 0] rfl) F
    · replace hw := hw.2 hc
      refine lv_iconst (v := (1 : Int32)) C.ex C.by d_M_constraints_22 (by decide) ?_
      refine lv_goto C.ex C.by d_M_constraints_23 rfl ?_
      exact b_M_constraints_27 C hl _ _ _ _ _ hw _ _ _ _ _ (lv_sub hv [1, 0] rfl) F
  · replace hw := hw.2 hc
    exact fx_vret C F d_M_constraints_15 (Or.inl ⟨rfl, hw⟩)
theorem hm_M_constraints : fx_hd y_M_constraints prog_15_method_27_code 4 (none) [] ∈ tables_1 := (fx_m7 (List.mem_of_getElem? (i := 55) rfl))
theorem hi_M_constraints : Cond.initialized y_M_constraints.cls ∈ tables_1 := (fx_m1 (List.mem_of_getElem? (i := 15) rfl))
theorem c_M_constraints {l : Launch} (hl : l.flags = flags0) {D : DD} {Q : AH → Prop} {r0 : Nat} {x1 : Int32} {h : AH} (hw : m_M_constraints Q r0 x1 h) : fx_Mt l D y_M_constraints (fx_hd y_M_constraints prog_15_method_27_code 4 (none) []) 3 46 [.ref r0, .int x1] h (fx_oV Q fx_no) := by
  refine fx_ofW (plainFor_of_name (by decide)) (fun p e s m below meth c C F => ?_)
  have hv := lv_entry ([.ref r0, .int x1]) (n := 4) (Nat.le_of_ble_eq_true rfl)
  rw [lg_entry_eq]
  generalize (lg_sl ([.ref r0, .int x1]) ++ List.replicate (4 - (lg_sl ([.ref r0, .int x1])).length) Slot.unset).toArray = ls at hv ⊢
  have hv : lv_has ls 4 [(0, .ref r0), (1, .int x1)] := hv
  exact b_M_constraints_0 C hl _ _ _ hw _ _ _ _ _ hv F
