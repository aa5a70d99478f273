set_option maxRecDepth 10000
/-! ChainJudgeModel.stands(IIJ)Z: frames 1, words 13 -/
abbrev y_M_stands : MethodName := ⟨"ChainJudgeModel", "stands", "(IIJ)Z"⟩
def dl_M_stands : List (Nat × Instr × Nat) := [(0, .iconst 0, 1), (1, .istore 5, 2), (3, .iload 5, 2), (5, .iload_n 2, 1), (6, .if_icmp .ge 38, 3), (9, .aload_n 0, 1), (10, .iload_n 1, 1), (11, .iload 5, 2), (13, .iadd, 1), (14, .invokevirtual 131, 3), (17, .lload_n 3, 1), (18, .bipush 8, 2), (20, .iload_n 2, 1), (21, .iconst 1, 1), (22, .isub, 1), (23, .iload 5, 2), (25, .isub, 1), (26, .imul, 1), (27, .lshr, 1), (28, .ldc2_w 138, 3), (31, .land, 1), (32, .l2i, 1), (33, .if_icmp .eq 5, 3), (36, .iconst 0, 1), (37, .ireturn, 1), (38, .iinc 5 1, 3), (41, .goto (-38), 3), (44, .iconst 1, 1), (45, .ireturn, 1)]
theorem dk_M_stands : fx_dec prog_15_method_18_code dl_M_stands = true := by decide +kernel
theorem d_M_stands_0 : decode prog_15_method_18_code 0 = .ok (.iconst 0, 1) := fx_dat dk_M_stands 0 rfl
theorem d_M_stands_1 : decode prog_15_method_18_code 1 = .ok (.istore 5, 2) := fx_dat dk_M_stands 1 rfl
theorem d_M_stands_3 : decode prog_15_method_18_code 3 = .ok (.iload 5, 2) := fx_dat dk_M_stands 2 rfl
theorem d_M_stands_5 : decode prog_15_method_18_code 5 = .ok (.iload_n 2, 1) := fx_dat dk_M_stands 3 rfl
theorem d_M_stands_6 : decode prog_15_method_18_code 6 = .ok (.if_icmp .ge 38, 3) := fx_dat dk_M_stands 4 rfl
theorem d_M_stands_9 : decode prog_15_method_18_code 9 = .ok (.aload_n 0, 1) := fx_dat dk_M_stands 5 rfl
theorem d_M_stands_10 : decode prog_15_method_18_code 10 = .ok (.iload_n 1, 1) := fx_dat dk_M_stands 6 rfl
theorem d_M_stands_11 : decode prog_15_method_18_code 11 = .ok (.iload 5, 2) := fx_dat dk_M_stands 7 rfl
theorem d_M_stands_13 : decode prog_15_method_18_code 13 = .ok (.iadd, 1) := fx_dat dk_M_stands 8 rfl
theorem d_M_stands_14 : decode prog_15_method_18_code 14 = .ok (.invokevirtual 131, 3) := fx_dat dk_M_stands 9 rfl
theorem d_M_stands_17 : decode prog_15_method_18_code 17 = .ok (.lload_n 3, 1) := fx_dat dk_M_stands 10 rfl
theorem d_M_stands_18 : decode prog_15_method_18_code 18 = .ok (.bipush 8, 2) := fx_dat dk_M_stands 11 rfl
theorem d_M_stands_20 : decode prog_15_method_18_code 20 = .ok (.iload_n 2, 1) := fx_dat dk_M_stands 12 rfl
theorem d_M_stands_21 : decode prog_15_method_18_code 21 = .ok (.iconst 1, 1) := fx_dat dk_M_stands 13 rfl
theorem d_M_stands_22 : decode prog_15_method_18_code 22 = .ok (.isub, 1) := fx_dat dk_M_stands 14 rfl
theorem d_M_stands_23 : decode prog_15_method_18_code 23 = .ok (.iload 5, 2) := fx_dat dk_M_stands 15 rfl
theorem d_M_stands_25 : decode prog_15_method_18_code 25 = .ok (.isub, 1) := fx_dat dk_M_stands 16 rfl
theorem d_M_stands_26 : decode prog_15_method_18_code 26 = .ok (.imul, 1) := fx_dat dk_M_stands 17 rfl
theorem d_M_stands_27 : decode prog_15_method_18_code 27 = .ok (.lshr, 1) := fx_dat dk_M_stands 18 rfl
theorem d_M_stands_28 : decode prog_15_method_18_code 28 = .ok (.ldc2_w 138, 3) := fx_dat dk_M_stands 19 rfl
theorem d_M_stands_31 : decode prog_15_method_18_code 31 = .ok (.land, 1) := fx_dat dk_M_stands 20 rfl
theorem d_M_stands_32 : decode prog_15_method_18_code 32 = .ok (.l2i, 1) := fx_dat dk_M_stands 21 rfl
theorem d_M_stands_33 : decode prog_15_method_18_code 33 = .ok (.if_icmp .eq 5, 3) := fx_dat dk_M_stands 22 rfl
theorem d_M_stands_36 : decode prog_15_method_18_code 36 = .ok (.iconst 0, 1) := fx_dat dk_M_stands 23 rfl
theorem d_M_stands_37 : decode prog_15_method_18_code 37 = .ok (.ireturn, 1) := fx_dat dk_M_stands 24 rfl
theorem d_M_stands_38 : decode prog_15_method_18_code 38 = .ok (.iinc 5 1, 3) := fx_dat dk_M_stands 25 rfl
theorem d_M_stands_41 : decode prog_15_method_18_code 41 = .ok (.goto (-38), 3) := fx_dat dk_M_stands 26 rfl
theorem d_M_stands_44 : decode prog_15_method_18_code 44 = .ok (.iconst 1, 1) := fx_dat dk_M_stands 27 rfl
theorem d_M_stands_45 : decode prog_15_method_18_code 45 = .ok (.ireturn, 1) := fx_dat dk_M_stands 28 rfl
def m_M_stands_3_b (Q : Int32 → AH → Prop) (X3 : Int32 × AH → Prop) (r0 : Nat) (x1 : Int32) (x2 : Int32) (w3 : Int64) (x5 : Int32) (h : AH) : Prop := (x2 ≤ x5 → Q (1 : Int32) h) ∧ (¬ x2 ≤ x5 → hp_k h r0 = 13 ∧ m_M_here (fun v1 h1 => fx_ext h h1 → (v1 = ((((sh_lr w3 ((8 : Int32) * ((x2 - (1 : Int32)) - x5))) &&& (255 : Int64))).toInt32) → ∀ v2 : Int32, v2 = (x5 + (1 : Int32)) → X3 (v2, h1)) ∧ (¬ v1 = ((((sh_lr w3 ((8 : Int32) * ((x2 - (1 : Int32)) - x5))) &&& (255 : Int64))).toInt32) → Q (0 : Int32) h1)) r0 (x1 + x5) h)
def m_M_stands_3 (Q : Int32 → AH → Prop) (r0 : Nat) (x1 : Int32) (x2 : Int32) (w3 : Int64) (x5 : Int32) (h : AH) : Prop := fx_loop (fun (X3 : Int32 × AH → Prop) (st : Int32 × AH) => m_M_stands_3_b Q X3 r0 x1 x2 w3 st.1 st.2) (x5, h)
def m_M_stands (Q : Int32 → AH → Prop) (r0 : Nat) (x1 : Int32) (x2 : Int32) (w3 : Int64) (h : AH) : Prop := m_M_stands_3 Q r0 x1 x2 w3 (0 : Int32) h
theorem b_M_stands_3 {p : Program} {l : Launch} {e : Env} {R : Room} {s : State} {m : MethodId} {args : Array Value} {below : List Frame} {meth : Method} {c : Code} {D : DD} {h0 : AH} {Q : Int32 → AH → Prop} (C : fx_CX D y_M_stands prog_15_method_18_code 6 1 13 (Option.some FieldType.boolean) [] h0 p R s m meth c) (hl : l.flags = flags0) (r0 : Nat) (x1 : Int32) (x2 : Int32) (w3 : Int64) (x5 : Int32) (h : AH) (hw : m_M_stands_3 Q r0 x1 x2 w3 x5 h) : ∀ (ls : Array Slot) (H : Heap) (locs : List Loc) (cells slots : Nat), lv_has ls 6 [(0, .ref r0), (1, .int x1), (2, .int x2), (3, .long w3), (5, .int x5)] → fx_F D h0 h H locs cells slots → W p l e R s m args below meth c H locs cells slots (fx_Z D below s h0 (fx_oZ Q fx_no)) (F0 m 3 ls []) := by
  refine fx_loop.use hw (fun st => ∀ (ls : Array Slot) (H : Heap) (locs : List Loc) (cells slots : Nat), lv_has ls 6 [(0, .ref r0), (1, .int x1), (2, .int x2), (3, .long w3), (5, .int st.1)] → fx_F D h0 st.2 H locs cells slots → W p l e R s m args below meth c H locs cells slots (fx_Z D below s h0 (fx_oZ Q fx_no)) (F0 m 3 ls [])) (fun X3 st hX3 hw => ?_)
  obtain ⟨x5, h⟩ := st
  replace hw : m_M_stands_3_b Q X3 r0 x1 x2 w3 x5 h := hw
  unfold m_M_stands_3_b at hw
  intro ls H locs cells slots hv F
  refine lv_iload C.ex C.by d_M_stands_3 (lv_at hv 4 rfl) ?_
  refine lv_iload_n C.ex C.by d_M_stands_5 rfl (lv_at hv 2 rfl) ?_
  refine lv_icmp_ge C.ex C.by d_M_stands_6 rfl (fun hc => ?_) (fun hc => ?_)
  · replace hw := hw.1 hc
    refine lv_iconst (v := (1 : Int32)) C.ex C.by d_M_stands_44 (by decide) ?_
    exact fx_zret C F d_M_stands_45 (Or.inr rfl) (Or.inl ⟨_, rfl, Or.inr rfl, hw⟩)
  · replace hw := hw.2 hc
    refine lv_aload_n C.ex C.by d_M_stands_9 rfl (lv_at hv 0 rfl) ?_
    refine lv_iload_n C.ex C.by d_M_stands_10 rfl (lv_at hv 1 rfl) ?_
    refine lv_iload C.ex C.by d_M_stands_11 (lv_at hv 4 rfl) ?_
    refine lv_iadd C.ex C.by d_M_stands_13 ?_
    obtain ⟨hk1, hw⟩ := hw
    refine fx_callI C F (c_M_here hl hw) hm_M_here hi_M_here hv.1 (by decide) (Nat.le_of_ble_eq_true rfl) (iv_M_here C F lm_M_131 hk1 d_M_stands_14) (fx_out0 _) fx_eno (fun v1 h1 H locs cells slots hw hx1 F => ?_)
    replace hw := hw hx1
    have hk1 := (hx1).k hk1
    refine lv_lload_n C.ex C.by d_M_stands_17 rfl (lv_at hv 3 rfl) ?_
    refine lv_bipush (v := (8 : Int32)) C.ex C.by d_M_stands_18 (by decide) ?_
    refine lv_iload_n C.ex C.by d_M_stands_20 rfl (lv_at hv 2 rfl) ?_
    refine lv_iconst (v := (1 : Int32)) C.ex C.by d_M_stands_21 (by decide) ?_
    refine lv_isub C.ex C.by d_M_stands_22 ?_
    refine lv_iload C.ex C.by d_M_stands_23 (lv_at hv 4 rfl) ?_
    refine lv_isub C.ex C.by d_M_stands_25 ?_
    refine lv_imul C.ex C.by d_M_stands_26 ?_
    refine lv_lshr (v := (sh_lr w3 ((8 : Int32) * ((x2 - (1 : Int32)) - x5)))) C.ex C.by d_M_stands_27 rfl ?_
    refine lv_ldc2 (v := (255 : Int64)) C.ex C.by C.ow (C.tw.at (fx_m7 (List.mem_of_getElem? (i := 0) rfl)) rfl rfl) d_M_stands_28 ?_
    refine lv_land C.ex C.by d_M_stands_31 ?_
    refine lv_l2i (v := ((((sh_lr w3 ((8 : Int32) * ((x2 - (1 : Int32)) - x5))) &&& (255 : Int64))).toInt32)) C.ex C.by d_M_stands_32 rfl ?_
    refine lv_icmp_eq C.ex C.by d_M_stands_33 rfl (fun hc => ?_) (fun hc => ?_)
    · replace hw := hw.1 hc
      let v2 : Int32 := (x5 + (1 : Int32))
      replace hw := hw v2 rfl
      refine lv_iinc (v := v2) (k := 4) (lv' := [(5, .int v2), (0, .ref r0), (1, .int x1), (2, .int x2), (3, .long w3)]) C.ex C.by d_M_stands_38 hv rfl (congrArg (fun z => x5 + z) (by decide)) (by decide) rfl (fun ls hv => ?_)
      refine lv_goto C.ex C.by d_M_stands_41 rfl ?_
      exact hX3 _ hw _ _ _ _ _ (lv_sub hv [1, 2, 3, 4, 0] rfl) F
    · replace hw := hw.2 hc
      refine lv_iconst (v := (0 : Int32)) C.ex C.by d_M_stands_36 (by decide) ?_
      exact fx_zret C F d_M_stands_37 (Or.inl rfl) (Or.inl ⟨_, rfl, Or.inl rfl, hw⟩)
theorem b_M_stands_0 {p : Program} {l : Launch} {e : Env} {R : Room} {s : State} {m : MethodId} {args : Array Value} {below : List Frame} {meth : Method} {c : Code} {D : DD} {h0 : AH} {Q : Int32 → AH → Prop} (C : fx_CX D y_M_stands prog_15_method_18_code 6 1 13 (Option.some FieldType.boolean) [] h0 p R s m meth c) (hl : l.flags = flags0) (r0 : Nat) (x1 : Int32) (x2 : Int32) (w3 : Int64) (h : AH) (hw : m_M_stands Q r0 x1 x2 w3 h) : ∀ (ls : Array Slot) (H : Heap) (locs : List Loc) (cells slots : Nat), lv_has ls 6 [(0, .ref r0), (1, .int x1), (2, .int x2), (3, .long w3)] → fx_F D h0 h H locs cells slots → W p l e R s m args below meth c H locs cells slots (fx_Z D below s h0 (fx_oZ Q fx_no)) (F0 m 0 ls []) := by
  unfold m_M_stands at hw
  intro ls H locs cells slots hv F
  refine lv_iconst (v := (0 : Int32)) C.ex C.by d_M_stands_0 (by decide) ?_
  refine lv_istore (lv' := [(5, .int (0 : Int32)), (0, .ref r0), (1, .int x1), (2, .int x2), (3, .long w3)]) C.ex C.by d_M_stands_1 hv (by decide) rfl (fun ls hv => ?_)
  exact b_M_stands_3 C hl _ _ _ _ _ _ hw _ _ _ _ _ (lv_sub hv [1, 2, 3, 4, 0] rfl) F
theorem hm_M_stands : fx_hd y_M_stands prog_15_method_18_code 6 (Option.some FieldType.boolean) [] ∈ tables_1 := (fx_m6 (List.mem_of_getElem? (i := 239) rfl))
theorem hi_M_stands : Cond.initialized y_M_stands.cls ∈ tables_1 := (fx_m1 (List.mem_of_getElem? (i := 15) rfl))
theorem c_M_stands {l : Launch} (hl : l.flags = flags0) {D : DD} {Q : Int32 → AH → Prop} {r0 : Nat} {x1 : Int32} {x2 : Int32} {w3 : Int64} {h : AH} (hw : m_M_stands Q r0 x1 x2 w3 h) : fx_Mt l D y_M_stands (fx_hd y_M_stands prog_15_method_18_code 6 (Option.some FieldType.boolean) []) 1 13 [.ref r0, .int x1, .int x2, .long w3] h (fx_oZ Q fx_no) := by
  refine fx_ofW (plainFor_of_name (by decide)) (fun p e s m below meth c C F => ?_)
  have hv := lv_entry ([.ref r0, .int x1, .int x2, .long w3]) (n := 6) (Nat.le_of_ble_eq_true rfl)
  rw [lg_entry_eq]
  generalize (lg_sl ([.ref r0, .int x1, .int x2, .long w3]) ++ List.replicate (6 - (lg_sl ([.ref r0, .int x1, .int x2, .long w3])).length) Slot.unset).toArray = ls at hv ⊢
  have hv : lv_has ls 6 [(0, .ref r0), (1, .int x1), (2, .int x2), (3, .long w3)] := hv
  exact b_M_stands_0 C hl _ _ _ _ _ hw _ _ _ _ _ hv F
/-! ChainJudgeModel.algorithm(I)V: frames 2, words 32 -/
abbrev y_M_algorithm : MethodName := ⟨"ChainJudgeModel", "algorithm", "(I)V"⟩
theorem lm_M_149 : Cond.methodLink "ChainJudgeModel" 149 y_M_stands ∈ tables_1 ∨ ∃ host, Cond.methodLinkNest "ChainJudgeModel" 149 y_M_stands host ∈ tables_1 := Or.inl (fx_m6 (List.mem_of_getElem? (i := 236) rfl))
section
variable {p : Program} {l : Launch} {e : Env} {R : Room} {s : State} {m : MethodId} {args : Array Value} {below : List Frame} {meth : Method} {c : Code} {H : Heap} {locs : List Loc} {cells slots : Nat}
variable {D : DD} {y : MethodName} {cc : ByteArray} {nL kf kw : Nat} {ret : Option FieldType} {hh : List (Nat × Nat × Nat × Nat)} {h0 h : AH} {pc : Nat} {ls : Array Slot} {rest : List Value} {b idx : Nat}
theorem iv_M_stands {x1 : Int32} {x2 : Int32} {w3 : Int64} (C : fx_CX D y cc nL kf kw ret hh h0 p R s m meth c) (F : fx_F D h0 h H locs cells slots) (hw1 : Cond.methodLink y.cls idx y_M_stands ∈ tables_1 ∨ ∃ host, Cond.methodLinkNest y.cls idx y_M_stands host ∈ tables_1) (hk : hp_k h b = 13) (hd : decode cc pc = .ok (.invokevirtual idx, 3)) : fx_IV p l e R s m args below meth c H locs cells slots (F0 m pc ls (.long w3 :: .int x2 :: .int x1 :: .ref b :: rest)) rest y_M_stands [.ref b, .int x1, .int x2, .long w3] 3 := fun T hT X => fx_invV (As := [.int x1, .int x2, .long w3]) (Cn := "ChainJudgeModel") C X hw1 (fx_m6 (List.mem_of_getElem? (i := 238) rfl)) (fx_selP C ⟨by decide, by decide⟩ (fx_m5 (List.mem_of_getElem? (i := 217) rfl)) (fx_m6 (List.mem_of_getElem? (i := 237) rfl)) (fx_m6 (List.mem_of_getElem? (i := 238) rfl))) hm_M_stands ⟨by decide, by decide⟩ (by rw [hT]; exact fx_clsO (ci := 12) (r := ("ChainJudgeModel", fx_T12, 57)) C F rfl (by decide) hk) rfl (n := 3) (by decide +kernel) rfl rfl hd
end
def dl_M_algorithm : List (Nat × Instr × Nat) := [(0, .aload_n 0, 1), (1, .bipush 48, 2), (3, .iload_n 1, 1), (4, .invokevirtual 140, 3), (7, .istore_n 2, 1), (8, .aload_n 0, 1), (9, .getfield 124, 3), (12, .ifCond .eq 4, 3), (15, .return_, 1), (16, .aload_n 0, 1), (17, .iload_n 2, 1), (18, .aload_n 0, 1), (19, .getfield 128, 3), (22, .isub, 1), (23, .bipush 10, 2), (25, .if_icmp .ne 40, 3), (28, .aload_n 0, 1), (29, .aload_n 0, 1), (30, .getfield 128, 3), (33, .iconst 2, 1), (34, .ldc2_w 147, 3), (37, .invokevirtual 149, 3), (40, .ifCond .eq 25, 3), (43, .aload_n 0, 1), (44, .aload_n 0, 1), (45, .getfield 128, 3), (48, .iconst 2, 1), (49, .iadd, 1), (50, .bipush 8, 2), (52, .ldc2_w 153, 3), (55, .invokevirtual 149, 3), (58, .ifCond .eq 7, 3), (61, .iconst 1, 1), (62, .goto 4, 3), (65, .iconst 0, 1), (66, .invokevirtual 143, 3), (69, .aload_n 0, 1), (70, .iload_n 2, 1), (71, .putfield 128, 3), (74, .return_, 1)]
theorem dk_M_algorithm : fx_dec prog_15_method_20_code dl_M_algorithm = true := by decide +kernel
theorem d_M_algorithm_0 : decode prog_15_method_20_code 0 = .ok (.aload_n 0, 1) := fx_dat dk_M_algorithm 0 rfl
theorem d_M_algorithm_1 : decode prog_15_method_20_code 1 = .ok (.bipush 48, 2) := fx_dat dk_M_algorithm 1 rfl
theorem d_M_algorithm_3 : decode prog_15_method_20_code 3 = .ok (.iload_n 1, 1) := fx_dat dk_M_algorithm 2 rfl
theorem d_M_algorithm_4 : decode prog_15_method_20_code 4 = .ok (.invokevirtual 140, 3) := fx_dat dk_M_algorithm 3 rfl
theorem d_M_algorithm_7 : decode prog_15_method_20_code 7 = .ok (.istore_n 2, 1) := fx_dat dk_M_algorithm 4 rfl
theorem d_M_algorithm_8 : decode prog_15_method_20_code 8 = .ok (.aload_n 0, 1) := fx_dat dk_M_algorithm 5 rfl
theorem d_M_algorithm_9 : decode prog_15_method_20_code 9 = .ok (.getfield 124, 3) := fx_dat dk_M_algorithm 6 rfl
theorem d_M_algorithm_12 : decode prog_15_method_20_code 12 = .ok (.ifCond .eq 4, 3) := fx_dat dk_M_algorithm 7 rfl
theorem d_M_algorithm_15 : decode prog_15_method_20_code 15 = .ok (.return_, 1) := fx_dat dk_M_algorithm 8 rfl
theorem d_M_algorithm_16 : decode prog_15_method_20_code 16 = .ok (.aload_n 0, 1) := fx_dat dk_M_algorithm 9 rfl
theorem d_M_algorithm_17 : decode prog_15_method_20_code 17 = .ok (.iload_n 2, 1) := fx_dat dk_M_algorithm 10 rfl
theorem d_M_algorithm_18 : decode prog_15_method_20_code 18 = .ok (.aload_n 0, 1) := fx_dat dk_M_algorithm 11 rfl
theorem d_M_algorithm_19 : decode prog_15_method_20_code 19 = .ok (.getfield 128, 3) := fx_dat dk_M_algorithm 12 rfl
theorem d_M_algorithm_22 : decode prog_15_method_20_code 22 = .ok (.isub, 1) := fx_dat dk_M_algorithm 13 rfl
theorem d_M_algorithm_23 : decode prog_15_method_20_code 23 = .ok (.bipush 10, 2) := fx_dat dk_M_algorithm 14 rfl
theorem d_M_algorithm_25 : decode prog_15_method_20_code 25 = .ok (.if_icmp .ne 40, 3) := fx_dat dk_M_algorithm 15 rfl
theorem d_M_algorithm_28 : decode prog_15_method_20_code 28 = .ok (.aload_n 0, 1) := fx_dat dk_M_algorithm 16 rfl
theorem d_M_algorithm_29 : decode prog_15_method_20_code 29 = .ok (.aload_n 0, 1) := fx_dat dk_M_algorithm 17 rfl
theorem d_M_algorithm_30 : decode prog_15_method_20_code 30 = .ok (.getfield 128, 3) := fx_dat dk_M_algorithm 18 rfl
theorem d_M_algorithm_33 : decode prog_15_method_20_code 33 = .ok (.iconst 2, 1) := fx_dat dk_M_algorithm 19 rfl
theorem d_M_algorithm_34 : decode prog_15_method_20_code 34 = .ok (.ldc2_w 147, 3) := fx_dat dk_M_algorithm 20 rfl
theorem d_M_algorithm_37 : decode prog_15_method_20_code 37 = .ok (.invokevirtual 149, 3) := fx_dat dk_M_algorithm 21 rfl
theorem d_M_algorithm_40 : decode prog_15_method_20_code 40 = .ok (.ifCond .eq 25, 3) := fx_dat dk_M_algorithm 22 rfl
theorem d_M_algorithm_43 : decode prog_15_method_20_code 43 = .ok (.aload_n 0, 1) := fx_dat dk_M_algorithm 23 rfl
theorem d_M_algorithm_44 : decode prog_15_method_20_code 44 = .ok (.aload_n 0, 1) := fx_dat dk_M_algorithm 24 rfl
theorem d_M_algorithm_45 : decode prog_15_method_20_code 45 = .ok (.getfield 128, 3) := fx_dat dk_M_algorithm 25 rfl
theorem d_M_algorithm_48 : decode prog_15_method_20_code 48 = .ok (.iconst 2, 1) := fx_dat dk_M_algorithm 26 rfl
theorem d_M_algorithm_49 : decode prog_15_method_20_code 49 = .ok (.iadd, 1) := fx_dat dk_M_algorithm 27 rfl
theorem d_M_algorithm_50 : decode prog_15_method_20_code 50 = .ok (.bipush 8, 2) := fx_dat dk_M_algorithm 28 rfl
theorem d_M_algorithm_52 : decode prog_15_method_20_code 52 = .ok (.ldc2_w 153, 3) := fx_dat dk_M_algorithm 29 rfl
theorem d_M_algorithm_55 : decode prog_15_method_20_code 55 = .ok (.invokevirtual 149, 3) := fx_dat dk_M_algorithm 30 rfl
theorem d_M_algorithm_58 : decode prog_15_method_20_code 58 = .ok (.ifCond .eq 7, 3) := fx_dat dk_M_algorithm 31 rfl
theorem d_M_algorithm_61 : decode prog_15_method_20_code 61 = .ok (.iconst 1, 1) := fx_dat dk_M_algorithm 32 rfl
theorem d_M_algorithm_62 : decode prog_15_method_20_code 62 = .ok (.goto 4, 3) := fx_dat dk_M_algorithm 33 rfl
theorem d_M_algorithm_65 : decode prog_15_method_20_code 65 = .ok (.iconst 0, 1) := fx_dat dk_M_algorithm 34 rfl
theorem d_M_algorithm_66 : decode prog_15_method_20_code 66 = .ok (.invokevirtual 143, 3) := fx_dat dk_M_algorithm 35 rfl
theorem d_M_algorithm_69 : decode prog_15_method_20_code 69 = .ok (.aload_n 0, 1) := fx_dat dk_M_algorithm 36 rfl
theorem d_M_algorithm_70 : decode prog_15_method_20_code 70 = .ok (.iload_n 2, 1) := fx_dat dk_M_algorithm 37 rfl
theorem d_M_algorithm_71 : decode prog_15_method_20_code 71 = .ok (.putfield 128, 3) := fx_dat dk_M_algorithm 38 rfl
theorem d_M_algorithm_74 : decode prog_15_method_20_code 74 = .ok (.return_, 1) := fx_dat dk_M_algorithm 39 rfl
def m_M_algorithm_66 (Q : AH → Prop) (r0 : Nat) (x2 : Int32) (sr0 : Nat) (sx1 : Int32) (h : AH) : Prop := hp_k h sr0 = 13 ∧ m_M_need (fun h1 => fx_ext h h1 → hp_k h1 r0 = 13 ∧ ∀ h2 : AH, h2 = up_I h1 r0 20 x2 → Q h2) sr0 sx1 h
def m_M_algorithm_65 (Q : AH → Prop) (r0 : Nat) (x2 : Int32) (sr0 : Nat) (h : AH) : Prop := m_M_algorithm_66 Q r0 x2 sr0 (0 : Int32) h
def m_M_algorithm (Q : AH → Prop) (r0 : Nat) (x1 : Int32) (h : AH) : Prop := hp_k h r0 = 13 ∧ m_M_open (fun v1 h1 => fx_ext h h1 → ((hp_I h1 r0 21) = 0 → (¬ (v1 - (hp_I h1 r0 20)) = (10 : Int32) → m_M_algorithm_65 Q r0 v1 r0 h1) ∧ ((v1 - (hp_I h1 r0 20)) = (10 : Int32) → m_M_stands (fun v2 h2 => fx_ext h1 h2 → zb v2 → (v2 = 0 → m_M_algorithm_65 Q r0 v1 r0 h2) ∧ (¬ v2 = 0 → m_M_stands (fun v3 h3 => fx_ext h2 h3 → zb v3 → (v3 = 0 → m_M_algorithm_65 Q r0 v1 r0 h3) ∧ (¬ v3 = 0 → m_M_algorithm_66 Q r0 v1 r0 (1 : Int32) h3)) r0 ((hp_I h2 r0 20) + (2 : Int32)) (8 : Int32) (3064216340979843593 : Int64) h2)) r0 (hp_I h1 r0 20) (2 : Int32) (1544 : Int64) h1)) ∧ (¬ (hp_I h1 r0 21) = 0 → Q h1)) r0 (48 : Int32) x1 h
theorem b_M_algorithm_66 {p : Program} {l : Launch} {e : Env} {R : Room} {s : State} {m : MethodId} {args : Array Value} {below : List Frame} {meth : Method} {c : Code} {D : DD} {h0 : AH} {Q : AH → Prop} (C : fx_CX D y_M_algorithm prog_15_method_20_code 3 2 32 (none) [] h0 p R s m meth c) (hl : l.flags = flags0) (r0 : Nat) (x2 : Int32) (sr0 : Nat) (sx1 : Int32) (h : AH) (hw : m_M_algorithm_66 Q r0 x2 sr0 sx1 h) : ∀ (ls : Array Slot) (H : Heap) (locs : List Loc) (cells slots : Nat), lv_has ls 3 [(0, .ref r0), (2, .int x2)] → fx_F D h0 h H locs cells slots → W p l e R s m args below meth c H locs cells slots (fx_Z D below s h0 (fx_oV Q fx_no)) (F0 m 66 ls [.int sx1, .ref sr0]) := by
  unfold m_M_algorithm_66 at hw
  intro ls H locs cells slots hv F
  obtain ⟨hk1, hw⟩ := hw
  refine fx_callV C F (c_M_need hl hw) hm_M_need hi_M_need hv.1 (by decide) (Nat.le_of_ble_eq_true rfl) (iv_M_need C F lm_M_143 hk1 d_M_algorithm_66) (fx_out0 _) fx_eno (fun h1 H locs cells slots hw hx1 F => ?_)
  replace hw := hw hx1
  have hk1 := (hx1).k hk1
  refine lv_aload_n C.ex C.by d_M_algorithm_69 rfl (lv_at hv 0 rfl) ?_
  refine lv_iload_n C.ex C.by d_M_algorithm_70 rfl (lv_at hv 1 rfl) ?_
  obtain ⟨hk2, hw⟩ := hw
  let h2 : AH := up_I h1 r0 20 x2
  replace hw := hw h2 rfl
  refine fx_putI C F lf_M_128 hk2 rfl rfl (fx_mayF.no rfl rfl) d_M_algorithm_71 (fun H locs (F : fx_F D h0 h2 H locs _ _) => ?_)
  exact fx_vret C F d_M_algorithm_74 (Or.inl ⟨rfl, hw⟩)
theorem b_M_algorithm_65 {p : Program} {l : Launch} {e : Env} {R : Room} {s : State} {m : MethodId} {args : Array Value} {below : List Frame} {meth : Method} {c : Code} {D : DD} {h0 : AH} {Q : AH → Prop} (C : fx_CX D y_M_algorithm prog_15_method_20_code 3 2 32 (none) [] h0 p R s m meth c) (hl : l.flags = flags0) (r0 : Nat) (x2 : Int32) (sr0 : Nat) (h : AH) (hw : m_M_algorithm_65 Q r0 x2 sr0 h) : ∀ (ls : Array Slot) (H : Heap) (locs : List Loc) (cells slots : Nat), lv_has ls 3 [(0, .ref r0), (2, .int x2)] → fx_F D h0 h H locs cells slots → W p l e R s m args below meth c H locs cells slots (fx_Z D below s h0 (fx_oV Q fx_no)) (F0 m 65 ls [.ref sr0]) := by
  unfold m_M_algorithm_65 at hw
  intro ls H locs cells slots hv F
  refine lv_iconst (v := (0 : Int32)) C.ex C.by d_M_algorithm_65 (by decide) ?_
  exact b_M_algorithm_66 C hl _ _ _ _ _ hw _ _ _ _ _ hv F
theorem b_M_algorithm_0 {p : Program} {l : Launch} {e : Env} {R : Room} {s : State} {m : MethodId} {args : Array Value} {below : List Frame} {meth : Method} {c : Code} {D : DD} {h0 : AH} {Q : AH → Prop} (C : fx_CX D y_M_algorithm prog_15_method_20_code 3 2 32 (none) [] h0 p R s m meth c) (hl : l.flags = flags0) (r0 : Nat) (x1 : Int32) (h : AH) (hw : m_M_algorithm Q r0 x1 h) : ∀ (ls : Array Slot) (H : Heap) (locs : List Loc) (cells slots : Nat), lv_has ls 3 [(0, .ref r0), (1, .int x1)] → fx_F D h0 h H locs cells slots → W p l e R s m args below meth c H locs cells slots (fx_Z D below s h0 (fx_oV Q fx_no)) (F0 m 0 ls []) := by
  unfold m_M_algorithm at hw
  intro ls H locs cells slots hv F
  refine lv_aload_n C.ex C.by d_M_algorithm_0 rfl (lv_at hv 0 rfl) ?_
  refine lv_bipush (v := (48 : Int32)) C.ex C.by d_M_algorithm_1 (by decide) ?_
  refine lv_iload_n C.ex C.by d_M_algorithm_3 rfl (lv_at hv 1 rfl) ?_
  obtain ⟨hk1, hw⟩ := hw
  refine fx_callI C F (c_M_open hl hw) hm_M_open hi_M_open hv.1 (by decide) (Nat.le_of_ble_eq_true rfl) (iv_M_open C F lm_M_140 hk1 d_M_algorithm_4) (fx_out0 _) fx_eno (fun v1 h1 H locs cells slots hw hx1 F => ?_)
  replace hw := hw hx1
  have hk1 := (hx1).k hk1
  refine lv_istore_n (lv' := [(2, .int v1), (0, .ref r0), (1, .int x1)]) C.ex C.by d_M_algorithm_7 rfl hv (by decide) rfl (fun ls hv => ?_)
  refine lv_aload_n C.ex C.by d_M_algorithm_8 rfl (lv_at hv 1 rfl) ?_
  refine fx_getI C F lf_M_124 hk1 rfl d_M_algorithm_9 ?_
  refine lv_if_eq C.ex C.by d_M_algorithm_12 rfl (fun hc => ?_) (fun hc => ?_)
  · replace hw := hw.1 hc
    refine lv_aload_n C.ex C.by d_M_algorithm_16 rfl (lv_at hv 1 rfl) ?_
    refine lv_iload_n C.ex C.by d_M_algorithm_17 rfl (lv_at hv 0 rfl) ?_
    refine lv_aload_n C.ex C.by d_M_algorithm_18 rfl (lv_at hv 1 rfl) ?_
    refine fx_getI C F lf_M_128 hk1 rfl d_M_algorithm_19 ?_
    refine lv_isub C.ex C.by d_M_algorithm_22 ?_
    refine lv_bipush (v := (10 : Int32)) C.ex C.by d_M_algorithm_23 (by decide) ?_
    refine lv_icmp_ne C.ex C.by d_M_algorithm_25 rfl (fun hc => ?_) (fun hc => ?_)
    · replace hw := hw.1 hc
      exact b_M_algorithm_65 C hl _ _ _ _ hw _ _ _ _ _ (lv_sub hv [1, 0] rfl) F
    · replace hw := hw.2 hc
      refine lv_aload_n C.ex C.by d_M_algorithm_28 rfl (lv_at hv 1 rfl) ?_
      refine lv_aload_n C.ex C.by d_M_algorithm_29 rfl (lv_at hv 1 rfl) ?_
      refine fx_getI C F lf_M_128 hk1 rfl d_M_algorithm_30 ?_
      refine lv_iconst (v := (2 : Int32)) C.ex C.by d_M_algorithm_33 (by decide) ?_
      refine lv_ldc2 (v := (1544 : Int64)) C.ex C.by C.ow (C.tw.at (fx_m6 (List.mem_of_getElem? (i := 235) rfl)) rfl rfl) d_M_algorithm_34 ?_
      refine fx_callZ C F (c_M_stands hl hw) hm_M_stands hi_M_stands hv.1 (by decide) (Nat.le_of_ble_eq_true rfl) (iv_M_stands C F lm_M_149 hk1 d_M_algorithm_37) (fx_out0 _) fx_eno (fun v2 h2 H locs cells slots hw hx2 hzb F => ?_)
      replace hw := hw hx2 hzb
      have hk1 := (hx2).k hk1
      refine lv_if_eq C.ex C.by d_M_algorithm_40 rfl (fun hc => ?_) (fun hc => ?_)
      · replace hw := hw.1 hc
        exact b_M_algorithm_65 C hl _ _ _ _ hw _ _ _ _ _ (lv_sub hv [1, 0] rfl) F
      · replace hw := hw.2 hc
        refine lv_aload_n C.ex C.by d_M_algorithm_43 rfl (lv_at hv 1 rfl) ?_
        refine lv_aload_n C.ex C.by d_M_algorithm_44 rfl (lv_at hv 1 rfl) ?_
        refine fx_getI C F lf_M_128 hk1 rfl d_M_algorithm_45 ?_
        refine lv_iconst (v := (2 : Int32)) C.ex C.by d_M_algorithm_48 (by decide) ?_
        refine lv_iadd C.ex C.by d_M_algorithm_49 ?_
        refine lv_bipush (v := (8 : Int32)) C.ex C.by d_M_algorithm_50 (by decide) ?_
        refine lv_ldc2 (v := (3064216340979843593 : Int64)) C.ex C.by C.ow (C.tw.at (fx_m7 (List.mem_of_getElem? (i := 1) rfl)) rfl rfl) d_M_algorithm_52 ?_
        refine fx_callZ C F (c_M_stands hl hw) hm_M_stands hi_M_stands hv.1 (by decide) (Nat.le_of_ble_eq_true rfl) (iv_M_stands C F lm_M_149 hk1 d_M_algorithm_55) (fx_out0 _) fx_eno (fun v3 h3 H locs cells slots hw hx3 hzb F => ?_)
        replace hw := hw hx3 hzb
        have hk1 := (hx3).k hk1
        refine lv_if_eq C.ex C.by d_M_algorithm_58 rfl (fun hc => ?_) (fun hc => ?_)
        · replace hw := hw.1 hc
          exact b_M_algorithm_65 C hl _ _ _ _ hw _ _ _ _ _ (lv_sub hv [1, 0] rfl) F
        · replace hw := hw.2 hc
          refine lv_iconst (v := (1 : Int32)) C.ex C.by d_M_algorithm_61 (by decide) ?_
          refine lv_goto C.ex C.by d_M_algorithm_62 rfl ?_
          exact b_M_algorithm_66 C hl _ _ _ _ _ hw _ _ _ _ _ (lv_sub hv [1, 0] rfl) F
  · replace hw := hw.2 hc
    exact fx_vret C F d_M_algorithm_15 (Or.inl ⟨rfl, hw⟩)
theorem hm_M_algorithm : fx_hd y_M_algorithm prog_15_method_20_code 3 (none) [] ∈ tables_1 := (fx_m6 (List.mem_of_getElem? (i := 234) rfl))
theorem hi_M_algorithm : Cond.initialized y_M_algorithm.cls ∈ tables_1 := (fx_m1 (List.mem_of_getElem? (i := 15) rfl))
theorem c_M_algorithm {l : Launch} (hl : l.flags = flags0) {D : DD} {Q : AH → Prop} {r0 : Nat} {x1 : Int32} {h : AH} (hw : m_M_algorithm Q r0 x1 h) : fx_Mt l D y_M_algorithm (fx_hd y_M_algorithm prog_15_method_20_code 3 (none) []) 2 32 [.ref r0, .int x1] h (fx_oV Q fx_no) := by
  refine fx_ofW (plainFor_of_name (by decide)) (fun p e s m below meth c C F => ?_)
  have hv := lv_entry ([.ref r0, .int x1]) (n := 3) (Nat.le_of_ble_eq_true rfl)
  rw [lg_entry_eq]
  generalize (lg_sl ([.ref r0, .int x1]) ++ List.replicate (3 - (lg_sl ([.ref r0, .int x1])).length) Slot.unset).toArray = ls at hv ⊢
  have hv : lv_has ls 3 [(0, .ref r0), (1, .int x1)] := hv
  exact b_M_algorithm_0 C hl _ _ _ hw _ _ _ _ _ hv F
/-! ChainJudgeModel.oid(I)V: frames 2, words 32 -/
abbrev y_M_oid : MethodName := ⟨"ChainJudgeModel", "oid", "(I)V"⟩
def dl_M_oid : List (Nat × Instr × Nat) := [(0, .aload_n 0, 1), (1, .bipush 6, 2), (3, .iload_n 1, 1), (4, .invokevirtual 140, 3), (7, .istore_n 2, 1), (8, .aload_n 0, 1), (9, .getfield 124, 3), (12, .ifCond .eq 4, 3), (15, .return_, 1), (16, .aload_n 0, 1), (17, .iload_n 2, 1), (18, .aload_n 0, 1), (19, .getfield 128, 3), (22, .isub, 1), (23, .iconst 1, 1), (24, .if_icmp .lt 31, 3), (27, .iload_n 2, 1), (28, .aload_n 0, 1), (29, .getfield 128, 3), (32, .isub, 1), (33, .bipush 32, 2), (35, .if_icmp .gt 20, 3), (38, .aload_n 0, 1), (39, .iload_n 2, 1), (40, .iconst 1, 1), (41, .isub, 1), (42, .invokevirtual 131, 3), (45, .sipush 128, 3), (48, .if_icmp .ge 7, 3), (51, .iconst 1, 1), (52, .goto 4, 3), (55, .iconst 0, 1), (56, .invokevirtual 143, 3), (59, .aload_n 0, 1), (60, .getfield 128, 3), (63, .istore_n 3, 1), (64, .iload_n 3, 1), (65, .iload_n 2, 1), (66, .if_icmp .ge 57, 3), (69, .aload_n 0, 1), (70, .getfield 124, 3), (73, .ifCond .ne 50, 3), (76, .aload_n 0, 1), (77, .aload_n 0, 1), (78, .iload_n 3, 1), (79, .invokevirtual 131, 3), (82, .sipush 128, 3), (85, .if_icmp .ne 24, 3), (88, .iload_n 3, 1), (89, .aload_n 0, 1), (90, .getfield 128, 3), (93, .if_icmp .le 20, 3), (96, .aload_n 0, 1), (97, .iload_n 3, 1), (98, .iconst 1, 1), (99, .isub, 1), (100, .invokevirtual 131, 3), (103, .sipush 128, 3), (106, .if_icmp .lt 7, 3), (109, .iconst 1, 1), (110, .goto 4, 3), (113, .iconst 0, 1), (114, .invokevirtual 143, 3), (117, .iinc 3 1, 3), (120, .goto (-56), 3), (123, .aload_n 0, 1), (124, .iload_n 2, 1), (125, .putfield 128, 3), (128, .return_, 1)]
theorem dk_M_oid : fx_dec prog_15_method_19_code dl_M_oid = true := by decide +kernel
theorem d_M_oid_0 : decode prog_15_method_19_code 0 = .ok (.aload_n 0, 1) := fx_dat dk_M_oid 0 rfl
theorem d_M_oid_1 : decode prog_15_method_19_code 1 = .ok (.bipush 6, 2) := fx_dat dk_M_oid 1 rfl
theorem d_M_oid_3 : decode prog_15_method_19_code 3 = .ok (.iload_n 1, 1) := fx_dat dk_M_oid 2 rfl
theorem d_M_oid_4 : decode prog_15_method_19_code 4 = .ok (.invokevirtual 140, 3) := fx_dat dk_M_oid 3 rfl
theorem d_M_oid_7 : decode prog_15_method_19_code 7 = .ok (.istore_n 2, 1) := fx_dat dk_M_oid 4 rfl
theorem d_M_oid_8 : decode prog_15_method_19_code 8 = .ok (.aload_n 0, 1) := fx_dat dk_M_oid 5 rfl
theorem d_M_oid_9 : decode prog_15_method_19_code 9 = .ok (.getfield 124, 3) := fx_dat dk_M_oid 6 rfl
theorem d_M_oid_12 : decode prog_15_method_19_code 12 = .ok (.ifCond .eq 4, 3) := fx_dat dk_M_oid 7 rfl
theorem d_M_oid_15 : decode prog_15_method_19_code 15 = .ok (.return_, 1) := fx_dat dk_M_oid 8 rfl
theorem d_M_oid_16 : decode prog_15_method_19_code 16 = .ok (.aload_n 0, 1) := fx_dat dk_M_oid 9 rfl
theorem d_M_oid_17 : decode prog_15_method_19_code 17 = .ok (.iload_n 2, 1) := fx_dat dk_M_oid 10 rfl
theorem d_M_oid_18 : decode prog_15_method_19_code 18 = .ok (.aload_n 0, 1) := fx_dat dk_M_oid 11 rfl
theorem d_M_oid_19 : decode prog_15_method_19_code 19 = .ok (.getfield 128, 3) := fx_dat dk_M_oid 12 rfl
theorem d_M_oid_22 : decode prog_15_method_19_code 22 = .ok (.isub, 1) := fx_dat dk_M_oid 13 rfl
theorem d_M_oid_23 : decode prog_15_method_19_code 23 = .ok (.iconst 1, 1) := fx_dat dk_M_oid 14 rfl
theorem d_M_oid_24 : decode prog_15_method_19_code 24 = .ok (.if_icmp .lt 31, 3) := fx_dat dk_M_oid 15 rfl
theorem d_M_oid_27 : decode prog_15_method_19_code 27 = .ok (.iload_n 2, 1) := fx_dat dk_M_oid 16 rfl
theorem d_M_oid_28 : decode prog_15_method_19_code 28 = .ok (.aload_n 0, 1) := fx_dat dk_M_oid 17 rfl
theorem d_M_oid_29 : decode prog_15_method_19_code 29 = .ok (.getfield 128, 3) := fx_dat dk_M_oid 18 rfl
theorem d_M_oid_32 : decode prog_15_method_19_code 32 = .ok (.isub, 1) := fx_dat dk_M_oid 19 rfl
theorem d_M_oid_33 : decode prog_15_method_19_code 33 = .ok (.bipush 32, 2) := fx_dat dk_M_oid 20 rfl
theorem d_M_oid_35 : decode prog_15_method_19_code 35 = .ok (.if_icmp .gt 20, 3) := fx_dat dk_M_oid 21 rfl
theorem d_M_oid_38 : decode prog_15_method_19_code 38 = .ok (.aload_n 0, 1) := fx_dat dk_M_oid 22 rfl
theorem d_M_oid_39 : decode prog_15_method_19_code 39 = .ok (.iload_n 2, 1) := fx_dat dk_M_oid 23 rfl
theorem d_M_oid_40 : decode prog_15_method_19_code 40 = .ok (.iconst 1, 1) := fx_dat dk_M_oid 24 rfl
theorem d_M_oid_41 : decode prog_15_method_19_code 41 = .ok (.isub, 1) := fx_dat dk_M_oid 25 rfl
theorem d_M_oid_42 : decode prog_15_method_19_code 42 = .ok (.invokevirtual 131, 3) := fx_dat dk_M_oid 26 rfl
theorem d_M_oid_45 : decode prog_15_method_19_code 45 = .ok (.sipush 128, 3) := fx_dat dk_M_oid 27 rfl
theorem d_M_oid_48 : decode prog_15_method_19_code 48 = .ok (.if_icmp .ge 7, 3) := fx_dat dk_M_oid 28 rfl
theorem d_M_oid_51 : decode prog_15_method_19_code 51 = .ok (.iconst 1, 1) := fx_dat dk_M_oid 29 rfl
theorem d_M_oid_52 : decode prog_15_method_19_code 52 = .ok (.goto 4, 3) := fx_dat dk_M_oid 30 rfl
theorem d_M_oid_55 : decode prog_15_method_19_code 55 = .ok (.iconst 0, 1) := fx_dat dk_M_oid 31 rfl
theorem d_M_oid_56 : decode prog_15_method_19_code 56 = .ok (.invokevirtual 143, 3) := fx_dat dk_M_oid 32 rfl
theorem d_M_oid_59 : decode prog_15_method_19_code 59 = .ok (.aload_n 0, 1) := fx_dat dk_M_oid 33 rfl
theorem d_M_oid_60 : decode prog_15_method_19_code 60 = .ok (.getfield 128, 3) := fx_dat dk_M_oid 34 rfl
theorem d_M_oid_63 : decode prog_15_method_19_code 63 = .ok (.istore_n 3, 1) := fx_dat dk_M_oid 35 rfl
theorem d_M_oid_64 : decode prog_15_method_19_code 64 = .ok (.iload_n 3, 1) := fx_dat dk_M_oid 36 rfl
theorem d_M_oid_65 : decode prog_15_method_19_code 65 = .ok (.iload_n 2, 1) := fx_dat dk_M_oid 37 rfl
theorem d_M_oid_66 : decode prog_15_method_19_code 66 = .ok (.if_icmp .ge 57, 3) := fx_dat dk_M_oid 38 rfl
theorem d_M_oid_69 : decode prog_15_method_19_code 69 = .ok (.aload_n 0, 1) := fx_dat dk_M_oid 39 rfl
theorem d_M_oid_70 : decode prog_15_method_19_code 70 = .ok (.getfield 124, 3) := fx_dat dk_M_oid 40 rfl
theorem d_M_oid_73 : decode prog_15_method_19_code 73 = .ok (.ifCond .ne 50, 3) := fx_dat dk_M_oid 41 rfl
theorem d_M_oid_76 : decode prog_15_method_19_code 76 = .ok (.aload_n 0, 1) := fx_dat dk_M_oid 42 rfl
theorem d_M_oid_77 : decode prog_15_method_19_code 77 = .ok (.aload_n 0, 1) := fx_dat dk_M_oid 43 rfl
theorem d_M_oid_78 : decode prog_15_method_19_code 78 = .ok (.iload_n 3, 1) := fx_dat dk_M_oid 44 rfl
theorem d_M_oid_79 : decode prog_15_method_19_code 79 = .ok (.invokevirtual 131, 3) := fx_dat dk_M_oid 45 rfl
theorem d_M_oid_82 : decode prog_15_method_19_code 82 = .ok (.sipush 128, 3) := fx_dat dk_M_oid 46 rfl
theorem d_M_oid_85 : decode prog_15_method_19_code 85 = .ok (.if_icmp .ne 24, 3) := fx_dat dk_M_oid 47 rfl
theorem d_M_oid_88 : decode prog_15_method_19_code 88 = .ok (.iload_n 3, 1) := fx_dat dk_M_oid 48 rfl
theorem d_M_oid_89 : decode prog_15_method_19_code 89 = .ok (.aload_n 0, 1) := fx_dat dk_M_oid 49 rfl
theorem d_M_oid_90 : decode prog_15_method_19_code 90 = .ok (.getfield 128, 3) := fx_dat dk_M_oid 50 rfl
theorem d_M_oid_93 : decode prog_15_method_19_code 93 = .ok (.if_icmp .le 20, 3) := fx_dat dk_M_oid 51 rfl
theorem d_M_oid_96 : decode prog_15_method_19_code 96 = .ok (.aload_n 0, 1) := fx_dat dk_M_oid 52 rfl
theorem d_M_oid_97 : decode prog_15_method_19_code 97 = .ok (.iload_n 3, 1) := fx_dat dk_M_oid 53 rfl
theorem d_M_oid_98 : decode prog_15_method_19_code 98 = .ok (.iconst 1, 1) := fx_dat dk_M_oid 54 rfl
theorem d_M_oid_99 : decode prog_15_method_19_code 99 = .ok (.isub, 1) := fx_dat dk_M_oid 55 rfl
theorem d_M_oid_100 : decode prog_15_method_19_code 100 = .ok (.invokevirtual 131, 3) := fx_dat dk_M_oid 56 rfl
theorem d_M_oid_103 : decode prog_15_method_19_code 103 = .ok (.sipush 128, 3) := fx_dat dk_M_oid 57 rfl
theorem d_M_oid_106 : decode prog_15_method_19_code 106 = .ok (.if_icmp .lt 7, 3) := fx_dat dk_M_oid 58 rfl
theorem d_M_oid_109 : decode prog_15_method_19_code 109 = .ok (.iconst 1, 1) := fx_dat dk_M_oid 59 rfl
theorem d_M_oid_110 : decode prog_15_method_19_code 110 = .ok (.goto 4, 3) := fx_dat dk_M_oid 60 rfl
theorem d_M_oid_113 : decode prog_15_method_19_code 113 = .ok (.iconst 0, 1) := fx_dat dk_M_oid 61 rfl
theorem d_M_oid_114 : decode prog_15_method_19_code 114 = .ok (.invokevirtual 143, 3) := fx_dat dk_M_oid 62 rfl
theorem d_M_oid_117 : decode prog_15_method_19_code 117 = .ok (.iinc 3 1, 3) := fx_dat dk_M_oid 63 rfl
theorem d_M_oid_120 : decode prog_15_method_19_code 120 = .ok (.goto (-56), 3) := fx_dat dk_M_oid 64 rfl
theorem d_M_oid_123 : decode prog_15_method_19_code 123 = .ok (.aload_n 0, 1) := fx_dat dk_M_oid 65 rfl
theorem d_M_oid_124 : decode prog_15_method_19_code 124 = .ok (.iload_n 2, 1) := fx_dat dk_M_oid 66 rfl
theorem d_M_oid_125 : decode prog_15_method_19_code 125 = .ok (.putfield 128, 3) := fx_dat dk_M_oid 67 rfl
theorem d_M_oid_128 : decode prog_15_method_19_code 128 = .ok (.return_, 1) := fx_dat dk_M_oid 68 rfl
def m_M_oid_123 (Q : AH → Prop) (r0 : Nat) (x2 : Int32) (h : AH) : Prop := hp_k h r0 = 13 ∧ ∀ h1 : AH, h1 = up_I h r0 20 x2 → Q h1
def m_M_oid_114 (Q : AH → Prop) (X64 : Int32 × AH → Prop) (r0 : Nat) (x2 : Int32) (x3 : Int32) (sr0 : Nat) (sx1 : Int32) (h : AH) : Prop := hp_k h sr0 = 13 ∧ m_M_need (fun h1 => fx_ext h h1 → ∀ v1 : Int32, v1 = (x3 + (1 : Int32)) → X64 (v1, h1)) sr0 sx1 h
def m_M_oid_109 (Q : AH → Prop) (X64 : Int32 × AH → Prop) (r0 : Nat) (x2 : Int32) (x3 : Int32) (sr0 : Nat) (h : AH) : Prop := m_M_oid_114 Q X64 r0 x2 x3 sr0 (1 : Int32) h
def m_M_oid_113 (Q : AH → Prop) (X64 : Int32 × AH → Prop) (r0 : Nat) (x2 : Int32) (x3 : Int32) (sr0 : Nat) (h : AH) : Prop := m_M_oid_114 Q X64 r0 x2 x3 sr0 (0 : Int32) h
def m_M_oid_64_b (Q : AH → Prop) (X64 : Int32 × AH → Prop) (r0 : Nat) (x2 : Int32) (x3 : Int32) (h : AH) : Prop := (x2 ≤ x3 → m_M_oid_123 Q r0 x2 h) ∧ (¬ x2 ≤ x3 → hp_k h r0 = 13 ∧ (¬ (hp_I h r0 21) = 0 → m_M_oid_123 Q r0 x2 h) ∧ ((hp_I h r0 21) = 0 → m_M_here (fun v1 h1 => fx_ext h h1 → (¬ v1 = (128 : Int32) → m_M_oid_109 Q X64 r0 x2 x3 r0 h1) ∧ (v1 = (128 : Int32) → (x3 ≤ (hp_I h1 r0 20) → m_M_oid_113 Q X64 r0 x2 x3 r0 h1) ∧ (¬ x3 ≤ (hp_I h1 r0 20) → m_M_here (fun v2 h2 => fx_ext h1 h2 → (v2 < (128 : Int32) → m_M_oid_113 Q X64 r0 x2 x3 r0 h2) ∧ (¬ v2 < (128 : Int32) → m_M_oid_109 Q X64 r0 x2 x3 r0 h2)) r0 (x3 - (1 : Int32)) h1))) r0 x3 h))
def m_M_oid_64 (Q : AH → Prop) (r0 : Nat) (x2 : Int32) (x3 : Int32) (h : AH) : Prop := fx_loop (fun (X64 : Int32 × AH → Prop) (st : Int32 × AH) => m_M_oid_64_b Q X64 r0 x2 st.1 st.2) (x3, h)
def m_M_oid_56 (Q : AH → Prop) (r0 : Nat) (x2 : Int32) (sr0 : Nat) (sx1 : Int32) (h : AH) : Prop := hp_k h sr0 = 13 ∧ m_M_need (fun h1 => fx_ext h h1 → hp_k h1 r0 = 13 ∧ ∀ v1 : Int32, v1 = (hp_I h1 r0 20) → m_M_oid_64 Q r0 x2 v1 h1) sr0 sx1 h
def m_M_oid_55 (Q : AH → Prop) (r0 : Nat) (x2 : Int32) (sr0 : Nat) (h : AH) : Prop := m_M_oid_56 Q r0 x2 sr0 (0 : Int32) h
def m_M_oid (Q : AH → Prop) (r0 : Nat) (x1 : Int32) (h : AH) : Prop := hp_k h r0 = 13 ∧ m_M_open (fun v1 h1 => fx_ext h h1 → ((hp_I h1 r0 21) = 0 → ((v1 - (hp_I h1 r0 20)) < (1 : Int32) → m_M_oid_55 Q r0 v1 r0 h1) ∧ (¬ (v1 - (hp_I h1 r0 20)) < (1 : Int32) → ((32 : Int32) < (v1 - (hp_I h1 r0 20)) → m_M_oid_55 Q r0 v1 r0 h1) ∧ (¬ (32 : Int32) < (v1 - (hp_I h1 r0 20)) → m_M_here (fun v2 h2 => fx_ext h1 h2 → ((128 : Int32) ≤ v2 → m_M_oid_55 Q r0 v1 r0 h2) ∧ (¬ (128 : Int32) ≤ v2 → m_M_oid_56 Q r0 v1 r0 (1 : Int32) h2)) r0 (v1 - (1 : Int32)) h1))) ∧ (¬ (hp_I h1 r0 21) = 0 → Q h1)) r0 (6 : Int32) x1 h
theorem b_M_oid_123 {p : Program} {l : Launch} {e : Env} {R : Room} {s : State} {m : MethodId} {args : Array Value} {below : List Frame} {meth : Method} {c : Code} {D : DD} {h0 : AH} {Q : AH → Prop} (C : fx_CX D y_M_oid prog_15_method_19_code 4 2 32 (none) [] h0 p R s m meth c) (hl : l.flags = flags0) (r0 : Nat) (x2 : Int32) (h : AH) (hw : m_M_oid_123 Q r0 x2 h) : ∀ (ls : Array Slot) (H : Heap) (locs : List Loc) (cells slots : Nat), lv_has ls 4 [(0, .ref r0), (2, .int x2)] → fx_F D h0 h H locs cells slots → W p l e R s m args below meth c H locs cells slots (fx_Z D below s h0 (fx_oV Q fx_no)) (F0 m 123 ls []) := by
  unfold m_M_oid_123 at hw
  intro ls H locs cells slots hv F
  refine lv_aload_n C.ex C.by d_M_oid_123 rfl (lv_at hv 0 rfl) ?_
  refine lv_iload_n C.ex C.by d_M_oid_124 rfl (lv_at hv 1 rfl) ?_
  obtain ⟨hk1, hw⟩ := hw
  let h1 : AH := up_I h r0 20 x2
  replace hw := hw h1 rfl
  refine fx_putI C F lf_M_128 hk1 rfl rfl (fx_mayF.no rfl rfl) d_M_oid_125 (fun H locs (F : fx_F D h0 h1 H locs _ _) => ?_)
  exact fx_vret C F d_M_oid_128 (Or.inl ⟨rfl, hw⟩)
theorem b_M_oid_114 {p : Program} {l : Launch} {e : Env} {R : Room} {s : State} {m : MethodId} {args : Array Value} {below : List Frame} {meth : Method} {c : Code} {D : DD} {h0 : AH} {Q : AH → Prop} {X64 : Int32 × AH → Prop} (C : fx_CX D y_M_oid prog_15_method_19_code 4 2 32 (none) [] h0 p R s m meth c) (hl : l.flags = flags0) (r0 : Nat) (x2 : Int32) (x3 : Int32) (sr0 : Nat) (sx1 : Int32) (h : AH) (hX64 : ∀ st, X64 st → ∀ (ls : Array Slot) (H : Heap) (locs : List Loc) (cells slots : Nat), lv_has ls 4 [(0, .ref r0), (2, .int x2), (3, .int st.1)] → fx_F D h0 st.2 H locs cells slots → W p l e R s m args below meth c H locs cells slots (fx_Z D below s h0 (fx_oV Q fx_no)) (F0 m 64 ls [])) (hw : m_M_oid_114 Q X64 r0 x2 x3 sr0 sx1 h) : ∀ (ls : Array Slot) (H : Heap) (locs : List Loc) (cells slots : Nat), lv_has ls 4 [(0, .ref r0), (2, .int x2), (3, .int x3)] → fx_F D h0 h H locs cells slots → W p l e R s m args below meth c H locs cells slots (fx_Z D below s h0 (fx_oV Q fx_no)) (F0 m 114 ls [.int sx1, .ref sr0]) := by
  unfold m_M_oid_114 at hw
  intro ls H locs cells slots hv F
  obtain ⟨hk1, hw⟩ := hw
  refine fx_callV C F (c_M_need hl hw) hm_M_need hi_M_need hv.1 (by decide) (Nat.le_of_ble_eq_true rfl) (iv_M_need C F lm_M_143 hk1 d_M_oid_114) (fx_out0 _) fx_eno (fun h1 H locs cells slots hw hx1 F => ?_)
  replace hw := hw hx1
  have hk1 := (hx1).k hk1
  let v1 : Int32 := (x3 + (1 : Int32))
  replace hw := hw v1 rfl
  refine lv_iinc (v := v1) (k := 2) (lv' := [(3, .int v1), (0, .ref r0), (2, .int x2)]) C.ex C.by d_M_oid_117 hv rfl (congrArg (fun z => x3 + z) (by decide)) (by decide) rfl (fun ls hv => ?_)
  refine lv_goto C.ex C.by d_M_oid_120 rfl ?_
  exact hX64 _ hw _ _ _ _ _ (lv_sub hv [1, 2, 0] rfl) F
theorem b_M_oid_109 {p : Program} {l : Launch} {e : Env} {R : Room} {s : State} {m : MethodId} {args : Array Value} {below : List Frame} {meth : Method} {c : Code} {D : DD} {h0 : AH} {Q : AH → Prop} {X64 : Int32 × AH → Prop} (C : fx_CX D y_M_oid prog_15_method_19_code 4 2 32 (none) [] h0 p R s m meth c) (hl : l.flags = flags0) (r0 : Nat) (x2 : Int32) (x3 : Int32) (sr0 : Nat) (h : AH) (hX64 : ∀ st, X64 st → ∀ (ls : Array Slot) (H : Heap) (locs : List Loc) (cells slots : Nat), lv_has ls 4 [(0, .ref r0), (2, .int x2), (3, .int st.1)] → fx_F D h0 st.2 H locs cells slots → W p l e R s m args below meth c H locs cells slots (fx_Z D below s h0 (fx_oV Q fx_no)) (F0 m 64 ls [])) (hw : m_M_oid_109 Q X64 r0 x2 x3 sr0 h) : ∀ (ls : Array Slot) (H : Heap) (locs : List Loc) (cells slots : Nat), lv_has ls 4 [(0, .ref r0), (2, .int x2), (3, .int x3)] → fx_F D h0 h H locs cells slots → W p l e R s m args below meth c H locs cells slots (fx_Z D below s h0 (fx_oV Q fx_no)) (F0 m 109 ls [.ref sr0]) := by
  unfold m_M_oid_109 at hw
  intro ls H locs cells slots hv F
  refine lv_iconst (v := (1 : Int32)) C.ex C.by d_M_oid_109 (by decide) ?_
  refine lv_goto C.ex C.by d_M_oid_110 rfl ?_
  exact b_M_oid_114 C hl _ _ _ _ _ _ hX64 hw _ _ _ _ _ hv F
theorem b_M_oid_113 {p : Program} {l : Launch} {e : Env} {R : Room} {s : State} {m : MethodId} {args : Array Value} {below : List Frame} {meth : Method} {c : Code} {D : DD} {h0 : AH} {Q : AH → Prop} {X64 : Int32 × AH → Prop} (C : fx_CX D y_M_oid prog_15_method_19_code 4 2 32 (none) [] h0 p R s m meth c) (hl : l.flags = flags0) (r0 : Nat) (x2 : Int32) (x3 : Int32) (sr0 : Nat) (h : AH) (hX64 : ∀ st, X64 st → ∀ (ls : Array Slot) (H : Heap) (locs : List Loc) (cells slots : Nat), lv_has ls 4 [(0, .ref r0), (2, .int x2), (3, .int st.1)] → fx_F D h0 st.2 H locs cells slots → W p l e R s m args below meth c H locs cells slots (fx_Z D below s h0 (fx_oV Q fx_no)) (F0 m 64 ls [])) (hw : m_M_oid_113 Q X64 r0 x2 x3 sr0 h) : ∀ (ls : Array Slot) (H : Heap) (locs : List Loc) (cells slots : Nat), lv_has ls 4 [(0, .ref r0), (2, .int x2), (3, .int x3)] → fx_F D h0 h H locs cells slots → W p l e R s m args below meth c H locs cells slots (fx_Z D below s h0 (fx_oV Q fx_no)) (F0 m 113 ls [.ref sr0]) := by
  unfold m_M_oid_113 at hw
  intro ls H locs cells slots hv F
  refine lv_iconst (v := (0 : Int32)) C.ex C.by d_M_oid_113 (by decide) ?_
  exact b_M_oid_114 C hl _ _ _ _ _ _ hX64 hw _ _ _ _ _ hv F
theorem b_M_oid_64 {p : Program} {l : Launch} {e : Env} {R : Room} {s : State} {m : MethodId} {args : Array Value} {below : List Frame} {meth : Method} {c : Code} {D : DD} {h0 : AH} {Q : AH → Prop} (C : fx_CX D y_M_oid prog_15_method_19_code 4 2 32 (none) [] h0 p R s m meth c) (hl : l.flags = flags0) (r0 : Nat) (x2 : Int32) (x3 : Int32) (h : AH) (hw : m_M_oid_64 Q r0 x2 x3 h) : ∀ (ls : Array Slot) (H : Heap) (locs : List Loc) (cells slots : Nat), lv_has ls 4 [(0, .ref r0), (2, .int x2), (3, .int x3)] → fx_F D h0 h H locs cells slots → W p l e R s m args below meth c H locs cells slots (fx_Z D below s h0 (fx_oV Q fx_no)) (F0 m 64 ls []) := by
  refine fx_loop.use hw (fun st => ∀ (ls : Array Slot) (H : Heap) (locs : List Loc) (cells slots : Nat), lv_has ls 4 [(0, .ref r0), (2, .int x2), (3, .int st.1)] → fx_F D h0 st.2 H locs cells slots → W p l e R s m args below meth c H locs cells slots (fx_Z D below s h0 (fx_oV Q fx_no)) (F0 m 64 ls [])) (fun X64 st hX64 hw => ?_)
  obtain ⟨x3, h⟩ := st
  replace hw : m_M_oid_64_b Q X64 r0 x2 x3 h := hw
  unfold m_M_oid_64_b at hw
  intro ls H locs cells slots hv F
  refine lv_iload_n C.ex C.by d_M_oid_64 rfl (lv_at hv 2 rfl) ?_
  refine lv_iload_n C.ex C.by d_M_oid_65 rfl (lv_at hv 1 rfl) ?_
  refine lv_icmp_ge C.ex C.by d_M_oid_66 rfl (fun hc => ?_) (fun hc => ?_)
  · replace hw := hw.1 hc
    exact b_M_oid_123 C hl _ _ _ hw _ _ _ _ _ (lv_sub hv [0, 1] rfl) F
  · replace hw := hw.2 hc
    refine lv_aload_n C.ex C.by d_M_oid_69 rfl (lv_at hv 0 rfl) ?_
    obtain ⟨hk1, hw⟩ := hw
    refine fx_getI C F lf_M_124 hk1 rfl d_M_oid_70 ?_
    refine lv_if_ne C.ex C.by d_M_oid_73 rfl (fun hc => ?_) (fun hc => ?_)
    · replace hw := hw.1 hc
      exact b_M_oid_123 C hl _ _ _ hw _ _ _ _ _ (lv_sub hv [0, 1] rfl) F
    · replace hw := hw.2 hc
      refine lv_aload_n C.ex C.by d_M_oid_76 rfl (lv_at hv 0 rfl) ?_
      refine lv_aload_n C.ex C.by d_M_oid_77 rfl (lv_at hv 0 rfl) ?_
      refine lv_iload_n C.ex C.by d_M_oid_78 rfl (lv_at hv 2 rfl) ?_
      refine fx_callI C F (c_M_here hl hw) hm_M_here hi_M_here hv.1 (by decide) (Nat.le_of_ble_eq_true rfl) (iv_M_here C F lm_M_131 hk1 d_M_oid_79) (fx_out0 _) fx_eno (fun v1 h1 H locs cells slots hw hx1 F => ?_)
      replace hw := hw hx1
      have hk1 := (hx1).k hk1
      refine lv_sipush (v := (128 : Int32)) C.ex C.by d_M_oid_82 (by decide) ?_
      refine lv_icmp_ne C.ex C.by d_M_oid_85 rfl (fun hc => ?_) (fun hc => ?_)
      · replace hw := hw.1 hc
        exact b_M_oid_109 C hl _ _ _ _ _ hX64 hw _ _ _ _ _ hv F
      · replace hw := hw.2 hc
        refine lv_iload_n C.ex C.by d_M_oid_88 rfl (lv_at hv 2 rfl) ?_
        refine lv_aload_n C.ex C.by d_M_oid_89 rfl (lv_at hv 0 rfl) ?_
        refine fx_getI C F lf_M_128 hk1 rfl d_M_oid_90 ?_
        refine lv_icmp_le C.ex C.by d_M_oid_93 rfl (fun hc => ?_) (fun hc => ?_)
        · replace hw := hw.1 hc
          exact b_M_oid_113 C hl _ _ _ _ _ hX64 hw _ _ _ _ _ hv F
        · replace hw := hw.2 hc
          refine lv_aload_n C.ex C.by d_M_oid_96 rfl (lv_at hv 0 rfl) ?_
          refine lv_iload_n C.ex C.by d_M_oid_97 rfl (lv_at hv 2 rfl) ?_
          refine lv_iconst (v := (1 : Int32)) C.ex C.by d_M_oid_98 (by decide) ?_
          refine lv_isub C.ex C.by d_M_oid_99 ?_
          refine fx_callI C F (c_M_here hl hw) hm_M_here hi_M_here hv.1 (by decide) (Nat.le_of_ble_eq_true rfl) (iv_M_here C F lm_M_131 hk1 d_M_oid_100) (fx_out0 _) fx_eno (fun v2 h2 H locs cells slots hw hx2 F => ?_)
          replace hw := hw hx2
          have hk1 := (hx2).k hk1
          refine lv_sipush (v := (128 : Int32)) C.ex C.by d_M_oid_103 (by decide) ?_
          refine lv_icmp_lt C.ex C.by d_M_oid_106 rfl (fun hc => ?_) (fun hc => ?_)
          · replace hw := hw.1 hc
            exact b_M_oid_113 C hl _ _ _ _ _ hX64 hw _ _ _ _ _ hv F
          · replace hw := hw.2 hc
            exact b_M_oid_109 C hl _ _ _ _ _ hX64 hw _ _ _ _ _ hv F
theorem b_M_oid_56 {p : Program} {l : Launch} {e : Env} {R : Room} {s : State} {m : MethodId} {args : Array Value} {below : List Frame} {meth : Method} {c : Code} {D : DD} {h0 : AH} {Q : AH → Prop} (C : fx_CX D y_M_oid prog_15_method_19_code 4 2 32 (none) [] h0 p R s m meth c) (hl : l.flags = flags0) (r0 : Nat) (x2 : Int32) (sr0 : Nat) (sx1 : Int32) (h : AH) (hw : m_M_oid_56 Q r0 x2 sr0 sx1 h) : ∀ (ls : Array Slot) (H : Heap) (locs : List Loc) (cells slots : Nat), lv_has ls 4 [(0, .ref r0), (2, .int x2)] → fx_F D h0 h H locs cells slots → W p l e R s m args below meth c H locs cells slots (fx_Z D below s h0 (fx_oV Q fx_no)) (F0 m 56 ls [.int sx1, .ref sr0]) := by
  unfold m_M_oid_56 at hw
  intro ls H locs cells slots hv F
  obtain ⟨hk1, hw⟩ := hw
  refine fx_callV C F (c_M_need hl hw) hm_M_need hi_M_need hv.1 (by decide) (Nat.le_of_ble_eq_true rfl) (iv_M_need C F lm_M_143 hk1 d_M_oid_56) (fx_out0 _) fx_eno (fun h1 H locs cells slots hw hx1 F => ?_)
  replace hw := hw hx1
  have hk1 := (hx1).k hk1
  refine lv_aload_n C.ex C.by d_M_oid_59 rfl (lv_at hv 0 rfl) ?_
  obtain ⟨hk2, hw⟩ := hw
  refine fx_getI C F lf_M_128 hk2 rfl d_M_oid_60 ?_
  let v1 : Int32 := (hp_I h1 r0 20)
  replace hw := hw v1 rfl
  refine lv_istore_n (lv' := [(3, .int v1), (0, .ref r0), (2, .int x2)]) C.ex C.by d_M_oid_63 rfl hv (by decide) rfl (fun ls hv => ?_)
  exact b_M_oid_64 C hl _ _ _ _ hw _ _ _ _ _ (lv_sub hv [1, 2, 0] rfl) F
theorem b_M_oid_55 {p : Program} {l : Launch} {e : Env} {R : Room} {s : State} {m : MethodId} {args : Array Value} {below : List Frame} {meth : Method} {c : Code} {D : DD} {h0 : AH} {Q : AH → Prop} (C : fx_CX D y_M_oid prog_15_method_19_code 4 2 32 (none) [] h0 p R s m meth c) (hl : l.flags = flags0) (r0 : Nat) (x2 : Int32) (sr0 : Nat) (h : AH) (hw : m_M_oid_55 Q r0 x2 sr0 h) : ∀ (ls : Array Slot) (H : Heap) (locs : List Loc) (cells slots : Nat), lv_has ls 4 [(0, .ref r0), (2, .int x2)] → fx_F D h0 h H locs cells slots → W p l e R s m args below meth c H locs cells slots (fx_Z D below s h0 (fx_oV Q fx_no)) (F0 m 55 ls [.ref sr0]) := by
  unfold m_M_oid_55 at hw
  intro ls H locs cells slots hv F
  refine lv_iconst (v := (0 : Int32)) C.ex C.by d_M_oid_55 (by decide) ?_
  exact b_M_oid_56 C hl _ _ _ _ _ hw _ _ _ _ _ hv F
theorem b_M_oid_0 {p : Program} {l : Launch} {e : Env} {R : Room} {s : State} {m : MethodId} {args : Array Value} {below : List Frame} {meth : Method} {c : Code} {D : DD} {h0 : AH} {Q : AH → Prop} (C : fx_CX D y_M_oid prog_15_method_19_code 4 2 32 (none) [] h0 p R s m meth c) (hl : l.flags = flags0) (r0 : Nat) (x1 : Int32) (h : AH) (hw : m_M_oid Q r0 x1 h) : ∀ (ls : Array Slot) (H : Heap) (locs : List Loc) (cells slots : Nat), lv_has ls 4 [(0, .ref r0), (1, .int x1)] → fx_F D h0 h H locs cells slots → W p l e R s m args below meth c H locs cells slots (fx_Z D below s h0 (fx_oV Q fx_no)) (F0 m 0 ls []) := by
  unfold m_M_oid at hw
  intro ls H locs cells slots hv F
  refine lv_aload_n C.ex C.by d_M_oid_0 rfl (lv_at hv 0 rfl) ?_
  refine lv_bipush (v := (6 : Int32)) C.ex C.by d_M_oid_1 (by decide) ?_
  refine lv_iload_n C.ex C.by d_M_oid_3 rfl (lv_at hv 1 rfl) ?_
  obtain ⟨hk1, hw⟩ := hw
  refine fx_callI C F (c_M_open hl hw) hm_M_open hi_M_open hv.1 (by decide) (Nat.le_of_ble_eq_true rfl) (iv_M_open C F lm_M_140 hk1 d_M_oid_4) (fx_out0 _) fx_eno (fun v1 h1 H locs cells slots hw hx1 F => ?_)
  replace hw := hw hx1
  have hk1 := (hx1).k hk1
  refine lv_istore_n (lv' := [(2, .int v1), (0, .ref r0), (1, .int x1)]) C.ex C.by d_M_oid_7 rfl hv (by decide) rfl (fun ls hv => ?_)
  refine lv_aload_n C.ex C.by d_M_oid_8 rfl (lv_at hv 1 rfl) ?_
  refine fx_getI C F lf_M_124 hk1 rfl d_M_oid_9 ?_
  refine lv_if_eq C.ex C.by d_M_oid_12 rfl (fun hc => ?_) (fun hc => ?_)
  · replace hw := hw.1 hc
    refine lv_aload_n C.ex C.by d_M_oid_16 rfl (lv_at hv 1 rfl) ?_
    refine lv_iload_n C.ex C.by d_M_oid_17 rfl (lv_at hv 0 rfl) ?_
    refine lv_aload_n C.ex C.by d_M_oid_18 rfl (lv_at hv 1 rfl) ?_
    refine fx_getI C F lf_M_128 hk1 rfl d_M_oid_19 ?_
    refine lv_isub C.ex C.by d_M_oid_22 ?_
    refine lv_iconst (v := (1 : Int32)) C.ex C.by d_M_oid_23 (by decide) ?_
    refine lv_icmp_lt C.ex C.by d_M_oid_24 rfl (fun hc => ?_) (fun hc => ?_)
    · replace hw := hw.1 hc
      exact b_M_oid_55 C hl _ _ _ _ hw _ _ _ _ _ (lv_sub hv [1, 0] rfl) F
    · replace hw := hw.2 hc
      refine lv_iload_n C.ex C.by d_M_oid_27 rfl (lv_at hv 0 rfl) ?_
      refine lv_aload_n C.ex C.by d_M_oid_28 rfl (lv_at hv 1 rfl) ?_
      refine fx_getI C F lf_M_128 hk1 rfl d_M_oid_29 ?_
      refine lv_isub C.ex C.by d_M_oid_32 ?_
      refine lv_bipush (v := (32 : Int32)) C.ex C.by d_M_oid_33 (by decide) ?_
      refine lv_icmp_gt C.ex C.by d_M_oid_35 rfl (fun hc => ?_) (fun hc => ?_)
      · replace hw := hw.1 hc
        exact b_M_oid_55 C hl _ _ _ _ hw _ _ _ _ _ (lv_sub hv [1, 0] rfl) F
      · replace hw := hw.2 hc
        refine lv_aload_n C.ex C.by d_M_oid_38 rfl (lv_at hv 1 rfl) ?_
        refine lv_iload_n C.ex C.by d_M_oid_39 rfl (lv_at hv 0 rfl) ?_
        refine lv_iconst (v := (1 : Int32)) C.ex C.by d_M_oid_40 (by decide) ?_
        refine lv_isub C.ex C.by d_M_oid_41 ?_
        refine fx_callI C F (c_M_here hl hw) hm_M_here hi_M_here hv.1 (by decide) (Nat.le_of_ble_eq_true rfl) (iv_M_here C F lm_M_131 hk1 d_M_oid_42) (fx_out0 _) fx_eno (fun v2 h2 H locs cells slots hw hx2 F => ?_)
        replace hw := hw hx2
        have hk1 := (hx2).k hk1
        refine lv_sipush (v := (128 : Int32)) C.ex C.by d_M_oid_45 (by decide) ?_
        refine lv_icmp_ge C.ex C.by d_M_oid_48 rfl (fun hc => ?_) (fun hc => ?_)
        · replace hw := hw.1 hc
          exact b_M_oid_55 C hl _ _ _ _ hw _ _ _ _ _ (lv_sub hv [1, 0] rfl) F
        · replace hw := hw.2 hc
          refine lv_iconst (v := (1 : Int32)) C.ex C.by d_M_oid_51 (by decide) ?_
          refine lv_goto C.ex C.by d_M_oid_52 rfl ?_
          exact b_M_oid_56 C hl _ _ _ _ _ hw _ _ _ _ _ (lv_sub hv [1, 0] rfl) F
  · replace hw := hw.2 hc
    exact fx_vret C F d_M_oid_15 (Or.inl ⟨rfl, hw⟩)
theorem hm_M_oid : fx_hd y_M_oid prog_15_method_19_code 4 (none) [] ∈ tables_1 := (fx_m7 (List.mem_of_getElem? (i := 9) rfl))
theorem hi_M_oid : Cond.initialized y_M_oid.cls ∈ tables_1 := (fx_m1 (List.mem_of_getElem? (i := 15) rfl))
theorem c_M_oid {l : Launch} (hl : l.flags = flags0) {D : DD} {Q : AH → Prop} {r0 : Nat} {x1 : Int32} {h : AH} (hw : m_M_oid Q r0 x1 h) : fx_Mt l D y_M_oid (fx_hd y_M_oid prog_15_method_19_code 4 (none) []) 2 32 [.ref r0, .int x1] h (fx_oV Q fx_no) := by
  refine fx_ofW (plainFor_of_name (by decide)) (fun p e s m below meth c C F => ?_)
  have hv := lv_entry ([.ref r0, .int x1]) (n := 4) (Nat.le_of_ble_eq_true rfl)
  rw [lg_entry_eq]
  generalize (lg_sl ([.ref r0, .int x1]) ++ List.replicate (4 - (lg_sl ([.ref r0, .int x1])).length) Slot.unset).toArray = ls at hv ⊢
  have hv : lv_has ls 4 [(0, .ref r0), (1, .int x1)] := hv
  exact b_M_oid_0 C hl _ _ _ hw _ _ _ _ _ hv F
/-! ChainJudgeModel.name(I)I: frames 3, words 47 -/
abbrev y_M_name : MethodName := ⟨"ChainJudgeModel", "name", "(I)I"⟩
theorem lm_M_155 : Cond.methodLink "ChainJudgeModel" 155 y_M_oid ∈ tables_1 ∨ ∃ host, Cond.methodLinkNest "ChainJudgeModel" 155 y_M_oid host ∈ tables_1 := Or.inl (fx_m7 (List.mem_of_getElem? (i := 6) rfl))
section
variable {p : Program} {l : Launch} {e : Env} {R : Room} {s : State} {m : MethodId} {args : Array Value} {below : List Frame} {meth : Method} {c : Code} {H : Heap} {locs : List Loc} {cells slots : Nat}
variable {D : DD} {y : MethodName} {cc : ByteArray} {nL kf kw : Nat} {ret : Option FieldType} {hh : List (Nat × Nat × Nat × Nat)} {h0 h : AH} {pc : Nat} {ls : Array Slot} {rest : List Value} {b idx : Nat}
theorem iv_M_oid {x1 : Int32} (C : fx_CX D y cc nL kf kw ret hh h0 p R s m meth c) (F : fx_F D h0 h H locs cells slots) (hw1 : Cond.methodLink y.cls idx y_M_oid ∈ tables_1 ∨ ∃ host, Cond.methodLinkNest y.cls idx y_M_oid host ∈ tables_1) (hk : hp_k h b = 13) (hd : decode cc pc = .ok (.invokevirtual idx, 3)) : fx_IV p l e R s m args below meth c H locs cells slots (F0 m pc ls (.int x1 :: .ref b :: rest)) rest y_M_oid [.ref b, .int x1] 3 := fun T hT X => fx_invV (As := [.int x1]) (Cn := "ChainJudgeModel") C X hw1 (fx_m7 (List.mem_of_getElem? (i := 8) rfl)) (fx_selP C ⟨by decide, by decide⟩ (fx_m5 (List.mem_of_getElem? (i := 217) rfl)) (fx_m7 (List.mem_of_getElem? (i := 7) rfl)) (fx_m7 (List.mem_of_getElem? (i := 8) rfl))) hm_M_oid ⟨by decide, by decide⟩ (by rw [hT]; exact fx_clsO (ci := 12) (r := ("ChainJudgeModel", fx_T12, 57)) C F rfl (by decide) hk) rfl (n := 1) (by decide +kernel) rfl rfl hd
end
def dl_M_name : List (Nat × Instr × Nat) := [(0, .aload_n 0, 1), (1, .bipush 48, 2), (3, .iload_n 1, 1), (4, .invokevirtual 140, 3), (7, .istore_n 2, 1), (8, .iconst 0, 1), (9, .istore_n 3, 1), (10, .aload_n 0, 1), (11, .getfield 124, 3), (14, .ifCond .ne 191, 3), (17, .aload_n 0, 1), (18, .getfield 128, 3), (21, .iload_n 2, 1), (22, .if_icmp .ge 183, 3), (25, .aload_n 0, 1), (26, .bipush 49, 2), (28, .iload_n 2, 1), (29, .invokevirtual 140, 3), (32, .istore 4, 2), (34, .aload_n 0, 1), (35, .bipush 48, 2), (37, .iload 4, 2), (39, .invokevirtual 140, 3), (42, .istore 5, 2), (44, .aload_n 0, 1), (45, .getfield 124, 3), (48, .ifCond .ne 19, 3), (51, .aload_n 0, 1), (52, .iload 5, 2), (54, .iload 4, 2), (56, .if_icmp .ne 7, 3), (59, .iconst 1, 1), (60, .goto 4, 3), (63, .iconst 0, 1), (64, .invokevirtual 143, 3), (67, .aload_n 0, 1), (68, .iload 5, 2), (70, .invokevirtual 155, 3), (73, .aload_n 0, 1), (74, .getfield 124, 3), (77, .ifCond .ne 47, 3), (80, .aload_n 0, 1), (81, .aload_n 0, 1), (82, .getfield 128, 3), (85, .iload 5, 2), (87, .if_icmp .ge 33, 3), (90, .aload_n 0, 1), (91, .aload_n 0, 1), (92, .getfield 128, 3), (95, .invokevirtual 131, 3), (98, .bipush 12, 2), (100, .if_icmp .eq 16, 3), (103, .aload_n 0, 1), (104, .aload_n 0, 1), (105, .getfield 128, 3), (108, .invokevirtual 131, 3), (111, .bipush 19, 2), (113, .if_icmp .ne 7, 3), (116, .iconst 1, 1), (117, .goto 4, 3), (120, .iconst 0, 1), (121, .invokevirtual 143, 3), (124, .aload_n 0, 1), (125, .iconst (-1), 1), (126, .iload 5, 2), (128, .invokevirtual 140, 3), (131, .istore 6, 2), (133, .aload_n 0, 1), (134, .getfield 124, 3), (137, .ifCond .ne 42, 3), (140, .aload_n 0, 1), (141, .iload 6, 2), (143, .iload 5, 2), (145, .if_icmp .ne 30, 3), (148, .iload 6, 2), (150, .aload_n 0, 1), (151, .getfield 128, 3), (154, .isub, 1), (155, .iconst 1, 1), (156, .if_icmp .lt 19, 3), (159, .iload 6, 2), (161, .aload_n 0, 1), (162, .getfield 128, 3), (165, .isub, 1), (166, .bipush 64, 2), (168, .if_icmp .gt 7, 3), (171, .iconst 1, 1), (172, .goto 4, 3), (175, .iconst 0, 1), (176, .invokevirtual 143, 3), (179, .aload_n 0, 1), (180, .aload_n 0, 1), (181, .getfield 124, 3), (184, .ifCond .eq 10, 3), (187, .aload_n 0, 1), (188, .getfield 128, 3), (191, .goto 5, 3), (194, .iload 6, 2), (196, .putfield 128, 3), (199, .iinc 3 1, 3), (202, .goto (-192), 3), (205, .aload_n 0, 1), (206, .iload_n 3, 1), (207, .iconst 1, 1), (208, .if_icmp .lt 13, 3), (211, .iload_n 3, 1), (212, .bipush 8, 2), (214, .if_icmp .gt 7, 3), (217, .iconst 1, 1), (218, .goto 4, 3), (221, .iconst 0, 1), (222, .invokevirtual 143, 3), (225, .iload_n 3, 1), (226, .ireturn, 1)]
theorem dk_M_name : fx_dec prog_15_method_21_code dl_M_name = true := by decide +kernel
theorem d_M_name_0 : decode prog_15_method_21_code 0 = .ok (.aload_n 0, 1) := fx_dat dk_M_name 0 rfl
theorem d_M_name_1 : decode prog_15_method_21_code 1 = .ok (.bipush 48, 2) := fx_dat dk_M_name 1 rfl
theorem d_M_name_3 : decode prog_15_method_21_code 3 = .ok (.iload_n 1, 1) := fx_dat dk_M_name 2 rfl
theorem d_M_name_4 : decode prog_15_method_21_code 4 = .ok (.invokevirtual 140, 3) := fx_dat dk_M_name 3 rfl
theorem d_M_name_7 : decode prog_15_method_21_code 7 = .ok (.istore_n 2, 1) := fx_dat dk_M_name 4 rfl
theorem d_M_name_8 : decode prog_15_method_21_code 8 = .ok (.iconst 0, 1) := fx_dat dk_M_name 5 rfl
theorem d_M_name_9 : decode prog_15_method_21_code 9 = .ok (.istore_n 3, 1) := fx_dat dk_M_name 6 rfl
theorem d_M_name_10 : decode prog_15_method_21_code 10 = .ok (.aload_n 0, 1) := fx_dat dk_M_name 7 rfl
theorem d_M_name_11 : decode prog_15_method_21_code 11 = .ok (.getfield 124, 3) := fx_dat dk_M_name 8 rfl
theorem d_M_name_14 : decode prog_15_method_21_code 14 = .ok (.ifCond .ne 191, 3) := fx_dat dk_M_name 9 rfl
theorem d_M_name_17 : decode prog_15_method_21_code 17 = .ok (.aload_n 0, 1) := fx_dat dk_M_name 10 rfl
theorem d_M_name_18 : decode prog_15_method_21_code 18 = .ok (.getfield 128, 3) := fx_dat dk_M_name 11 rfl
theorem d_M_name_21 : decode prog_15_method_21_code 21 = .ok (.iload_n 2, 1) := fx_dat dk_M_name 12 rfl
theorem d_M_name_22 : decode prog_15_method_21_code 22 = .ok (.if_icmp .ge 183, 3) := fx_dat dk_M_name 13 rfl
theorem d_M_name_25 : decode prog_15_method_21_code 25 = .ok (.aload_n 0, 1) := fx_dat dk_M_name 14 rfl
theorem d_M_name_26 : decode prog_15_method_21_code 26 = .ok (.bipush 49, 2) := fx_dat dk_M_name 15 rfl
theorem d_M_name_28 : decode prog_15_method_21_code 28 = .ok (.iload_n 2, 1) := fx_dat dk_M_name 16 rfl
theorem d_M_name_29 : decode prog_15_method_21_code 29 = .ok (.invokevirtual 140, 3) := fx_dat dk_M_name 17 rfl
theorem d_M_name_32 : decode prog_15_method_21_code 32 = .ok (.istore 4, 2) := fx_dat dk_M_name 18 rfl
theorem d_M_name_34 : decode prog_15_method_21_code 34 = .ok (.aload_n 0, 1) := fx_dat dk_M_name 19 rfl
theorem d_M_name_35 : decode prog_15_method_21_code 35 = .ok (.bipush 48, 2) := fx_dat dk_M_name 20 rfl
theorem d_M_name_37 : decode prog_15_method_21_code 37 = .ok (.iload 4, 2) := fx_dat dk_M_name 21 rfl
theorem d_M_name_39 : decode prog_15_method_21_code 39 = .ok (.invokevirtual 140, 3) := fx_dat dk_M_name 22 rfl
theorem d_M_name_42 : decode prog_15_method_21_code 42 = .ok (.istore 5, 2) := fx_dat dk_M_name 23 rfl
theorem d_M_name_44 : decode prog_15_method_21_code 44 = .ok (.aload_n 0, 1) := fx_dat dk_M_name 24 rfl
theorem d_M_name_45 : decode prog_15_method_21_code 45 = .ok (.getfield 124, 3) := fx_dat dk_M_name 25 rfl
theorem d_M_name_48 : decode prog_15_method_21_code 48 = .ok (.ifCond .ne 19, 3) := fx_dat dk_M_name 26 rfl
theorem d_M_name_51 : decode prog_15_method_21_code 51 = .ok (.aload_n 0, 1) := fx_dat dk_M_name 27 rfl
theorem d_M_name_52 : decode prog_15_method_21_code 52 = .ok (.iload 5, 2) := fx_dat dk_M_name 28 rfl
theorem d_M_name_54 : decode prog_15_method_21_code 54 = .ok (.iload 4, 2) := fx_dat dk_M_name 29 rfl
theorem d_M_name_56 : decode prog_15_method_21_code 56 = .ok (.if_icmp .ne 7, 3) := fx_dat dk_M_name 30 rfl
theorem d_M_name_59 : decode prog_15_method_21_code 59 = .ok (.iconst 1, 1) := fx_dat dk_M_name 31 rfl
theorem d_M_name_60 : decode prog_15_method_21_code 60 = .ok (.goto 4, 3) := fx_dat dk_M_name 32 rfl
theorem d_M_name_63 : decode prog_15_method_21_code 63 = .ok (.iconst 0, 1) := fx_dat dk_M_name 33 rfl
theorem d_M_name_64 : decode prog_15_method_21_code 64 = .ok (.invokevirtual 143, 3) := fx_dat dk_M_name 34 rfl
theorem d_M_name_67 : decode prog_15_method_21_code 67 = .ok (.aload_n 0, 1) := fx_dat dk_M_name 35 rfl
theorem d_M_name_68 : decode prog_15_method_21_code 68 = .ok (.iload 5, 2) := fx_dat dk_M_name 36 rfl
theorem d_M_name_70 : decode prog_15_method_21_code 70 = .ok (.invokevirtual 155, 3) := fx_dat dk_M_name 37 rfl
theorem d_M_name_73 : decode prog_15_method_21_code 73 = .ok (.aload_n 0, 1) := fx_dat dk_M_name 38 rfl
theorem d_M_name_74 : decode prog_15_method_21_code 74 = .ok (.getfield 124, 3) := fx_dat dk_M_name 39 rfl
theorem d_M_name_77 : decode prog_15_method_21_code 77 = .ok (.ifCond .ne 47, 3) := fx_dat dk_M_name 40 rfl
theorem d_M_name_80 : decode prog_15_method_21_code 80 = .ok (.aload_n 0, 1) := fx_dat dk_M_name 41 rfl
theorem d_M_name_81 : decode prog_15_method_21_code 81 = .ok (.aload_n 0, 1) := fx_dat dk_M_name 42 rfl
theorem d_M_name_82 : decode prog_15_method_21_code 82 = .ok (.getfield 128, 3) := fx_dat dk_M_name 43 rfl
theorem d_M_name_85 : decode prog_15_method_21_code 85 = .ok (.iload 5, 2) := fx_dat dk_M_name 44 rfl
theorem d_M_name_87 : decode prog_15_method_21_code 87 = .ok (.if_icmp .ge 33, 3) := fx_dat dk_M_name 45 rfl
theorem d_M_name_90 : decode prog_15_method_21_code 90 = .ok (.aload_n 0, 1) := fx_dat dk_M_name 46 rfl
theorem d_M_name_91 : decode prog_15_method_21_code 91 = .ok (.aload_n 0, 1) := fx_dat dk_M_name 47 rfl
theorem d_M_name_92 : decode prog_15_method_21_code 92 = .ok (.getfield 128, 3) := fx_dat dk_M_name 48 rfl
theorem d_M_name_95 : decode prog_15_method_21_code 95 = .ok (.invokevirtual 131, 3) := fx_dat dk_M_name 49 rfl
theorem d_M_name_98 : decode prog_15_method_21_code 98 = .ok (.bipush 12, 2) := fx_dat dk_M_name 50 rfl
theorem d_M_name_100 : decode prog_15_method_21_code 100 = .ok (.if_icmp .eq 16, 3) := fx_dat dk_M_name 51 rfl
theorem d_M_name_103 : decode prog_15_method_21_code 103 = .ok (.aload_n 0, 1) := fx_dat dk_M_name 52 rfl
theorem d_M_name_104 : decode prog_15_method_21_code 104 = .ok (.aload_n 0, 1) := fx_dat dk_M_name 53 rfl
theorem d_M_name_105 : decode prog_15_method_21_code 105 = .ok (.getfield 128, 3) := fx_dat dk_M_name 54 rfl
theorem d_M_name_108 : decode prog_15_method_21_code 108 = .ok (.invokevirtual 131, 3) := fx_dat dk_M_name 55 rfl
theorem d_M_name_111 : decode prog_15_method_21_code 111 = .ok (.bipush 19, 2) := fx_dat dk_M_name 56 rfl
theorem d_M_name_113 : decode prog_15_method_21_code 113 = .ok (.if_icmp .ne 7, 3) := fx_dat dk_M_name 57 rfl
theorem d_M_name_116 : decode prog_15_method_21_code 116 = .ok (.iconst 1, 1) := fx_dat dk_M_name 58 rfl
theorem d_M_name_117 : decode prog_15_method_21_code 117 = .ok (.goto 4, 3) := fx_dat dk_M_name 59 rfl
theorem d_M_name_120 : decode prog_15_method_21_code 120 = .ok (.iconst 0, 1) := fx_dat dk_M_name 60 rfl
theorem d_M_name_121 : decode prog_15_method_21_code 121 = .ok (.invokevirtual 143, 3) := fx_dat dk_M_name 61 rfl
theorem d_M_name_124 : decode prog_15_method_21_code 124 = .ok (.aload_n 0, 1) := fx_dat dk_M_name 62 rfl
theorem d_M_name_125 : decode prog_15_method_21_code 125 = .ok (.iconst (-1), 1) := fx_dat dk_M_name 63 rfl
theorem d_M_name_126 : decode prog_15_method_21_code 126 = .ok (.iload 5, 2) := fx_dat dk_M_name 64 rfl
theorem d_M_name_128 : decode prog_15_method_21_code 128 = .ok (.invokevirtual 140, 3) := fx_dat dk_M_name 65 rfl
theorem d_M_name_131 : decode prog_15_method_21_code 131 = .ok (.istore 6, 2) := fx_dat dk_M_name 66 rfl
theorem d_M_name_133 : decode prog_15_method_21_code 133 = .ok (.aload_n 0, 1) := fx_dat dk_M_name 67 rfl
theorem d_M_name_134 : decode prog_15_method_21_code 134 = .ok (.getfield 124, 3) := fx_dat dk_M_name 68 rfl
theorem d_M_name_137 : decode prog_15_method_21_code 137 = .ok (.ifCond .ne 42, 3) := fx_dat dk_M_name 69 rfl
theorem d_M_name_140 : decode prog_15_method_21_code 140 = .ok (.aload_n 0, 1) := fx_dat dk_M_name 70 rfl
theorem d_M_name_141 : decode prog_15_method_21_code 141 = .ok (.iload 6, 2) := fx_dat dk_M_name 71 rfl
theorem d_M_name_143 : decode prog_15_method_21_code 143 = .ok (.iload 5, 2) := fx_dat dk_M_name 72 rfl
theorem d_M_name_145 : decode prog_15_method_21_code 145 = .ok (.if_icmp .ne 30, 3) := fx_dat dk_M_name 73 rfl
theorem d_M_name_148 : decode prog_15_method_21_code 148 = .ok (.iload 6, 2) := fx_dat dk_M_name 74 rfl
theorem d_M_name_150 : decode prog_15_method_21_code 150 = .ok (.aload_n 0, 1) := fx_dat dk_M_name 75 rfl
theorem d_M_name_151 : decode prog_15_method_21_code 151 = .ok (.getfield 128, 3) := fx_dat dk_M_name 76 rfl
theorem d_M_name_154 : decode prog_15_method_21_code 154 = .ok (.isub, 1) := fx_dat dk_M_name 77 rfl
theorem d_M_name_155 : decode prog_15_method_21_code 155 = .ok (.iconst 1, 1) := fx_dat dk_M_name 78 rfl
theorem d_M_name_156 : decode prog_15_method_21_code 156 = .ok (.if_icmp .lt 19, 3) := fx_dat dk_M_name 79 rfl
theorem d_M_name_159 : decode prog_15_method_21_code 159 = .ok (.iload 6, 2) := fx_dat dk_M_name 80 rfl
theorem d_M_name_161 : decode prog_15_method_21_code 161 = .ok (.aload_n 0, 1) := fx_dat dk_M_name 81 rfl
theorem d_M_name_162 : decode prog_15_method_21_code 162 = .ok (.getfield 128, 3) := fx_dat dk_M_name 82 rfl
theorem d_M_name_165 : decode prog_15_method_21_code 165 = .ok (.isub, 1) := fx_dat dk_M_name 83 rfl
theorem d_M_name_166 : decode prog_15_method_21_code 166 = .ok (.bipush 64, 2) := fx_dat dk_M_name 84 rfl
theorem d_M_name_168 : decode prog_15_method_21_code 168 = .ok (.if_icmp .gt 7, 3) := fx_dat dk_M_name 85 rfl
theorem d_M_name_171 : decode prog_15_method_21_code 171 = .ok (.iconst 1, 1) := fx_dat dk_M_name 86 rfl
theorem d_M_name_172 : decode prog_15_method_21_code 172 = .ok (.goto 4, 3) := fx_dat dk_M_name 87 rfl
theorem d_M_name_175 : decode prog_15_method_21_code 175 = .ok (.iconst 0, 1) := fx_dat dk_M_name 88 rfl
theorem d_M_name_176 : decode prog_15_method_21_code 176 = .ok (.invokevirtual 143, 3) := fx_dat dk_M_name 89 rfl
theorem d_M_name_179 : decode prog_15_method_21_code 179 = .ok (.aload_n 0, 1) := fx_dat dk_M_name 90 rfl
theorem d_M_name_180 : decode prog_15_method_21_code 180 = .ok (.aload_n 0, 1) := fx_dat dk_M_name 91 rfl
theorem d_M_name_181 : decode prog_15_method_21_code 181 = .ok (.getfield 124, 3) := fx_dat dk_M_name 92 rfl
theorem d_M_name_184 : decode prog_15_method_21_code 184 = .ok (.ifCond .eq 10, 3) := fx_dat dk_M_name 93 rfl
theorem d_M_name_187 : decode prog_15_method_21_code 187 = .ok (.aload_n 0, 1) := fx_dat dk_M_name 94 rfl
theorem d_M_name_188 : decode prog_15_method_21_code 188 = .ok (.getfield 128, 3) := fx_dat dk_M_name 95 rfl
theorem d_M_name_191 : decode prog_15_method_21_code 191 = .ok (.goto 5, 3) := fx_dat dk_M_name 96 rfl
theorem d_M_name_194 : decode prog_15_method_21_code 194 = .ok (.iload 6, 2) := fx_dat dk_M_name 97 rfl
theorem d_M_name_196 : decode prog_15_method_21_code 196 = .ok (.putfield 128, 3) := fx_dat dk_M_name 98 rfl
theorem d_M_name_199 : decode prog_15_method_21_code 199 = .ok (.iinc 3 1, 3) := fx_dat dk_M_name 99 rfl
theorem d_M_name_202 : decode prog_15_method_21_code 202 = .ok (.goto (-192), 3) := fx_dat dk_M_name 100 rfl
theorem d_M_name_205 : decode prog_15_method_21_code 205 = .ok (.aload_n 0, 1) := fx_dat dk_M_name 101 rfl
theorem d_M_name_206 : decode prog_15_method_21_code 206 = .ok (.iload_n 3, 1) := fx_dat dk_M_name 102 rfl
theorem d_M_name_207 : decode prog_15_method_21_code 207 = .ok (.iconst 1, 1) := fx_dat dk_M_name 103 rfl
theorem d_M_name_208 : decode prog_15_method_21_code 208 = .ok (.if_icmp .lt 13, 3) := fx_dat dk_M_name 104 rfl
theorem d_M_name_211 : decode prog_15_method_21_code 211 = .ok (.iload_n 3, 1) := fx_dat dk_M_name 105 rfl
theorem d_M_name_212 : decode prog_15_method_21_code 212 = .ok (.bipush 8, 2) := fx_dat dk_M_name 106 rfl
theorem d_M_name_214 : decode prog_15_method_21_code 214 = .ok (.if_icmp .gt 7, 3) := fx_dat dk_M_name 107 rfl
theorem d_M_name_217 : decode prog_15_method_21_code 217 = .ok (.iconst 1, 1) := fx_dat dk_M_name 108 rfl
theorem d_M_name_218 : decode prog_15_method_21_code 218 = .ok (.goto 4, 3) := fx_dat dk_M_name 109 rfl
theorem d_M_name_221 : decode prog_15_method_21_code 221 = .ok (.iconst 0, 1) := fx_dat dk_M_name 110 rfl
theorem d_M_name_222 : decode prog_15_method_21_code 222 = .ok (.invokevirtual 143, 3) := fx_dat dk_M_name 111 rfl
theorem d_M_name_225 : decode prog_15_method_21_code 225 = .ok (.iload_n 3, 1) := fx_dat dk_M_name 112 rfl
theorem d_M_name_226 : decode prog_15_method_21_code 226 = .ok (.ireturn, 1) := fx_dat dk_M_name 113 rfl
def m_M_name_222 (Q : Int32 → AH → Prop) (x3 : Int32) (sr0 : Nat) (sx1 : Int32) (h : AH) : Prop := hp_k h sr0 = 13 ∧ m_M_need (fun h1 => fx_ext h h1 → Q x3 h1) sr0 sx1 h
def m_M_name_221 (Q : Int32 → AH → Prop) (x3 : Int32) (sr0 : Nat) (h : AH) : Prop := m_M_name_222 Q x3 sr0 (0 : Int32) h
def m_M_name_205 (Q : Int32 → AH → Prop) (r0 : Nat) (x3 : Int32) (h : AH) : Prop := (x3 < (1 : Int32) → m_M_name_221 Q x3 r0 h) ∧ (¬ x3 < (1 : Int32) → ((8 : Int32) < x3 → m_M_name_221 Q x3 r0 h) ∧ (¬ (8 : Int32) < x3 → m_M_name_222 Q x3 r0 (1 : Int32) h))
def m_M_name_196 (Q : Int32 → AH → Prop) (X10 : Int32 × AH → Prop) (r0 : Nat) (x2 : Int32) (x3 : Int32) (sr0 : Nat) (sx1 : Int32) (h : AH) : Prop := hp_k h sr0 = 13 ∧ ∀ h1 : AH, h1 = up_I h sr0 20 sx1 → ∀ v1 : Int32, v1 = (x3 + (1 : Int32)) → X10 (v1, h1)
def m_M_name_179 (Q : Int32 → AH → Prop) (X10 : Int32 × AH → Prop) (r0 : Nat) (x2 : Int32) (x3 : Int32) (x6 : Int32) (h : AH) : Prop := hp_k h r0 = 13 ∧ ((hp_I h r0 21) = 0 → m_M_name_196 Q X10 r0 x2 x3 r0 x6 h) ∧ (¬ (hp_I h r0 21) = 0 → m_M_name_196 Q X10 r0 x2 x3 r0 (hp_I h r0 20) h)
def m_M_name_176 (Q : Int32 → AH → Prop) (X10 : Int32 × AH → Prop) (r0 : Nat) (x2 : Int32) (x3 : Int32) (x6 : Int32) (sr0 : Nat) (sx1 : Int32) (h : AH) : Prop := hp_k h sr0 = 13 ∧ m_M_need (fun h1 => fx_ext h h1 → m_M_name_179 Q X10 r0 x2 x3 x6 h1) sr0 sx1 h
def m_M_name_175 (Q : Int32 → AH → Prop) (X10 : Int32 × AH → Prop) (r0 : Nat) (x2 : Int32) (x3 : Int32) (x6 : Int32) (sr0 : Nat) (h : AH) : Prop := m_M_name_176 Q X10 r0 x2 x3 x6 sr0 (0 : Int32) h
def m_M_name_124 (Q : Int32 → AH → Prop) (X10 : Int32 × AH → Prop) (r0 : Nat) (x2 : Int32) (x3 : Int32) (x5 : Int32) (h : AH) : Prop := hp_k h r0 = 13 ∧ m_M_open (fun v1 h1 => fx_ext h h1 → (¬ (hp_I h1 r0 21) = 0 → m_M_name_179 Q X10 r0 x2 x3 v1 h1) ∧ ((hp_I h1 r0 21) = 0 → (¬ v1 = x5 → m_M_name_175 Q X10 r0 x2 x3 v1 r0 h1) ∧ (v1 = x5 → ((v1 - (hp_I h1 r0 20)) < (1 : Int32) → m_M_name_175 Q X10 r0 x2 x3 v1 r0 h1) ∧ (¬ (v1 - (hp_I h1 r0 20)) < (1 : Int32) → ((64 : Int32) < (v1 - (hp_I h1 r0 20)) → m_M_name_175 Q X10 r0 x2 x3 v1 r0 h1) ∧ (¬ (64 : Int32) < (v1 - (hp_I h1 r0 20)) → m_M_name_176 Q X10 r0 x2 x3 v1 r0 (1 : Int32) h1))))) r0 (-1 : Int32) x5 h
def m_M_name_121 (Q : Int32 → AH → Prop) (X10 : Int32 × AH → Prop) (r0 : Nat) (x2 : Int32) (x3 : Int32) (x5 : Int32) (sr0 : Nat) (sx1 : Int32) (h : AH) : Prop := hp_k h sr0 = 13 ∧ m_M_need (fun h1 => fx_ext h h1 → m_M_name_124 Q X10 r0 x2 x3 x5 h1) sr0 sx1 h
def m_M_name_120 (Q : Int32 → AH → Prop) (X10 : Int32 × AH → Prop) (r0 : Nat) (x2 : Int32) (x3 : Int32) (x5 : Int32) (sr0 : Nat) (h : AH) : Prop := m_M_name_121 Q X10 r0 x2 x3 x5 sr0 (0 : Int32) h
def m_M_name_116 (Q : Int32 → AH → Prop) (X10 : Int32 × AH → Prop) (r0 : Nat) (x2 : Int32) (x3 : Int32) (x5 : Int32) (sr0 : Nat) (h : AH) : Prop := m_M_name_121 Q X10 r0 x2 x3 x5 sr0 (1 : Int32) h
def m_M_name_67 (Q : Int32 → AH → Prop) (X10 : Int32 × AH → Prop) (r0 : Nat) (x2 : Int32) (x3 : Int32) (x5 : Int32) (h : AH) : Prop := hp_k h r0 = 13 ∧ m_M_oid (fun h1 => fx_ext h h1 → (¬ (hp_I h1 r0 21) = 0 → m_M_name_124 Q X10 r0 x2 x3 x5 h1) ∧ ((hp_I h1 r0 21) = 0 → (x5 ≤ (hp_I h1 r0 20) → m_M_name_120 Q X10 r0 x2 x3 x5 r0 h1) ∧ (¬ x5 ≤ (hp_I h1 r0 20) → m_M_here (fun v1 h2 => fx_ext h1 h2 → (v1 = (12 : Int32) → m_M_name_116 Q X10 r0 x2 x3 x5 r0 h2) ∧ (¬ v1 = (12 : Int32) → m_M_here (fun v2 h3 => fx_ext h2 h3 → (¬ v2 = (19 : Int32) → m_M_name_120 Q X10 r0 x2 x3 x5 r0 h3) ∧ (v2 = (19 : Int32) → m_M_name_116 Q X10 r0 x2 x3 x5 r0 h3)) r0 (hp_I h2 r0 20) h2)) r0 (hp_I h1 r0 20) h1))) r0 x5 h
def m_M_name_64 (Q : Int32 → AH → Prop) (X10 : Int32 × AH → Prop) (r0 : Nat) (x2 : Int32) (x3 : Int32) (x5 : Int32) (sr0 : Nat) (sx1 : Int32) (h : AH) : Prop := hp_k h sr0 = 13 ∧ m_M_need (fun h1 => fx_ext h h1 → m_M_name_67 Q X10 r0 x2 x3 x5 h1) sr0 sx1 h
def m_M_name_10_b (Q : Int32 → AH → Prop) (X10 : Int32 × AH → Prop) (r0 : Nat) (x2 : Int32) (x3 : Int32) (h : AH) : Prop := hp_k h r0 = 13 ∧ (¬ (hp_I h r0 21) = 0 → m_M_name_205 Q r0 x3 h) ∧ ((hp_I h r0 21) = 0 → (x2 ≤ (hp_I h r0 20) → m_M_name_205 Q r0 x3 h) ∧ (¬ x2 ≤ (hp_I h r0 20) → m_M_open (fun v1 h1 => fx_ext h h1 → m_M_open (fun v2 h2 => fx_ext h1 h2 → (¬ (hp_I h2 r0 21) = 0 → m_M_name_67 Q X10 r0 x2 x3 v2 h2) ∧ ((hp_I h2 r0 21) = 0 → (¬ v2 = v1 → m_M_name_64 Q X10 r0 x2 x3 v2 r0 (0 : Int32) h2) ∧ (v2 = v1 → m_M_name_64 Q X10 r0 x2 x3 v2 r0 (1 : Int32) h2))) r0 (48 : Int32) v1 h1) r0 (49 : Int32) x2 h))
def m_M_name_10 (Q : Int32 → AH → Prop) (r0 : Nat) (x2 : Int32) (x3 : Int32) (h : AH) : Prop := fx_loop (fun (X10 : Int32 × AH → Prop) (st : Int32 × AH) => m_M_name_10_b Q X10 r0 x2 st.1 st.2) (x3, h)
def m_M_name (Q : Int32 → AH → Prop) (r0 : Nat) (x1 : Int32) (h : AH) : Prop := hp_k h r0 = 13 ∧ m_M_open (fun v1 h1 => fx_ext h h1 → m_M_name_10 Q r0 v1 (0 : Int32) h1) r0 (48 : Int32) x1 h
theorem b_M_name_222 {p : Program} {l : Launch} {e : Env} {R : Room} {s : State} {m : MethodId} {args : Array Value} {below : List Frame} {meth : Method} {c : Code} {D : DD} {h0 : AH} {Q : Int32 → AH → Prop} (C : fx_CX D y_M_name prog_15_method_21_code 7 3 47 (Option.some FieldType.int) [] h0 p R s m meth c) (hl : l.flags = flags0) (x3 : Int32) (sr0 : Nat) (sx1 : Int32) (h : AH) (hw : m_M_name_222 Q x3 sr0 sx1 h) : ∀ (ls : Array Slot) (H : Heap) (locs : List Loc) (cells slots : Nat), lv_has ls 7 [(3, .int x3)] → fx_F D h0 h H locs cells slots → W p l e R s m args below meth c H locs cells slots (fx_Z D below s h0 (fx_oI Q fx_no)) (F0 m 222 ls [.int sx1, .ref sr0]) := by
  unfold m_M_name_222 at hw
  intro ls H locs cells slots hv F
  obtain ⟨hk1, hw⟩ := hw
  refine fx_callV C F (c_M_need hl hw) hm_M_need hi_M_need hv.1 (by decide) (Nat.le_of_ble_eq_true rfl) (iv_M_need C F lm_M_143 hk1 d_M_name_222) (fx_out0 _) fx_eno (fun h1 H locs cells slots hw hx1 F => ?_)
  replace hw := hw hx1
  have hk1 := (hx1).k hk1
  refine lv_iload_n C.ex C.by d_M_name_225 rfl (lv_at hv 0 rfl) ?_
  exact fx_iret C F d_M_name_226 (Or.inl ⟨_, rfl, hw⟩)
theorem b_M_name_221 {p : Program} {l : Launch} {e : Env} {R : Room} {s : State} {m : MethodId} {args : Array Value} {below : List Frame} {meth : Method} {c : Code} {D : DD} {h0 : AH} {Q : Int32 → AH → Prop} (C : fx_CX D y_M_name prog_15_method_21_code 7 3 47 (Option.some FieldType.int) [] h0 p R s m meth c) (hl : l.flags = flags0) (x3 : Int32) (sr0 : Nat) (h : AH) (hw : m_M_name_221 Q x3 sr0 h) : ∀ (ls : Array Slot) (H : Heap) (locs : List Loc) (cells slots : Nat), lv_has ls 7 [(3, .int x3)] → fx_F D h0 h H locs cells slots → W p l e R s m args below meth c H locs cells slots (fx_Z D below s h0 (fx_oI Q fx_no)) (F0 m 221 ls [.ref sr0]) := by
  unfold m_M_name_221 at hw
  intro ls H locs cells slots hv F
  refine lv_iconst (v := (0 : Int32)) C.ex C.by d_M_name_221 (by decide) ?_
  exact b_M_name_222 C hl _ _ _ _ hw _ _ _ _ _ hv F
theorem b_M_name_205 {p : Program} {l : Launch} {e : Env} {R : Room} {s : State} {m : MethodId} {args : Array Value} {below : List Frame} {meth : Method} {c : Code} {D : DD} {h0 : AH} {Q : Int32 → AH → Prop} (C : fx_CX D y_M_name prog_15_method_21_code 7 3 47 (Option.some FieldType.int) [] h0 p R s m meth c) (hl : l.flags = flags0) (r0 : Nat) (x3 : Int32) (h : AH) (hw : m_M_name_205 Q r0 x3 h) : ∀ (ls : Array Slot) (H : Heap) (locs : List Loc) (cells slots : Nat), lv_has ls 7 [(0, .ref r0), (3, .int x3)] → fx_F D h0 h H locs cells slots → W p l e R s m args below meth c H locs cells slots (fx_Z D below s h0 (fx_oI Q fx_no)) (F0 m 205 ls []) := by
  unfold m_M_name_205 at hw
  intro ls H locs cells slots hv F
  refine lv_aload_n C.ex C.by d_M_name_205 rfl (lv_at hv 0 rfl) ?_
  refine lv_iload_n C.ex C.by d_M_name_206 rfl (lv_at hv 1 rfl) ?_
  refine lv_iconst (v := (1 : Int32)) C.ex C.by d_M_name_207 (by decide) ?_
  refine lv_icmp_lt C.ex C.by d_M_name_208 rfl (fun hc => ?_) (fun hc => ?_)
  · replace hw := hw.1 hc
    exact b_M_name_221 C hl _ _ _ hw _ _ _ _ _ (lv_sub hv [1] rfl) F
  · replace hw := hw.2 hc
    refine lv_iload_n C.ex C.by d_M_name_211 rfl (lv_at hv 1 rfl) ?_
    refine lv_bipush (v := (8 : Int32)) C.ex C.by d_M_name_212 (by decide) ?_
    refine lv_icmp_gt C.ex C.by d_M_name_214 rfl (fun hc => ?_) (fun hc => ?_)
    · replace hw := hw.1 hc
      exact b_M_name_221 C hl _ _ _ hw _ _ _ _ _ (lv_sub hv [1] rfl) F
    · replace hw := hw.2 hc
      refine lv_iconst (v := (1 : Int32)) C.ex C.by d_M_name_217 (by decide) ?_
      refine lv_goto C.ex C.by d_M_name_218 rfl ?_
      exact b_M_name_222 C hl _ _ _ _ hw _ _ _ _ _ (lv_sub hv [1] rfl) F
theorem b_M_name_196 {p : Program} {l : Launch} {e : Env} {R : Room} {s : State} {m : MethodId} {args : Array Value} {below : List Frame} {meth : Method} {c : Code} {D : DD} {h0 : AH} {Q : Int32 → AH → Prop} {X10 : Int32 × AH → Prop} (C : fx_CX D y_M_name prog_15_method_21_code 7 3 47 (Option.some FieldType.int) [] h0 p R s m meth c) (hl : l.flags = flags0) (r0 : Nat) (x2 : Int32) (x3 : Int32) (sr0 : Nat) (sx1 : Int32) (h : AH) (hX10 : ∀ st, X10 st → ∀ (ls : Array Slot) (H : Heap) (locs : List Loc) (cells slots : Nat), lv_has ls 7 [(0, .ref r0), (2, .int x2), (3, .int st.1)] → fx_F D h0 st.2 H locs cells slots → W p l e R s m args below meth c H locs cells slots (fx_Z D below s h0 (fx_oI Q fx_no)) (F0 m 10 ls [])) (hw : m_M_name_196 Q X10 r0 x2 x3 sr0 sx1 h) : ∀ (ls : Array Slot) (H : Heap) (locs : List Loc) (cells slots : Nat), lv_has ls 7 [(0, .ref r0), (2, .int x2), (3, .int x3)] → fx_F D h0 h H locs cells slots → W p l e R s m args below meth c H locs cells slots (fx_Z D below s h0 (fx_oI Q fx_no)) (F0 m 196 ls [.int sx1, .ref sr0]) := by
  unfold m_M_name_196 at hw
  intro ls H locs cells slots hv F
  obtain ⟨hk1, hw⟩ := hw
  let h1 : AH := up_I h sr0 20 sx1
  replace hw := hw h1 rfl
  refine fx_putI C F lf_M_128 hk1 rfl rfl (fx_mayF.no rfl rfl) d_M_name_196 (fun H locs (F : fx_F D h0 h1 H locs _ _) => ?_)
  let v1 : Int32 := (x3 + (1 : Int32))
  replace hw := hw v1 rfl
  refine lv_iinc (v := v1) (k := 2) (lv' := [(3, .int v1), (0, .ref r0), (2, .int x2)]) C.ex C.by d_M_name_199 hv rfl (congrArg (fun z => x3 + z) (by decide)) (by decide) rfl (fun ls hv => ?_)
  refine lv_goto C.ex C.by d_M_name_202 rfl ?_
  exact hX10 _ hw _ _ _ _ _ (lv_sub hv [1, 2, 0] rfl) F
theorem b_M_name_179 {p : Program} {l : Launch} {e : Env} {R : Room} {s : State} {m : MethodId} {args : Array Value} {below : List Frame} {meth : Method} {c : Code} {D : DD} {h0 : AH} {Q : Int32 → AH → Prop} {X10 : Int32 × AH → Prop} (C : fx_CX D y_M_name prog_15_method_21_code 7 3 47 (Option.some FieldType.int) [] h0 p R s m meth c) (hl : l.flags = flags0) (r0 : Nat) (x2 : Int32) (x3 : Int32) (x6 : Int32) (h : AH) (hX10 : ∀ st, X10 st → ∀ (ls : Array Slot) (H : Heap) (locs : List Loc) (cells slots : Nat), lv_has ls 7 [(0, .ref r0), (2, .int x2), (3, .int st.1)] → fx_F D h0 st.2 H locs cells slots → W p l e R s m args below meth c H locs cells slots (fx_Z D below s h0 (fx_oI Q fx_no)) (F0 m 10 ls [])) (hw : m_M_name_179 Q X10 r0 x2 x3 x6 h) : ∀ (ls : Array Slot) (H : Heap) (locs : List Loc) (cells slots : Nat), lv_has ls 7 [(0, .ref r0), (2, .int x2), (3, .int x3), (6, .int x6)] → fx_F D h0 h H locs cells slots → W p l e R s m args below meth c H locs cells slots (fx_Z D below s h0 (fx_oI Q fx_no)) (F0 m 179 ls []) := by
  unfold m_M_name_179 at hw
  intro ls H locs cells slots hv F
  refine lv_aload_n C.ex C.by d_M_name_179 rfl (lv_at hv 0 rfl) ?_
  refine lv_aload_n C.ex C.by d_M_name_180 rfl (lv_at hv 0 rfl) ?_
  obtain ⟨hk1, hw⟩ := hw
  refine fx_getI C F lf_M_124 hk1 rfl d_M_name_181 ?_
  refine lv_if_eq C.ex C.by d_M_name_184 rfl (fun hc => ?_) (fun hc => ?_)
  · replace hw := hw.1 hc
    refine lv_iload C.ex C.by d_M_name_194 (lv_at hv 3 rfl) ?_
    exact b_M_name_196 C hl _ _ _ _ _ _ hX10 hw _ _ _ _ _ (lv_sub hv [0, 1, 2] rfl) F
  · replace hw := hw.2 hc
    refine lv_aload_n C.ex C.by d_M_name_187 rfl (lv_at hv 0 rfl) ?_
    refine fx_getI C F lf_M_128 hk1 rfl d_M_name_188 ?_
    refine lv_goto C.ex C.by d_M_name_191 rfl ?_
    exact b_M_name_196 C hl _ _ _ _ _ _ hX10 hw _ _ _ _ _ (lv_sub hv [0, 1, 2] rfl) F
theorem b_M_name_176 {p : Program} {l : Launch} {e : Env} {R : Room} {s : State} {m : MethodId} {args : Array Value} {below : List Frame} {meth : Method} {c : Code} {D : DD} {h0 : AH} {Q : Int32 → AH → Prop} {X10 : Int32 × AH → Prop} (C : fx_CX D y_M_name prog_15_method_21_code 7 3 47 (Option.some FieldType.int) [] h0 p R s m meth c) (hl : l.flags = flags0) (r0 : Nat) (x2 : Int32) (x3 : Int32) (x6 : Int32) (sr0 : Nat) (sx1 : Int32) (h : AH) (hX10 : ∀ st, X10 st → ∀ (ls : Array Slot) (H : Heap) (locs : List Loc) (cells slots : Nat), lv_has ls 7 [(0, .ref r0), (2, .int x2), (3, .int st.1)] → fx_F D h0 st.2 H locs cells slots → W p l e R s m args below meth c H locs cells slots (fx_Z D below s h0 (fx_oI Q fx_no)) (F0 m 10 ls [])) (hw : m_M_name_176 Q X10 r0 x2 x3 x6 sr0 sx1 h) : ∀ (ls : Array Slot) (H : Heap) (locs : List Loc) (cells slots : Nat), lv_has ls 7 [(0, .ref r0), (2, .int x2), (3, .int x3), (6, .int x6)] → fx_F D h0 h H locs cells slots → W p l e R s m args below meth c H locs cells slots (fx_Z D below s h0 (fx_oI Q fx_no)) (F0 m 176 ls [.int sx1, .ref sr0]) := by
  unfold m_M_name_176 at hw
  intro ls H locs cells slots hv F
  obtain ⟨hk1, hw⟩ := hw
  refine fx_callV C F (c_M_need hl hw) hm_M_need hi_M_need hv.1 (by decide) (Nat.le_of_ble_eq_true rfl) (iv_M_need C F lm_M_143 hk1 d_M_name_176) (fx_out0 _) fx_eno (fun h1 H locs cells slots hw hx1 F => ?_)
  replace hw := hw hx1
  have hk1 := (hx1).k hk1
  exact b_M_name_179 C hl _ _ _ _ _ hX10 hw _ _ _ _ _ hv F
theorem b_M_name_175 {p : Program} {l : Launch} {e : Env} {R : Room} {s : State} {m : MethodId} {args : Array Value} {below : List Frame} {meth : Method} {c : Code} {D : DD} {h0 : AH} {Q : Int32 → AH → Prop} {X10 : Int32 × AH → Prop} (C : fx_CX D y_M_name prog_15_method_21_code 7 3 47 (Option.some FieldType.int) [] h0 p R s m meth c) (hl : l.flags = flags0) (r0 : Nat) (x2 : Int32) (x3 : Int32) (x6 : Int32) (sr0 : Nat) (h : AH) (hX10 : ∀ st, X10 st → ∀ (ls : Array Slot) (H : Heap) (locs : List Loc) (cells slots : Nat), lv_has ls 7 [(0, .ref r0), (2, .int x2), (3, .int st.1)] → fx_F D h0 st.2 H locs cells slots → W p l e R s m args below meth c H locs cells slots (fx_Z D below s h0 (fx_oI Q fx_no)) (F0 m 10 ls [])) (hw : m_M_name_175 Q X10 r0 x2 x3 x6 sr0 h) : ∀ (ls : Array Slot) (H : Heap) (locs : List Loc) (cells slots : Nat), lv_has ls 7 [(0, .ref r0), (2, .int x2), (3, .int x3), (6, .int x6)] → fx_F D h0 h H locs cells slots → W p l e R s m args below meth c H locs cells slots (fx_Z D below s h0 (fx_oI Q fx_no)) (F0 m 175 ls [.ref sr0]) := by
  unfold m_M_name_175 at hw
  intro ls H locs cells slots hv F
  refine lv_iconst (v := (0 : Int32)) C.ex C.by d_M_name_175 (by decide) ?_
  exact b_M_name_176 C hl _ _ _ _ _ _ _ hX10 hw _ _ _ _ _ hv F
theorem b_M_name_124 {p : Program} {l : Launch} {e : Env} {R : Room} {s : State} {m : MethodId} {args : Array Value} {below : List Frame} {meth : Method} {c : Code} {D : DD} {h0 : AH} {Q : Int32 → AH → Prop} {X10 : Int32 × AH → Prop} (C : fx_CX D y_M_name prog_15_method_21_code 7 3 47 (Option.some FieldType.int) [] h0 p R s m meth c) (hl : l.flags = flags0) (r0 : Nat) (x2 : Int32) (x3 : Int32) (x5 : Int32) (h : AH) (hX10 : ∀ st, X10 st → ∀ (ls : Array Slot) (H : Heap) (locs : List Loc) (cells slots : Nat), lv_has ls 7 [(0, .ref r0), (2, .int x2), (3, .int st.1)] → fx_F D h0 st.2 H locs cells slots → W p l e R s m args below meth c H locs cells slots (fx_Z D below s h0 (fx_oI Q fx_no)) (F0 m 10 ls [])) (hw : m_M_name_124 Q X10 r0 x2 x3 x5 h) : ∀ (ls : Array Slot) (H : Heap) (locs : List Loc) (cells slots : Nat), lv_has ls 7 [(0, .ref r0), (2, .int x2), (3, .int x3), (5, .int x5)] → fx_F D h0 h H locs cells slots → W p l e R s m args below meth c H locs cells slots (fx_Z D below s h0 (fx_oI Q fx_no)) (F0 m 124 ls []) := by
  unfold m_M_name_124 at hw
  intro ls H locs cells slots hv F
  refine lv_aload_n C.ex C.by d_M_name_124 rfl (lv_at hv 0 rfl) ?_
  refine lv_iconst (v := (-1 : Int32)) C.ex C.by d_M_name_125 (by decide) ?_
  refine lv_iload C.ex C.by d_M_name_126 (lv_at hv 3 rfl) ?_
  obtain ⟨hk1, hw⟩ := hw
  refine fx_callI C F (c_M_open hl hw) hm_M_open hi_M_open hv.1 (by decide) (Nat.le_of_ble_eq_true rfl) (iv_M_open C F lm_M_140 hk1 d_M_name_128) (fx_out0 _) fx_eno (fun v1 h1 H locs cells slots hw hx1 F => ?_)
  replace hw := hw hx1
  have hk1 := (hx1).k hk1
  refine lv_istore (lv' := [(6, .int v1), (0, .ref r0), (2, .int x2), (3, .int x3), (5, .int x5)]) C.ex C.by d_M_name_131 hv (by decide) rfl (fun ls hv => ?_)
  refine lv_aload_n C.ex C.by d_M_name_133 rfl (lv_at hv 1 rfl) ?_
  refine fx_getI C F lf_M_124 hk1 rfl d_M_name_134 ?_
  refine lv_if_ne C.ex C.by d_M_name_137 rfl (fun hc => ?_) (fun hc => ?_)
  · replace hw := hw.1 hc
    exact b_M_name_179 C hl _ _ _ _ _ hX10 hw _ _ _ _ _ (lv_sub hv [1, 2, 3, 0] rfl) F
  · replace hw := hw.2 hc
    refine lv_aload_n C.ex C.by d_M_name_140 rfl (lv_at hv 1 rfl) ?_
    refine lv_iload C.ex C.by d_M_name_141 (lv_at hv 0 rfl) ?_
    refine lv_iload C.ex C.by d_M_name_143 (lv_at hv 4 rfl) ?_
    refine lv_icmp_ne C.ex C.by d_M_name_145 rfl (fun hc => ?_) (fun hc => ?_)
    · replace hw := hw.1 hc
      exact b_M_name_175 C hl _ _ _ _ _ _ hX10 hw _ _ _ _ _ (lv_sub hv [1, 2, 3, 0] rfl) F
    · replace hw := hw.2 hc
      refine lv_iload C.ex C.by d_M_name_148 (lv_at hv 0 rfl) ?_
      refine lv_aload_n C.ex C.by d_M_name_150 rfl (lv_at hv 1 rfl) ?_
      refine fx_getI C F lf_M_128 hk1 rfl d_M_name_151 ?_
      refine lv_isub C.ex C.by d_M_name_154 ?_
      refine lv_iconst (v := (1 : Int32)) C.ex C.by d_M_name_155 (by decide) ?_
      refine lv_icmp_lt C.ex C.by d_M_name_156 rfl (fun hc => ?_) (fun hc => ?_)
      · replace hw := hw.1 hc
        exact b_M_name_175 C hl _ _ _ _ _ _ hX10 hw _ _ _ _ _ (lv_sub hv [1, 2, 3, 0] rfl) F
      · replace hw := hw.2 hc
        refine lv_iload C.ex C.by d_M_name_159 (lv_at hv 0 rfl) ?_
        refine lv_aload_n C.ex C.by d_M_name_161 rfl (lv_at hv 1 rfl) ?_
        refine fx_getI C F lf_M_128 hk1 rfl d_M_name_162 ?_
        refine lv_isub C.ex C.by d_M_name_165 ?_
        refine lv_bipush (v := (64 : Int32)) C.ex C.by d_M_name_166 (by decide) ?_
        refine lv_icmp_gt C.ex C.by d_M_name_168 rfl (fun hc => ?_) (fun hc => ?_)
        · replace hw := hw.1 hc
          exact b_M_name_175 C hl _ _ _ _ _ _ hX10 hw _ _ _ _ _ (lv_sub hv [1, 2, 3, 0] rfl) F
        · replace hw := hw.2 hc
          refine lv_iconst (v := (1 : Int32)) C.ex C.by d_M_name_171 (by decide) ?_
          refine lv_goto C.ex C.by d_M_name_172 rfl ?_
          exact b_M_name_176 C hl _ _ _ _ _ _ _ hX10 hw _ _ _ _ _ (lv_sub hv [1, 2, 3, 0] rfl) F
theorem b_M_name_121 {p : Program} {l : Launch} {e : Env} {R : Room} {s : State} {m : MethodId} {args : Array Value} {below : List Frame} {meth : Method} {c : Code} {D : DD} {h0 : AH} {Q : Int32 → AH → Prop} {X10 : Int32 × AH → Prop} (C : fx_CX D y_M_name prog_15_method_21_code 7 3 47 (Option.some FieldType.int) [] h0 p R s m meth c) (hl : l.flags = flags0) (r0 : Nat) (x2 : Int32) (x3 : Int32) (x5 : Int32) (sr0 : Nat) (sx1 : Int32) (h : AH) (hX10 : ∀ st, X10 st → ∀ (ls : Array Slot) (H : Heap) (locs : List Loc) (cells slots : Nat), lv_has ls 7 [(0, .ref r0), (2, .int x2), (3, .int st.1)] → fx_F D h0 st.2 H locs cells slots → W p l e R s m args below meth c H locs cells slots (fx_Z D below s h0 (fx_oI Q fx_no)) (F0 m 10 ls [])) (hw : m_M_name_121 Q X10 r0 x2 x3 x5 sr0 sx1 h) : ∀ (ls : Array Slot) (H : Heap) (locs : List Loc) (cells slots : Nat), lv_has ls 7 [(0, .ref r0), (2, .int x2), (3, .int x3), (5, .int x5)] → fx_F D h0 h H locs cells slots → W p l e R s m args below meth c H locs cells slots (fx_Z D below s h0 (fx_oI Q fx_no)) (F0 m 121 ls [.int sx1, .ref sr0]) := by
  unfold m_M_name_121 at hw
  intro ls H locs cells slots hv F
  obtain ⟨hk1, hw⟩ := hw
  refine fx_callV C F (c_M_need hl hw) hm_M_need hi_M_need hv.1 (by decide) (Nat.le_of_ble_eq_true rfl) (iv_M_need C F lm_M_143 hk1 d_M_name_121) (fx_out0 _) fx_eno (fun h1 H locs cells slots hw hx1 F => ?_)
  replace hw := hw hx1
  have hk1 := (hx1).k hk1
  exact b_M_name_124 C hl _ _ _ _ _ hX10 hw _ _ _ _ _ hv F
theorem b_M_name_120 {p : Program} {l : Launch} {e : Env} {R : Room} {s : State} {m : MethodId} {args : Array Value} {below : List Frame} {meth : Method} {c : Code} {D : DD} {h0 : AH} {Q : Int32 → AH → Prop} {X10 : Int32 × AH → Prop} (C : fx_CX D y_M_name prog_15_method_21_code 7 3 47 (Option.some FieldType.int) [] h0 p R s m meth c) (hl : l.flags = flags0) (r0 : Nat) (x2 : Int32) (x3 : Int32) (x5 : Int32) (sr0 : Nat) (h : AH) (hX10 : ∀ st, X10 st → ∀ (ls : Array Slot) (H : Heap) (locs : List Loc) (cells slots : Nat), lv_has ls 7 [(0, .ref r0), (2, .int x2), (3, .int st.1)] → fx_F D h0 st.2 H locs cells slots → W p l e R s m args below meth c H locs cells slots (fx_Z D below s h0 (fx_oI Q fx_no)) (F0 m 10 ls [])) (hw : m_M_name_120 Q X10 r0 x2 x3 x5 sr0 h) : ∀ (ls : Array Slot) (H : Heap) (locs : List Loc) (cells slots : Nat), lv_has ls 7 [(0, .ref r0), (2, .int x2), (3, .int x3), (5, .int x5)] → fx_F D h0 h H locs cells slots → W p l e R s m args below meth c H locs cells slots (fx_Z D below s h0 (fx_oI Q fx_no)) (F0 m 120 ls [.ref sr0]) := by
  unfold m_M_name_120 at hw
  intro ls H locs cells slots hv F
  refine lv_iconst (v := (0 : Int32)) C.ex C.by d_M_name_120 (by decide) ?_
  exact b_M_name_121 C hl _ _ _ _ _ _ _ hX10 hw _ _ _ _ _ hv F
theorem b_M_name_116 {p : Program} {l : Launch} {e : Env} {R : Room} {s : State} {m : MethodId} {args : Array Value} {below : List Frame} {meth : Method} {c : Code} {D : DD} {h0 : AH} {Q : Int32 → AH → Prop} {X10 : Int32 × AH → Prop} (C : fx_CX D y_M_name prog_15_method_21_code 7 3 47 (Option.some FieldType.int) [] h0 p R s m meth c) (hl : l.flags = flags0) (r0 : Nat) (x2 : Int32) (x3 : Int32) (x5 : Int32) (sr0 : Nat) (h : AH) (hX10 : ∀ st, X10 st → ∀ (ls : Array Slot) (H : Heap) (locs : List Loc) (cells slots : Nat), lv_has ls 7 [(0, .ref r0), (2, .int x2), (3, .int st.1)] → fx_F D h0 st.2 H locs cells slots → W p l e R s m args below meth c H locs cells slots (fx_Z D below s h0 (fx_oI Q fx_no)) (F0 m 10 ls [])) (hw : m_M_name_116 Q X10 r0 x2 x3 x5 sr0 h) : ∀ (ls : Array Slot) (H : Heap) (locs : List Loc) (cells slots : Nat), lv_has ls 7 [(0, .ref r0), (2, .int x2), (3, .int x3), (5, .int x5)] → fx_F D h0 h H locs cells slots → W p l e R s m args below meth c H locs cells slots (fx_Z D below s h0 (fx_oI Q fx_no)) (F0 m 116 ls [.ref sr0]) := by
  unfold m_M_name_116 at hw
  intro ls H locs cells slots hv F
  refine lv_iconst (v := (1 : Int32)) C.ex C.by d_M_name_116 (by decide) ?_
  refine lv_goto C.ex C.by d_M_name_117 rfl ?_
  exact b_M_name_121 C hl _ _ _ _ _ _ _ hX10 hw _ _ _ _ _ hv F
theorem b_M_name_67 {p : Program} {l : Launch} {e : Env} {R : Room} {s : State} {m : MethodId} {args : Array Value} {below : List Frame} {meth : Method} {c : Code} {D : DD} {h0 : AH} {Q : Int32 → AH → Prop} {X10 : Int32 × AH → Prop} (C : fx_CX D y_M_name prog_15_method_21_code 7 3 47 (Option.some FieldType.int) [] h0 p R s m meth c) (hl : l.flags = flags0) (r0 : Nat) (x2 : Int32) (x3 : Int32) (x5 : Int32) (h : AH) (hX10 : ∀ st, X10 st → ∀ (ls : Array Slot) (H : Heap) (locs : List Loc) (cells slots : Nat), lv_has ls 7 [(0, .ref r0), (2, .int x2), (3, .int st.1)] → fx_F D h0 st.2 H locs cells slots → W p l e R s m args below meth c H locs cells slots (fx_Z D below s h0 (fx_oI Q fx_no)) (F0 m 10 ls [])) (hw : m_M_name_67 Q X10 r0 x2 x3 x5 h) : ∀ (ls : Array Slot) (H : Heap) (locs : List Loc) (cells slots : Nat), lv_has ls 7 [(0, .ref r0), (2, .int x2), (3, .int x3), (5, .int x5)] → fx_F D h0 h H locs cells slots → W p l e R s m args below meth c H locs cells slots (fx_Z D below s h0 (fx_oI Q fx_no)) (F0 m 67 ls []) := by
  unfold m_M_name_67 at hw
  intro ls H locs cells slots hv F
  refine lv_aload_n C.ex C.by d_M_name_67 rfl (lv_at hv 0 rfl) ?_
  refine lv_iload C.ex C.by d_M_name_68 (lv_at hv 3 rfl) ?_
  obtain ⟨hk1, hw⟩ := hw
  refine fx_callV C F (c_M_oid hl hw) hm_M_oid hi_M_oid hv.1 (by decide) (Nat.le_of_ble_eq_true rfl) (iv_M_oid C F lm_M_155 hk1 d_M_name_70) (fx_out0 _) fx_eno (fun h1 H locs cells slots hw hx1 F => ?_)
  replace hw := hw hx1
  have hk1 := (hx1).k hk1
  refine lv_aload_n C.ex C.by d_M_name_73 rfl (lv_at hv 0 rfl) ?_
  refine fx_getI C F lf_M_124 hk1 rfl d_M_name_74 ?_
  refine lv_if_ne C.ex C.by d_M_name_77 rfl (fun hc => ?_) (fun hc => ?_)
  · replace hw := hw.1 hc
    exact b_M_name_124 C hl _ _ _ _ _ hX10 hw _ _ _ _ _ hv F
  · replace hw := hw.2 hc
    refine lv_aload_n C.ex C.by d_M_name_80 rfl (lv_at hv 0 rfl) ?_
    refine lv_aload_n C.ex C.by d_M_name_81 rfl (lv_at hv 0 rfl) ?_
    refine fx_getI C F lf_M_128 hk1 rfl d_M_name_82 ?_
    refine lv_iload C.ex C.by d_M_name_85 (lv_at hv 3 rfl) ?_
    refine lv_icmp_ge C.ex C.by d_M_name_87 rfl (fun hc => ?_) (fun hc => ?_)
    · replace hw := hw.1 hc
      exact b_M_name_120 C hl _ _ _ _ _ _ hX10 hw _ _ _ _ _ hv F
    · replace hw := hw.2 hc
      refine lv_aload_n C.ex C.by d_M_name_90 rfl (lv_at hv 0 rfl) ?_
      refine lv_aload_n C.ex C.by d_M_name_91 rfl (lv_at hv 0 rfl) ?_
      refine fx_getI C F lf_M_128 hk1 rfl d_M_name_92 ?_
      refine fx_callI C F (c_M_here hl hw) hm_M_here hi_M_here hv.1 (by decide) (Nat.le_of_ble_eq_true rfl) (iv_M_here C F lm_M_131 hk1 d_M_name_95) (fx_out0 _) fx_eno (fun v1 h2 H locs cells slots hw hx2 F => ?_)
      replace hw := hw hx2
      have hk1 := (hx2).k hk1
      refine lv_bipush (v := (12 : Int32)) C.ex C.by d_M_name_98 (by decide) ?_
      refine lv_icmp_eq C.ex C.by d_M_name_100 rfl (fun hc => ?_) (fun hc => ?_)
      · replace hw := hw.1 hc
        exact b_M_name_116 C hl _ _ _ _ _ _ hX10 hw _ _ _ _ _ hv F
      · replace hw := hw.2 hc
        refine lv_aload_n C.ex C.by d_M_name_103 rfl (lv_at hv 0 rfl) ?_
        refine lv_aload_n C.ex C.by d_M_name_104 rfl (lv_at hv 0 rfl) ?_
        refine fx_getI C F lf_M_128 hk1 rfl d_M_name_105 ?_
        refine fx_callI C F (c_M_here hl hw) hm_M_here hi_M_here hv.1 (by decide) (Nat.le_of_ble_eq_true rfl) (iv_M_here C F lm_M_131 hk1 d_M_name_108) (fx_out0 _) fx_eno (fun v2 h3 H locs cells slots hw hx3 F => ?_)
        replace hw := hw hx3
        have hk1 := (hx3).k hk1
        refine lv_bipush (v := (19 : Int32)) C.ex C.by d_M_name_111 (by decide) ?_
        refine lv_icmp_ne C.ex C.by d_M_name_113 rfl (fun hc => ?_) (fun hc => ?_)
        · replace hw := hw.1 hc
          exact b_M_name_120 C hl _ _ _ _ _ _ hX10 hw _ _ _ _ _ hv F
        · replace hw := hw.2 hc
          exact b_M_name_116 C hl _ _ _ _ _ _ hX10 hw _ _ _ _ _ hv F
theorem b_M_name_64 {p : Program} {l : Launch} {e : Env} {R : Room} {s : State} {m : MethodId} {args : Array Value} {below : List Frame} {meth : Method} {c : Code} {D : DD} {h0 : AH} {Q : Int32 → AH → Prop} {X10 : Int32 × AH → Prop} (C : fx_CX D y_M_name prog_15_method_21_code 7 3 47 (Option.some FieldType.int) [] h0 p R s m meth c) (hl : l.flags = flags0) (r0 : Nat) (x2 : Int32) (x3 : Int32) (x5 : Int32) (sr0 : Nat) (sx1 : Int32) (h : AH) (hX10 : ∀ st, X10 st → ∀ (ls : Array Slot) (H : Heap) (locs : List Loc) (cells slots : Nat), lv_has ls 7 [(0, .ref r0), (2, .int x2), (3, .int st.1)] → fx_F D h0 st.2 H locs cells slots → W p l e R s m args below meth c H locs cells slots (fx_Z D below s h0 (fx_oI Q fx_no)) (F0 m 10 ls [])) (hw : m_M_name_64 Q X10 r0 x2 x3 x5 sr0 sx1 h) : ∀ (ls : Array Slot) (H : Heap) (locs : List Loc) (cells slots : Nat), lv_has ls 7 [(0, .ref r0), (2, .int x2), (3, .int x3), (5, .int x5)] → fx_F D h0 h H locs cells slots → W p l e R s m args below meth c H locs cells slots (fx_Z D below s h0 (fx_oI Q fx_no)) (F0 m 64 ls [.int sx1, .ref sr0]) := by
  unfold m_M_name_64 at hw
  intro ls H locs cells slots hv F
  obtain ⟨hk1, hw⟩ := hw
  refine fx_callV C F (c_M_need hl hw) hm_M_need hi_M_need hv.1 (by decide) (Nat.le_of_ble_eq_true rfl) (iv_M_need C F lm_M_143 hk1 d_M_name_64) (fx_out0 _) fx_eno (fun h1 H locs cells slots hw hx1 F => ?_)
  replace hw := hw hx1
  have hk1 := (hx1).k hk1
  exact b_M_name_67 C hl _ _ _ _ _ hX10 hw _ _ _ _ _ hv F
theorem b_M_name_10 {p : Program} {l : Launch} {e : Env} {R : Room} {s : State} {m : MethodId} {args : Array Value} {below : List Frame} {meth : Method} {c : Code} {D : DD} {h0 : AH} {Q : Int32 → AH → Prop} (C : fx_CX D y_M_name prog_15_method_21_code 7 3 47 (Option.some FieldType.int) [] h0 p R s m meth c) (hl : l.flags = flags0) (r0 : Nat) (x2 : Int32) (x3 : Int32) (h : AH) (hw : m_M_name_10 Q r0 x2 x3 h) : ∀ (ls : Array Slot) (H : Heap) (locs : List Loc) (cells slots : Nat), lv_has ls 7 [(0, .ref r0), (2, .int x2), (3, .int x3)] → fx_F D h0 h H locs cells slots → W p l e R s m args below meth c H locs cells slots (fx_Z D below s h0 (fx_oI Q fx_no)) (F0 m 10 ls []) := by
  refine fx_loop.use hw (fun st => ∀ (ls : Array Slot) (H : Heap) (locs : List Loc) (cells slots : Nat), lv_has ls 7 [(0, .ref r0), (2, .int x2), (3, .int st.1)] → fx_F D h0 st.2 H locs cells slots → W p l e R s m args below meth c H locs cells slots (fx_Z D below s h0 (fx_oI Q fx_no)) (F0 m 10 ls [])) (fun X10 st hX10 hw => ?_)
  obtain ⟨x3, h⟩ := st
  replace hw : m_M_name_10_b Q X10 r0 x2 x3 h := hw
  unfold m_M_name_10_b at hw
  intro ls H locs cells slots hv F
  refine lv_aload_n C.ex C.by d_M_name_10 rfl (lv_at hv 0 rfl) ?_
  obtain ⟨hk1, hw⟩ := hw
  refine fx_getI C F lf_M_124 hk1 rfl d_M_name_11 ?_
  refine lv_if_ne C.ex C.by d_M_name_14 rfl (fun hc => ?_) (fun hc => ?_)
  · replace hw := hw.1 hc
    exact b_M_name_205 C hl _ _ _ hw _ _ _ _ _ (lv_sub hv [0, 2] rfl) F
  · replace hw := hw.2 hc
    refine lv_aload_n C.ex C.by d_M_name_17 rfl (lv_at hv 0 rfl) ?_
    refine fx_getI C F lf_M_128 hk1 rfl d_M_name_18 ?_
    refine lv_iload_n C.ex C.by d_M_name_21 rfl (lv_at hv 1 rfl) ?_
    refine lv_icmp_ge C.ex C.by d_M_name_22 rfl (fun hc => ?_) (fun hc => ?_)
    · replace hw := hw.1 hc
      exact b_M_name_205 C hl _ _ _ hw _ _ _ _ _ (lv_sub hv [0, 2] rfl) F
    · replace hw := hw.2 hc
      refine lv_aload_n C.ex C.by d_M_name_25 rfl (lv_at hv 0 rfl) ?_
      refine lv_bipush (v := (49 : Int32)) C.ex C.by d_M_name_26 (by decide) ?_
      refine lv_iload_n C.ex C.by d_M_name_28 rfl (lv_at hv 1 rfl) ?_
      refine fx_callI C F (c_M_open hl hw) hm_M_open hi_M_open hv.1 (by decide) (Nat.le_of_ble_eq_true rfl) (iv_M_open C F lm_M_140 hk1 d_M_name_29) (fx_out0 _) fx_eno (fun v1 h1 H locs cells slots hw hx1 F => ?_)
      replace hw := hw hx1
      have hk1 := (hx1).k hk1
      refine lv_istore (lv' := [(4, .int v1), (0, .ref r0), (2, .int x2), (3, .int x3)]) C.ex C.by d_M_name_32 hv (by decide) rfl (fun ls hv => ?_)
      refine lv_aload_n C.ex C.by d_M_name_34 rfl (lv_at hv 1 rfl) ?_
      refine lv_bipush (v := (48 : Int32)) C.ex C.by d_M_name_35 (by decide) ?_
      refine lv_iload C.ex C.by d_M_name_37 (lv_at hv 0 rfl) ?_
      refine fx_callI C F (c_M_open hl hw) hm_M_open hi_M_open hv.1 (by decide) (Nat.le_of_ble_eq_true rfl) (iv_M_open C F lm_M_140 hk1 d_M_name_39) (fx_out0 _) fx_eno (fun v2 h2 H locs cells slots hw hx2 F => ?_)
      replace hw := hw hx2
      have hk1 := (hx2).k hk1
      refine lv_istore (lv' := [(5, .int v2), (4, .int v1), (0, .ref r0), (2, .int x2), (3, .int x3)]) C.ex C.by d_M_name_42 hv (by decide) rfl (fun ls hv => ?_)
      refine lv_aload_n C.ex C.by d_M_name_44 rfl (lv_at hv 2 rfl) ?_
      refine fx_getI C F lf_M_124 hk1 rfl d_M_name_45 ?_
      refine lv_if_ne C.ex C.by d_M_name_48 rfl (fun hc => ?_) (fun hc => ?_)
      · replace hw := hw.1 hc
        exact b_M_name_67 C hl _ _ _ _ _ hX10 hw _ _ _ _ _ (lv_sub hv [2, 3, 4, 0] rfl) F
      · replace hw := hw.2 hc
        refine lv_aload_n C.ex C.by d_M_name_51 rfl (lv_at hv 2 rfl) ?_
        refine lv_iload C.ex C.by d_M_name_52 (lv_at hv 0 rfl) ?_
        refine lv_iload C.ex C.by d_M_name_54 (lv_at hv 1 rfl) ?_
        refine lv_icmp_ne C.ex C.by d_M_name_56 rfl (fun hc => ?_) (fun hc => ?_)
        · replace hw := hw.1 hc
          refine lv_iconst (v := (0 : Int32)) C.ex C.by d_M_name_63 (by decide) ?_
          exact b_M_name_64 C hl _ _ _ _ _ _ _ hX10 hw _ _ _ _ _ (lv_sub hv [2, 3, 4, 0] rfl) F
        · replace hw := hw.2 hc
          refine lv_iconst (v := (1 : Int32)) C.ex C.by d_M_name_59 (by decide) ?_
          refine lv_goto C.ex C.by d_M_name_60 rfl ?_
          exact b_M_name_64 C hl _ _ _ _ _ _ _ hX10 hw _ _ _ _ _ (lv_sub hv [2, 3, 4, 0] rfl) F
theorem b_M_name_0 {p : Program} {l : Launch} {e : Env} {R : Room} {s : State} {m : MethodId} {args : Array Value} {below : List Frame} {meth : Method} {c : Code} {D : DD} {h0 : AH} {Q : Int32 → AH → Prop} (C : fx_CX D y_M_name prog_15_method_21_code 7 3 47 (Option.some FieldType.int) [] h0 p R s m meth c) (hl : l.flags = flags0) (r0 : Nat) (x1 : Int32) (h : AH) (hw : m_M_name Q r0 x1 h) : ∀ (ls : Array Slot) (H : Heap) (locs : List Loc) (cells slots : Nat), lv_has ls 7 [(0, .ref r0), (1, .int x1)] → fx_F D h0 h H locs cells slots → W p l e R s m args below meth c H locs cells slots (fx_Z D below s h0 (fx_oI Q fx_no)) (F0 m 0 ls []) := by
  unfold m_M_name at hw
  intro ls H locs cells slots hv F
  refine lv_aload_n C.ex C.by d_M_name_0 rfl (lv_at hv 0 rfl) ?_
  refine lv_bipush (v := (48 : Int32)) C.ex C.by d_M_name_1 (by decide) ?_
  refine lv_iload_n C.ex C.by d_M_name_3 rfl (lv_at hv 1 rfl) ?_
  obtain ⟨hk1, hw⟩ := hw
  refine fx_callI C F (c_M_open hl hw) hm_M_open hi_M_open hv.1 (by decide) (Nat.le_of_ble_eq_true rfl) (iv_M_open C F lm_M_140 hk1 d_M_name_4) (fx_out0 _) fx_eno (fun v1 h1 H locs cells slots hw hx1 F => ?_)
  replace hw := hw hx1
  have hk1 := (hx1).k hk1
  refine lv_istore_n (lv' := [(2, .int v1), (0, .ref r0), (1, .int x1)]) C.ex C.by d_M_name_7 rfl hv (by decide) rfl (fun ls hv => ?_)
  refine lv_iconst (v := (0 : Int32)) C.ex C.by d_M_name_8 (by decide) ?_
  refine lv_istore_n (lv' := [(3, .int (0 : Int32)), (2, .int v1), (0, .ref r0), (1, .int x1)]) C.ex C.by d_M_name_9 rfl hv (by decide) rfl (fun ls hv => ?_)
  exact b_M_name_10 C hl _ _ _ _ hw _ _ _ _ _ (lv_sub hv [2, 1, 0] rfl) F
theorem hm_M_name : fx_hd y_M_name prog_15_method_21_code 7 (Option.some FieldType.int) [] ∈ tables_1 := (fx_m7 (List.mem_of_getElem? (i := 5) rfl))
theorem hi_M_name : Cond.initialized y_M_name.cls ∈ tables_1 := (fx_m1 (List.mem_of_getElem? (i := 15) rfl))
theorem c_M_name {l : Launch} (hl : l.flags = flags0) {D : DD} {Q : Int32 → AH → Prop} {r0 : Nat} {x1 : Int32} {h : AH} (hw : m_M_name Q r0 x1 h) : fx_Mt l D y_M_name (fx_hd y_M_name prog_15_method_21_code 7 (Option.some FieldType.int) []) 3 47 [.ref r0, .int x1] h (fx_oI Q fx_no) := by
  refine fx_ofW (plainFor_of_name (by decide)) (fun p e s m below meth c C F => ?_)
  have hv := lv_entry ([.ref r0, .int x1]) (n := 7) (Nat.le_of_ble_eq_true rfl)
  rw [lg_entry_eq]
  generalize (lg_sl ([.ref r0, .int x1]) ++ List.replicate (7 - (lg_sl ([.ref r0, .int x1])).length) Slot.unset).toArray = ls at hv ⊢
  have hv : lv_has ls 7 [(0, .ref r0), (1, .int x1)] := hv
  exact b_M_name_0 C hl _ _ _ hw _ _ _ _ _ hv F
/-! ChainJudgeModel.two(I)I: frames 1, words 13 -/
abbrev y_M_two : MethodName := ⟨"ChainJudgeModel", "two", "(I)I"⟩
def dl_M_two : List (Nat × Instr × Nat) := [(0, .aload_n 0, 1), (1, .iload_n 1, 1), (2, .invokevirtual 131, 3), (5, .bipush 48, 2), (7, .isub, 1), (8, .istore_n 2, 1), (9, .aload_n 0, 1), (10, .iload_n 1, 1), (11, .iconst 1, 1), (12, .iadd, 1), (13, .invokevirtual 131, 3), (16, .bipush 48, 2), (18, .isub, 1), (19, .istore_n 3, 1), (20, .iload_n 2, 1), (21, .ifCond .lt 19, 3), (24, .iload_n 2, 1), (25, .bipush 9, 2), (27, .if_icmp .gt 13, 3), (30, .iload_n 3, 1), (31, .ifCond .lt 9, 3), (34, .iload_n 3, 1), (35, .bipush 9, 2), (37, .if_icmp .le 8, 3), (40, .aload_n 0, 1), (41, .iconst 1, 1), (42, .putfield 124, 3), (45, .bipush 10, 2), (47, .iload_n 2, 1), (48, .imul, 1), (49, .iload_n 3, 1), (50, .iadd, 1), (51, .ireturn, 1)]
theorem dk_M_two : fx_dec prog_15_method_22_code dl_M_two = true := by decide +kernel
theorem d_M_two_0 : decode prog_15_method_22_code 0 = .ok (.aload_n 0, 1) := fx_dat dk_M_two 0 rfl
theorem d_M_two_1 : decode prog_15_method_22_code 1 = .ok (.iload_n 1, 1) := fx_dat dk_M_two 1 rfl
theorem d_M_two_2 : decode prog_15_method_22_code 2 = .ok (.invokevirtual 131, 3) := fx_dat dk_M_two 2 rfl
theorem d_M_two_5 : decode prog_15_method_22_code 5 = .ok (.bipush 48, 2) := fx_dat dk_M_two 3 rfl
theorem d_M_two_7 : decode prog_15_method_22_code 7 = .ok (.isub, 1) := fx_dat dk_M_two 4 rfl
theorem d_M_two_8 : decode prog_15_method_22_code 8 = .ok (.istore_n 2, 1) := fx_dat dk_M_two 5 rfl
theorem d_M_two_9 : decode prog_15_method_22_code 9 = .ok (.aload_n 0, 1) := fx_dat dk_M_two 6 rfl
theorem d_M_two_10 : decode prog_15_method_22_code 10 = .ok (.iload_n 1, 1) := fx_dat dk_M_two 7 rfl
theorem d_M_two_11 : decode prog_15_method_22_code 11 = .ok (.iconst 1, 1) := fx_dat dk_M_two 8 rfl
theorem d_M_two_12 : decode prog_15_method_22_code 12 = .ok (.iadd, 1) := fx_dat dk_M_two 9 rfl
theorem d_M_two_13 : decode prog_15_method_22_code 13 = .ok (.invokevirtual 131, 3) := fx_dat dk_M_two 10 rfl
theorem d_M_two_16 : decode prog_15_method_22_code 16 = .ok (.bipush 48, 2) := fx_dat dk_M_two 11 rfl
theorem d_M_two_18 : decode prog_15_method_22_code 18 = .ok (.isub, 1) := fx_dat dk_M_two 12 rfl
theorem d_M_two_19 : decode prog_15_method_22_code 19 = .ok (.istore_n 3, 1) := fx_dat dk_M_two 13 rfl
theorem d_M_two_20 : decode prog_15_method_22_code 20 = .ok (.iload_n 2, 1) := fx_dat dk_M_two 14 rfl
theorem d_M_two_21 : decode prog_15_method_22_code 21 = .ok (.ifCond .lt 19, 3) := fx_dat dk_M_two 15 rfl
theorem d_M_two_24 : decode prog_15_method_22_code 24 = .ok (.iload_n 2, 1) := fx_dat dk_M_two 16 rfl
theorem d_M_two_25 : decode prog_15_method_22_code 25 = .ok (.bipush 9, 2) := fx_dat dk_M_two 17 rfl
theorem d_M_two_27 : decode prog_15_method_22_code 27 = .ok (.if_icmp .gt 13, 3) := fx_dat dk_M_two 18 rfl
theorem d_M_two_30 : decode prog_15_method_22_code 30 = .ok (.iload_n 3, 1) := fx_dat dk_M_two 19 rfl
theorem d_M_two_31 : decode prog_15_method_22_code 31 = .ok (.ifCond .lt 9, 3) := fx_dat dk_M_two 20 rfl
theorem d_M_two_34 : decode prog_15_method_22_code 34 = .ok (.iload_n 3, 1) := fx_dat dk_M_two 21 rfl
theorem d_M_two_35 : decode prog_15_method_22_code 35 = .ok (.bipush 9, 2) := fx_dat dk_M_two 22 rfl
theorem d_M_two_37 : decode prog_15_method_22_code 37 = .ok (.if_icmp .le 8, 3) := fx_dat dk_M_two 23 rfl
theorem d_M_two_40 : decode prog_15_method_22_code 40 = .ok (.aload_n 0, 1) := fx_dat dk_M_two 24 rfl
theorem d_M_two_41 : decode prog_15_method_22_code 41 = .ok (.iconst 1, 1) := fx_dat dk_M_two 25 rfl
theorem d_M_two_42 : decode prog_15_method_22_code 42 = .ok (.putfield 124, 3) := fx_dat dk_M_two 26 rfl
theorem d_M_two_45 : decode prog_15_method_22_code 45 = .ok (.bipush 10, 2) := fx_dat dk_M_two 27 rfl
theorem d_M_two_47 : decode prog_15_method_22_code 47 = .ok (.iload_n 2, 1) := fx_dat dk_M_two 28 rfl
theorem d_M_two_48 : decode prog_15_method_22_code 48 = .ok (.imul, 1) := fx_dat dk_M_two 29 rfl
theorem d_M_two_49 : decode prog_15_method_22_code 49 = .ok (.iload_n 3, 1) := fx_dat dk_M_two 30 rfl
theorem d_M_two_50 : decode prog_15_method_22_code 50 = .ok (.iadd, 1) := fx_dat dk_M_two 31 rfl
theorem d_M_two_51 : decode prog_15_method_22_code 51 = .ok (.ireturn, 1) := fx_dat dk_M_two 32 rfl
def m_M_two_45 (Q : Int32 → AH → Prop) (x2 : Int32) (x3 : Int32) (h : AH) : Prop := Q (((10 : Int32) * x2) + x3) h
def m_M_two_40 (Q : Int32 → AH → Prop) (r0 : Nat) (x2 : Int32) (x3 : Int32) (h : AH) : Prop := hp_k h r0 = 13 ∧ ∀ h1 : AH, h1 = up_I h r0 21 (1 : Int32) → m_M_two_45 Q x2 x3 h1
def m_M_two (Q : Int32 → AH → Prop) (r0 : Nat) (x1 : Int32) (h : AH) : Prop := hp_k h r0 = 13 ∧ m_M_here (fun v1 h1 => fx_ext h h1 → ∀ v2 : Int32, v2 = (v1 - (48 : Int32)) → m_M_here (fun v3 h2 => fx_ext h1 h2 → ∀ v4 : Int32, v4 = (v3 - (48 : Int32)) → (v2 < 0 → m_M_two_40 Q r0 v2 v4 h2) ∧ (¬ v2 < 0 → ((9 : Int32) < v2 → m_M_two_40 Q r0 v2 v4 h2) ∧ (¬ (9 : Int32) < v2 → (v4 < 0 → m_M_two_40 Q r0 v2 v4 h2) ∧ (¬ v4 < 0 → (v4 ≤ (9 : Int32) → m_M_two_45 Q v2 v4 h2) ∧ (¬ v4 ≤ (9 : Int32) → m_M_two_40 Q r0 v2 v4 h2))))) r0 (x1 + (1 : Int32)) h1) r0 x1 h
theorem b_M_two_45 {p : Program} {l : Launch} {e : Env} {R : Room} {s : State} {m : MethodId} {args : Array Value} {below : List Frame} {meth : Method} {c : Code} {D : DD} {h0 : AH} {Q : Int32 → AH → Prop} (C : fx_CX D y_M_two prog_15_method_22_code 4 1 13 (Option.some FieldType.int) [] h0 p R s m meth c) (hl : l.flags = flags0) (x2 : Int32) (x3 : Int32) (h : AH) (hw : m_M_two_45 Q x2 x3 h) : ∀ (ls : Array Slot) (H : Heap) (locs : List Loc) (cells slots : Nat), lv_has ls 4 [(2, .int x2), (3, .int x3)] → fx_F D h0 h H locs cells slots → W p l e R s m args below meth c H locs cells slots (fx_Z D below s h0 (fx_oI Q fx_no)) (F0 m 45 ls []) := by
  unfold m_M_two_45 at hw
  intro ls H locs cells slots hv F
  refine lv_bipush (v := (10 : Int32)) C.ex C.by d_M_two_45 (by decide) ?_
  refine lv_iload_n C.ex C.by d_M_two_47 rfl (lv_at hv 0 rfl) ?_
  refine lv_imul C.ex C.by d_M_two_48 ?_
  refine lv_iload_n C.ex C.by d_M_two_49 rfl (lv_at hv 1 rfl) ?_
  refine lv_iadd C.ex C.by d_M_two_50 ?_
  exact fx_iret C F d_M_two_51 (Or.inl ⟨_, rfl, hw⟩)
theorem b_M_two_40 {p : Program} {l : Launch} {e : Env} {R : Room} {s : State} {m : MethodId} {args : Array Value} {below : List Frame} {meth : Method} {c : Code} {D : DD} {h0 : AH} {Q : Int32 → AH → Prop} (C : fx_CX D y_M_two prog_15_method_22_code 4 1 13 (Option.some FieldType.int) [] h0 p R s m meth c) (hl : l.flags = flags0) (r0 : Nat) (x2 : Int32) (x3 : Int32) (h : AH) (hw : m_M_two_40 Q r0 x2 x3 h) : ∀ (ls : Array Slot) (H : Heap) (locs : List Loc) (cells slots : Nat), lv_has ls 4 [(0, .ref r0), (2, .int x2), (3, .int x3)] → fx_F D h0 h H locs cells slots → W p l e R s m args below meth c H locs cells slots (fx_Z D below s h0 (fx_oI Q fx_no)) (F0 m 40 ls []) := by
  unfold m_M_two_40 at hw
  intro ls H locs cells slots hv F
  refine lv_aload_n C.ex C.by d_M_two_40 rfl (lv_at hv 0 rfl) ?_
  refine lv_iconst (v := (1 : Int32)) C.ex C.by d_M_two_41 (by decide) ?_
  obtain ⟨hk1, hw⟩ := hw
  let h1 : AH := up_I h r0 21 (1 : Int32)
  replace hw := hw h1 rfl
  refine fx_putZ C F lf_M_124 hk1 rfl rfl (Or.inr rfl) (fx_mayF.no rfl rfl) d_M_two_42 (fun H locs (F : fx_F D h0 h1 H locs _ _) => ?_)
  exact b_M_two_45 C hl _ _ _ hw _ _ _ _ _ (lv_sub hv [1, 2] rfl) F
theorem b_M_two_0 {p : Program} {l : Launch} {e : Env} {R : Room} {s : State} {m : MethodId} {args : Array Value} {below : List Frame} {meth : Method} {c : Code} {D : DD} {h0 : AH} {Q : Int32 → AH → Prop} (C : fx_CX D y_M_two prog_15_method_22_code 4 1 13 (Option.some FieldType.int) [] h0 p R s m meth c) (hl : l.flags = flags0) (r0 : Nat) (x1 : Int32) (h : AH) (hw : m_M_two Q r0 x1 h) : ∀ (ls : Array Slot) (H : Heap) (locs : List Loc) (cells slots : Nat), lv_has ls 4 [(0, .ref r0), (1, .int x1)] → fx_F D h0 h H locs cells slots → W p l e R s m args below meth c H locs cells slots (fx_Z D below s h0 (fx_oI Q fx_no)) (F0 m 0 ls []) := by
  unfold m_M_two at hw
  intro ls H locs cells slots hv F
  refine lv_aload_n C.ex C.by d_M_two_0 rfl (lv_at hv 0 rfl) ?_
  refine lv_iload_n C.ex C.by d_M_two_1 rfl (lv_at hv 1 rfl) ?_
  obtain ⟨hk1, hw⟩ := hw
  refine fx_callI C F (c_M_here hl hw) hm_M_here hi_M_here hv.1 (by decide) (Nat.le_of_ble_eq_true rfl) (iv_M_here C F lm_M_131 hk1 d_M_two_2) (fx_out0 _) fx_eno (fun v1 h1 H locs cells slots hw hx1 F => ?_)
  replace hw := hw hx1
  have hk1 := (hx1).k hk1
  refine lv_bipush (v := (48 : Int32)) C.ex C.by d_M_two_5 (by decide) ?_
  refine lv_isub C.ex C.by d_M_two_7 ?_
  let v2 : Int32 := (v1 - (48 : Int32))
  replace hw := hw v2 rfl
  refine lv_istore_n (lv' := [(2, .int v2), (0, .ref r0), (1, .int x1)]) C.ex C.by d_M_two_8 rfl hv (by decide) rfl (fun ls hv => ?_)
  refine lv_aload_n C.ex C.by d_M_two_9 rfl (lv_at hv 1 rfl) ?_
  refine lv_iload_n C.ex C.by d_M_two_10 rfl (lv_at hv 2 rfl) ?_
  refine lv_iconst (v := (1 : Int32)) C.ex C.by d_M_two_11 (by decide) ?_
  refine lv_iadd C.ex C.by d_M_two_12 ?_
  refine fx_callI C F (c_M_here hl hw) hm_M_here hi_M_here hv.1 (by decide) (Nat.le_of_ble_eq_true rfl) (iv_M_here C F lm_M_131 hk1 d_M_two_13) (fx_out0 _) fx_eno (fun v3 h2 H locs cells slots hw hx2 F => ?_)
  replace hw := hw hx2
  have hk1 := (hx2).k hk1
  refine lv_bipush (v := (48 : Int32)) C.ex C.by d_M_two_16 (by decide) ?_
  refine lv_isub C.ex C.by d_M_two_18 ?_
  let v4 : Int32 := (v3 - (48 : Int32))
  replace hw := hw v4 rfl
  refine lv_istore_n (lv' := [(3, .int v4), (2, .int v2), (0, .ref r0), (1, .int x1)]) C.ex C.by d_M_two_19 rfl hv (by decide) rfl (fun ls hv => ?_)
  refine lv_iload_n C.ex C.by d_M_two_20 rfl (lv_at hv 1 rfl) ?_
  refine lv_if_lt C.ex C.by d_M_two_21 rfl (fun hc => ?_) (fun hc => ?_)
  · replace hw := hw.1 hc
    exact b_M_two_40 C hl _ _ _ _ hw _ _ _ _ _ (lv_sub hv [2, 1, 0] rfl) F
  · replace hw := hw.2 hc
    refine lv_iload_n C.ex C.by d_M_two_24 rfl (lv_at hv 1 rfl) ?_
    refine lv_bipush (v := (9 : Int32)) C.ex C.by d_M_two_25 (by decide) ?_
    refine lv_icmp_gt C.ex C.by d_M_two_27 rfl (fun hc => ?_) (fun hc => ?_)
    · replace hw := hw.1 hc
      exact b_M_two_40 C hl _ _ _ _ hw _ _ _ _ _ (lv_sub hv [2, 1, 0] rfl) F
    · replace hw := hw.2 hc
      refine lv_iload_n C.ex C.by d_M_two_30 rfl (lv_at hv 0 rfl) ?_
      refine lv_if_lt C.ex C.by d_M_two_31 rfl (fun hc => ?_) (fun hc => ?_)
      · replace hw := hw.1 hc
        exact b_M_two_40 C hl _ _ _ _ hw _ _ _ _ _ (lv_sub hv [2, 1, 0] rfl) F
      · replace hw := hw.2 hc
        refine lv_iload_n C.ex C.by d_M_two_34 rfl (lv_at hv 0 rfl) ?_
        refine lv_bipush (v := (9 : Int32)) C.ex C.by d_M_two_35 (by decide) ?_
        refine lv_icmp_le C.ex C.by d_M_two_37 rfl (fun hc => ?_) (fun hc => ?_)
        · replace hw := hw.1 hc
          exact b_M_two_45 C hl _ _ _ hw _ _ _ _ _ (lv_sub hv [1, 0] rfl) F
        · replace hw := hw.2 hc
          exact b_M_two_40 C hl _ _ _ _ hw _ _ _ _ _ (lv_sub hv [2, 1, 0] rfl) F
theorem hm_M_two : fx_hd y_M_two prog_15_method_22_code 4 (Option.some FieldType.int) [] ∈ tables_1 := (fx_m7 (List.mem_of_getElem? (i := 17) rfl))
theorem hi_M_two : Cond.initialized y_M_two.cls ∈ tables_1 := (fx_m1 (List.mem_of_getElem? (i := 15) rfl))
theorem c_M_two {l : Launch} (hl : l.flags = flags0) {D : DD} {Q : Int32 → AH → Prop} {r0 : Nat} {x1 : Int32} {h : AH} (hw : m_M_two Q r0 x1 h) : fx_Mt l D y_M_two (fx_hd y_M_two prog_15_method_22_code 4 (Option.some FieldType.int) []) 1 13 [.ref r0, .int x1] h (fx_oI Q fx_no) := by
  refine fx_ofW (plainFor_of_name (by decide)) (fun p e s m below meth c C F => ?_)
  have hv := lv_entry ([.ref r0, .int x1]) (n := 4) (Nat.le_of_ble_eq_true rfl)
  rw [lg_entry_eq]
  generalize (lg_sl ([.ref r0, .int x1]) ++ List.replicate (4 - (lg_sl ([.ref r0, .int x1])).length) Slot.unset).toArray = ls at hv ⊢
  have hv : lv_has ls 4 [(0, .ref r0), (1, .int x1)] := hv
  exact b_M_two_0 C hl _ _ _ hw _ _ _ _ _ hv F
