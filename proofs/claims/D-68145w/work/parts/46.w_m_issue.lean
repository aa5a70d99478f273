set_option maxRecDepth 10000
/-! ChainJudgeModel.issue(IIIII)I: frames 7, words 115 -/
abbrev y_M_issue : MethodName := ⟨"ChainJudgeModel", "issue", "(IIIII)I"⟩
theorem lm_M_356 : Cond.methodLink "ChainJudgeModel" 356 y_M_noKey ∈ tables_1 ∨ ∃ host, Cond.methodLinkNest "ChainJudgeModel" 356 y_M_noKey host ∈ tables_1 := Or.inl (fx_m6 (List.mem_of_getElem? (i := 187) rfl))
theorem lm_M_359 : Cond.methodLink "ChainJudgeModel" 359 y_M_none ∈ tables_1 ∨ ∃ host, Cond.methodLinkNest "ChainJudgeModel" 359 y_M_none host ∈ tables_1 := Or.inl (fx_m6 (List.mem_of_getElem? (i := 191) rfl))
theorem lm_M_362 : Cond.methodLink "ChainJudgeModel" 362 y_M_fail ∈ tables_1 ∨ ∃ host, Cond.methodLinkNest "ChainJudgeModel" 362 y_M_fail host ∈ tables_1 := Or.inl (fx_m6 (List.mem_of_getElem? (i := 195) rfl))
theorem lm_M_365 : Cond.methodLink "ChainJudgeModel" 365 y_M_comma ∈ tables_1 ∨ ∃ host, Cond.methodLinkNest "ChainJudgeModel" 365 y_M_comma host ∈ tables_1 := Or.inl (fx_m6 (List.mem_of_getElem? (i := 199) rfl))
theorem lm_M_368 : Cond.methodLink "ChainJudgeModel" 368 y_M_parses ∈ tables_1 ∨ ∃ host, Cond.methodLinkNest "ChainJudgeModel" 368 y_M_parses host ∈ tables_1 := Or.inl (fx_m6 (List.mem_of_getElem? (i := 203) rfl))
theorem lm_M_373 : Cond.methodLink "ChainJudgeModel" 373 y_M_putAlgorithm ∈ tables_1 ∨ ∃ host, Cond.methodLinkNest "ChainJudgeModel" 373 y_M_putAlgorithm host ∈ tables_1 := Or.inl (fx_m7 (List.mem_of_getElem? (i := 82) rfl))
theorem lm_M_376 : Cond.methodLink "ChainJudgeModel" 376 y_M_putName ∈ tables_1 ∨ ∃ host, Cond.methodLinkNest "ChainJudgeModel" 376 y_M_putName host ∈ tables_1 := Or.inl (fx_m7 (List.mem_of_getElem? (i := 87) rfl))
theorem lm_M_379 : Cond.methodLink "ChainJudgeModel" 379 y_M_putTime ∈ tables_1 ∨ ∃ host, Cond.methodLinkNest "ChainJudgeModel" 379 y_M_putTime host ∈ tables_1 := Or.inl (fx_m7 (List.mem_of_getElem? (i := 92) rfl))
theorem lm_M_382 : Cond.methodLink "ChainJudgeModel" 382 y_M_putExtensions ∈ tables_1 ∨ ∃ host, Cond.methodLinkNest "ChainJudgeModel" 382 y_M_putExtensions host ∈ tables_1 := Or.inl (fx_m7 (List.mem_of_getElem? (i := 100) rfl))
theorem lm_M_385 : Cond.methodLink "ChainJudgeModel" 385 y_M_keyed ∈ tables_1 ∨ ∃ host, Cond.methodLinkNest "ChainJudgeModel" 385 y_M_keyed host ∈ tables_1 := Or.inl (fx_m7 (List.mem_of_getElem? (i := 126) rfl))
theorem lm_M_389 : Cond.methodLink "ChainJudgeModel" 389 y_M_full ∈ tables_1 ∨ ∃ host, Cond.methodLinkNest "ChainJudgeModel" 389 y_M_full host ∈ tables_1 := Or.inl (fx_m7 (List.mem_of_getElem? (i := 145) rfl))
theorem lm_M_392 : Cond.methodLink "ChainJudgeModel" 392 y_M_added ∈ tables_1 ∨ ∃ host, Cond.methodLinkNest "ChainJudgeModel" 392 y_M_added host ∈ tables_1 := Or.inl (fx_m7 (List.mem_of_getElem? (i := 149) rfl))
section
variable {p : Program} {l : Launch} {e : Env} {R : Room} {s : State} {m : MethodId} {args : Array Value} {below : List Frame} {meth : Method} {c : Code} {H : Heap} {locs : List Loc} {cells slots : Nat}
variable {D : DD} {y : MethodName} {cc : ByteArray} {nL kf kw : Nat} {ret : Option FieldType} {hh : List (Nat × Nat × Nat × Nat)} {h0 h : AH} {pc : Nat} {ls : Array Slot} {rest : List Value} {b idx : Nat}
theorem iv_M_added {x1 : Int32} {x2 : Int32} (C : fx_CX D y cc nL kf kw ret hh h0 p R s m meth c) (F : fx_F D h0 h H locs cells slots) (hw1 : Cond.methodLink y.cls idx y_M_added ∈ tables_1 ∨ ∃ host, Cond.methodLinkNest y.cls idx y_M_added host ∈ tables_1) (hk : hp_k h b = 13) (hd : decode cc pc = .ok (.invokevirtual idx, 3)) : fx_IV p l e R s m args below meth c H locs cells slots (F0 m pc ls (.int x2 :: .int x1 :: .ref b :: rest)) rest y_M_added [.ref b, .int x1, .int x2] 3 := fun T hT X => fx_invV (As := [.int x1, .int x2]) (Cn := "ChainJudgeModel") C X hw1 (fx_m7 (List.mem_of_getElem? (i := 151) rfl)) (fx_selP C ⟨by decide, by decide⟩ (fx_m5 (List.mem_of_getElem? (i := 217) rfl)) (fx_m7 (List.mem_of_getElem? (i := 150) rfl)) (fx_m7 (List.mem_of_getElem? (i := 151) rfl))) hm_M_added ⟨by decide, by decide⟩ (by rw [hT]; exact fx_clsO (ci := 12) (r := ("ChainJudgeModel", fx_T12, 57)) C F rfl (by decide) hk) rfl (n := 2) (by decide +kernel) rfl rfl hd
theorem iv_M_comma (C : fx_CX D y cc nL kf kw ret hh h0 p R s m meth c) (F : fx_F D h0 h H locs cells slots) (hw1 : Cond.methodLink y.cls idx y_M_comma ∈ tables_1 ∨ ∃ host, Cond.methodLinkNest y.cls idx y_M_comma host ∈ tables_1) (hk : hp_k h b = 13) (hd : decode cc pc = .ok (.invokevirtual idx, 3)) : fx_IV p l e R s m args below meth c H locs cells slots (F0 m pc ls (.ref b :: rest)) rest y_M_comma [.ref b] 3 := fun T hT X => fx_invV (As := []) (Cn := "ChainJudgeModel") C X hw1 (fx_m6 (List.mem_of_getElem? (i := 201) rfl)) (fx_selP C ⟨by decide, by decide⟩ (fx_m5 (List.mem_of_getElem? (i := 217) rfl)) (fx_m6 (List.mem_of_getElem? (i := 200) rfl)) (fx_m6 (List.mem_of_getElem? (i := 201) rfl))) hm_M_comma ⟨by decide, by decide⟩ (by rw [hT]; exact fx_clsO (ci := 12) (r := ("ChainJudgeModel", fx_T12, 57)) C F rfl (by decide) hk) rfl (n := 0) (by decide +kernel) rfl rfl hd
theorem iv_M_fail {x1 : Int32} (C : fx_CX D y cc nL kf kw ret hh h0 p R s m meth c) (F : fx_F D h0 h H locs cells slots) (hw1 : Cond.methodLink y.cls idx y_M_fail ∈ tables_1 ∨ ∃ host, Cond.methodLinkNest y.cls idx y_M_fail host ∈ tables_1) (hk : hp_k h b = 13) (hd : decode cc pc = .ok (.invokevirtual idx, 3)) : fx_IV p l e R s m args below meth c H locs cells slots (F0 m pc ls (.int x1 :: .ref b :: rest)) rest y_M_fail [.ref b, .int x1] 3 := fun T hT X => fx_invV (As := [.int x1]) (Cn := "ChainJudgeModel") C X hw1 (fx_m6 (List.mem_of_getElem? (i := 197) rfl)) (fx_selP C ⟨by decide, by decide⟩ (fx_m5 (List.mem_of_getElem? (i := 217) rfl)) (fx_m6 (List.mem_of_getElem? (i := 196) rfl)) (fx_m6 (List.mem_of_getElem? (i := 197) rfl))) hm_M_fail ⟨by decide, by decide⟩ (by rw [hT]; exact fx_clsO (ci := 12) (r := ("ChainJudgeModel", fx_T12, 57)) C F rfl (by decide) hk) rfl (n := 1) (by decide +kernel) rfl rfl hd
theorem iv_M_full {x1 : Int32} (C : fx_CX D y cc nL kf kw ret hh h0 p R s m meth c) (F : fx_F D h0 h H locs cells slots) (hw1 : Cond.methodLink y.cls idx y_M_full ∈ tables_1 ∨ ∃ host, Cond.methodLinkNest y.cls idx y_M_full host ∈ tables_1) (hk : hp_k h b = 13) (hd : decode cc pc = .ok (.invokevirtual idx, 3)) : fx_IV p l e R s m args below meth c H locs cells slots (F0 m pc ls (.int x1 :: .ref b :: rest)) rest y_M_full [.ref b, .int x1] 3 := fun T hT X => fx_invV (As := [.int x1]) (Cn := "ChainJudgeModel") C X hw1 (fx_m7 (List.mem_of_getElem? (i := 147) rfl)) (fx_selP C ⟨by decide, by decide⟩ (fx_m5 (List.mem_of_getElem? (i := 217) rfl)) (fx_m7 (List.mem_of_getElem? (i := 146) rfl)) (fx_m7 (List.mem_of_getElem? (i := 147) rfl))) hm_M_full ⟨by decide, by decide⟩ (by rw [hT]; exact fx_clsO (ci := 12) (r := ("ChainJudgeModel", fx_T12, 57)) C F rfl (by decide) hk) rfl (n := 1) (by decide +kernel) rfl rfl hd
theorem iv_M_keyed {r1 : Nat} {x2 : Int32} {r3 : Nat} {x4 : Int32} {x5 : Int32} (C : fx_CX D y cc nL kf kw ret hh h0 p R s m meth c) (F : fx_F D h0 h H locs cells slots) (hw1 : Cond.methodLink y.cls idx y_M_keyed ∈ tables_1 ∨ ∃ host, Cond.methodLinkNest y.cls idx y_M_keyed host ∈ tables_1) (hk : hp_k h b = 13) (hd : decode cc pc = .ok (.invokevirtual idx, 3)) : fx_IV p l e R s m args below meth c H locs cells slots (F0 m pc ls (.int x5 :: .int x4 :: .ref r3 :: .int x2 :: .ref r1 :: .ref b :: rest)) rest y_M_keyed [.ref b, .ref r1, .int x2, .ref r3, .int x4, .int x5] 3 := fun T hT X => fx_invV (As := [.ref r1, .int x2, .ref r3, .int x4, .int x5]) (Cn := "ChainJudgeModel") C X hw1 (fx_m7 (List.mem_of_getElem? (i := 128) rfl)) (fx_selP C ⟨by decide, by decide⟩ (fx_m5 (List.mem_of_getElem? (i := 217) rfl)) (fx_m7 (List.mem_of_getElem? (i := 127) rfl)) (fx_m7 (List.mem_of_getElem? (i := 128) rfl))) hm_M_keyed ⟨by decide, by decide⟩ (by rw [hT]; exact fx_clsO (ci := 12) (r := ("ChainJudgeModel", fx_T12, 57)) C F rfl (by decide) hk) rfl (n := 5) (by decide +kernel) rfl rfl hd
theorem iv_M_noKey {x1 : Int32} (C : fx_CX D y cc nL kf kw ret hh h0 p R s m meth c) (F : fx_F D h0 h H locs cells slots) (hw1 : Cond.methodLink y.cls idx y_M_noKey ∈ tables_1 ∨ ∃ host, Cond.methodLinkNest y.cls idx y_M_noKey host ∈ tables_1) (hk : hp_k h b = 13) (hd : decode cc pc = .ok (.invokevirtual idx, 3)) : fx_IV p l e R s m args below meth c H locs cells slots (F0 m pc ls (.int x1 :: .ref b :: rest)) rest y_M_noKey [.ref b, .int x1] 3 := fun T hT X => fx_invV (As := [.int x1]) (Cn := "ChainJudgeModel") C X hw1 (fx_m6 (List.mem_of_getElem? (i := 189) rfl)) (fx_selP C ⟨by decide, by decide⟩ (fx_m5 (List.mem_of_getElem? (i := 217) rfl)) (fx_m6 (List.mem_of_getElem? (i := 188) rfl)) (fx_m6 (List.mem_of_getElem? (i := 189) rfl))) hm_M_noKey ⟨by decide, by decide⟩ (by rw [hT]; exact fx_clsO (ci := 12) (r := ("ChainJudgeModel", fx_T12, 57)) C F rfl (by decide) hk) rfl (n := 1) (by decide +kernel) rfl rfl hd
theorem iv_M_none {x1 : Int32} (C : fx_CX D y cc nL kf kw ret hh h0 p R s m meth c) (F : fx_F D h0 h H locs cells slots) (hw1 : Cond.methodLink y.cls idx y_M_none ∈ tables_1 ∨ ∃ host, Cond.methodLinkNest y.cls idx y_M_none host ∈ tables_1) (hk : hp_k h b = 13) (hd : decode cc pc = .ok (.invokevirtual idx, 3)) : fx_IV p l e R s m args below meth c H locs cells slots (F0 m pc ls (.int x1 :: .ref b :: rest)) rest y_M_none [.ref b, .int x1] 3 := fun T hT X => fx_invV (As := [.int x1]) (Cn := "ChainJudgeModel") C X hw1 (fx_m6 (List.mem_of_getElem? (i := 193) rfl)) (fx_selP C ⟨by decide, by decide⟩ (fx_m5 (List.mem_of_getElem? (i := 217) rfl)) (fx_m6 (List.mem_of_getElem? (i := 192) rfl)) (fx_m6 (List.mem_of_getElem? (i := 193) rfl))) hm_M_none ⟨by decide, by decide⟩ (by rw [hT]; exact fx_clsO (ci := 12) (r := ("ChainJudgeModel", fx_T12, 57)) C F rfl (by decide) hk) rfl (n := 1) (by decide +kernel) rfl rfl hd
theorem iv_M_parses {x1 : Int32} (C : fx_CX D y cc nL kf kw ret hh h0 p R s m meth c) (F : fx_F D h0 h H locs cells slots) (hw1 : Cond.methodLink y.cls idx y_M_parses ∈ tables_1 ∨ ∃ host, Cond.methodLinkNest y.cls idx y_M_parses host ∈ tables_1) (hk : hp_k h b = 13) (hd : decode cc pc = .ok (.invokevirtual idx, 3)) : fx_IV p l e R s m args below meth c H locs cells slots (F0 m pc ls (.int x1 :: .ref b :: rest)) rest y_M_parses [.ref b, .int x1] 3 := fun T hT X => fx_invV (As := [.int x1]) (Cn := "ChainJudgeModel") C X hw1 (fx_m6 (List.mem_of_getElem? (i := 205) rfl)) (fx_selP C ⟨by decide, by decide⟩ (fx_m5 (List.mem_of_getElem? (i := 217) rfl)) (fx_m6 (List.mem_of_getElem? (i := 204) rfl)) (fx_m6 (List.mem_of_getElem? (i := 205) rfl))) hm_M_parses ⟨by decide, by decide⟩ (by rw [hT]; exact fx_clsO (ci := 12) (r := ("ChainJudgeModel", fx_T12, 57)) C F rfl (by decide) hk) rfl (n := 1) (by decide +kernel) rfl rfl hd
theorem iv_M_putAlgorithm (C : fx_CX D y cc nL kf kw ret hh h0 p R s m meth c) (F : fx_F D h0 h H locs cells slots) (hw1 : Cond.methodLink y.cls idx y_M_putAlgorithm ∈ tables_1 ∨ ∃ host, Cond.methodLinkNest y.cls idx y_M_putAlgorithm host ∈ tables_1) (hk : hp_k h b = 13) (hd : decode cc pc = .ok (.invokevirtual idx, 3)) : fx_IV p l e R s m args below meth c H locs cells slots (F0 m pc ls (.ref b :: rest)) rest y_M_putAlgorithm [.ref b] 3 := fun T hT X => fx_invV (As := []) (Cn := "ChainJudgeModel") C X hw1 (fx_m7 (List.mem_of_getElem? (i := 84) rfl)) (fx_selP C ⟨by decide, by decide⟩ (fx_m5 (List.mem_of_getElem? (i := 217) rfl)) (fx_m7 (List.mem_of_getElem? (i := 83) rfl)) (fx_m7 (List.mem_of_getElem? (i := 84) rfl))) hm_M_putAlgorithm ⟨by decide, by decide⟩ (by rw [hT]; exact fx_clsO (ci := 12) (r := ("ChainJudgeModel", fx_T12, 57)) C F rfl (by decide) hk) rfl (n := 0) (by decide +kernel) rfl rfl hd
theorem iv_M_putExtensions {x1 : Int32} {x2 : Int32} (C : fx_CX D y cc nL kf kw ret hh h0 p R s m meth c) (F : fx_F D h0 h H locs cells slots) (hw1 : Cond.methodLink y.cls idx y_M_putExtensions ∈ tables_1 ∨ ∃ host, Cond.methodLinkNest y.cls idx y_M_putExtensions host ∈ tables_1) (hk : hp_k h b = 13) (hd : decode cc pc = .ok (.invokevirtual idx, 3)) : fx_IV p l e R s m args below meth c H locs cells slots (F0 m pc ls (.int x2 :: .int x1 :: .ref b :: rest)) rest y_M_putExtensions [.ref b, .int x1, .int x2] 3 := fun T hT X => fx_invV (As := [.int x1, .int x2]) (Cn := "ChainJudgeModel") C X hw1 (fx_m7 (List.mem_of_getElem? (i := 102) rfl)) (fx_selP C ⟨by decide, by decide⟩ (fx_m5 (List.mem_of_getElem? (i := 217) rfl)) (fx_m7 (List.mem_of_getElem? (i := 101) rfl)) (fx_m7 (List.mem_of_getElem? (i := 102) rfl))) hm_M_putExtensions ⟨by decide, by decide⟩ (by rw [hT]; exact fx_clsO (ci := 12) (r := ("ChainJudgeModel", fx_T12, 57)) C F rfl (by decide) hk) rfl (n := 2) (by decide +kernel) rfl rfl hd
theorem iv_M_putName {x1 : Int32} (C : fx_CX D y cc nL kf kw ret hh h0 p R s m meth c) (F : fx_F D h0 h H locs cells slots) (hw1 : Cond.methodLink y.cls idx y_M_putName ∈ tables_1 ∨ ∃ host, Cond.methodLinkNest y.cls idx y_M_putName host ∈ tables_1) (hk : hp_k h b = 13) (hd : decode cc pc = .ok (.invokevirtual idx, 3)) : fx_IV p l e R s m args below meth c H locs cells slots (F0 m pc ls (.int x1 :: .ref b :: rest)) rest y_M_putName [.ref b, .int x1] 3 := fun T hT X => fx_invV (As := [.int x1]) (Cn := "ChainJudgeModel") C X hw1 (fx_m7 (List.mem_of_getElem? (i := 89) rfl)) (fx_selP C ⟨by decide, by decide⟩ (fx_m5 (List.mem_of_getElem? (i := 217) rfl)) (fx_m7 (List.mem_of_getElem? (i := 88) rfl)) (fx_m7 (List.mem_of_getElem? (i := 89) rfl))) hm_M_putName ⟨by decide, by decide⟩ (by rw [hT]; exact fx_clsO (ci := 12) (r := ("ChainJudgeModel", fx_T12, 57)) C F rfl (by decide) hk) rfl (n := 1) (by decide +kernel) rfl rfl hd
theorem iv_M_putTime {x1 : Int32} (C : fx_CX D y cc nL kf kw ret hh h0 p R s m meth c) (F : fx_F D h0 h H locs cells slots) (hw1 : Cond.methodLink y.cls idx y_M_putTime ∈ tables_1 ∨ ∃ host, Cond.methodLinkNest y.cls idx y_M_putTime host ∈ tables_1) (hk : hp_k h b = 13) (hd : decode cc pc = .ok (.invokevirtual idx, 3)) : fx_IV p l e R s m args below meth c H locs cells slots (F0 m pc ls (.int x1 :: .ref b :: rest)) rest y_M_putTime [.ref b, .int x1] 3 := fun T hT X => fx_invV (As := [.int x1]) (Cn := "ChainJudgeModel") C X hw1 (fx_m7 (List.mem_of_getElem? (i := 94) rfl)) (fx_selP C ⟨by decide, by decide⟩ (fx_m5 (List.mem_of_getElem? (i := 217) rfl)) (fx_m7 (List.mem_of_getElem? (i := 93) rfl)) (fx_m7 (List.mem_of_getElem? (i := 94) rfl))) hm_M_putTime ⟨by decide, by decide⟩ (by rw [hT]; exact fx_clsO (ci := 12) (r := ("ChainJudgeModel", fx_T12, 57)) C F rfl (by decide) hk) rfl (n := 1) (by decide +kernel) rfl rfl hd
end
def dl_M_issue : List (Nat × Instr × Nat) := [(0, .aload_n 0, 1), (1, .iconst 0, 1), (2, .putfield 83, 3), (5, .aload_n 0, 1), (6, .iload_n 1, 1), (7, .invokevirtual 356, 3), (10, .ifCond .ne 16, 3), (13, .iload_n 2, 1), (14, .iconst (-1), 1), (15, .if_icmp .eq 17, 3), (18, .aload_n 0, 1), (19, .iload_n 2, 1), (20, .invokevirtual 359, 3), (23, .ifCond .eq 9, 3), (26, .aload_n 0, 1), (27, .iconst 1, 1), (28, .invokevirtual 362, 3), (31, .ireturn, 1), (32, .aload_n 0, 1), (33, .invokevirtual 365, 3), (36, .istore 6, 2), (38, .iload 6, 2), (40, .ifCond .lt 38, 3), (43, .iload 4, 2), (45, .ifCond .lt 33, 3), (48, .iload 5, 2), (50, .ifCond .lt 28, 3), (53, .iload_n 3, 1), (54, .ifCond .lt 24, 3), (57, .iload_n 3, 1), (58, .sipush 2047, 3), (61, .if_icmp .gt 17, 3), (64, .iload_n 3, 1), (65, .iconst 1, 1), (66, .iand, 1), (67, .ifCond .ne 17, 3), (70, .iload_n 3, 1), (71, .sipush 254, 3), (74, .iand, 1), (75, .ifCond .eq 9, 3), (78, .aload_n 0, 1), (79, .iconst 2, 1), (80, .invokevirtual 362, 3), (83, .ireturn, 1), (84, .iload_n 2, 1), (85, .ifCond .lt 17, 3), (88, .aload_n 0, 1), (89, .iload_n 2, 1), (90, .invokevirtual 368, 3), (93, .ifCond .ne 9, 3), (96, .aload_n 0, 1), (97, .iconst 3, 1), (98, .invokevirtual 362, 3), (101, .ireturn, 1), (102, .aload_n 0, 1), (103, .iconst 0, 1), (104, .putfield 292, 3), (107, .aload_n 0, 1), (108, .iconst 5, 1), (109, .ldc2_w 371, 3), (112, .invokevirtual 300, 3), (115, .aload_n 0, 1), (116, .getfield 292, 3), (119, .istore 7, 2), (121, .aload_n 0, 1), (122, .getfield 350, 3), (125, .iconst 1, 1), (126, .iadd, 1), (127, .istore 8, 2), (129, .iload 8, 2), (131, .bipush 127, 2), (133, .if_icmp .le 12, 3), (136, .aload_n 0, 1), (137, .iload 8, 2), (139, .bipush 8, 2), (141, .ishr, 1), (142, .invokevirtual 295, 3), (145, .aload_n 0, 1), (146, .iload 8, 2), (148, .sipush 255, 3), (151, .iand, 1), (152, .invokevirtual 295, 3), (155, .aload_n 0, 1), (156, .iconst 2, 1), (157, .iload 7, 2), (159, .invokevirtual 305, 3), (162, .aload_n 0, 1), (163, .invokevirtual 373, 3), (166, .iload_n 2, 1), (167, .ifCond .ge 12, 3), (170, .aload_n 0, 1), (171, .iload 6, 2), (173, .invokevirtual 376, 3), (176, .goto 34, 3), (179, .aload_n 0, 1), (180, .getfield 262, 3), (183, .istore 9, 2), (185, .iload 9, 2), (187, .aload_n 0, 1), (188, .getfield 268, 3), (191, .if_icmp .ge 19, 3), (194, .aload_n 0, 1), (195, .aload_n 0, 1), (196, .iload 9, 2), (198, .invokevirtual 131, 3), (201, .invokevirtual 295, 3), (204, .iinc 9 1, 3), (207, .goto (-22), 3), (210, .aload_n 0, 1), (211, .getfield 292, 3), (214, .istore 7, 2), (216, .aload_n 0, 1), (217, .iload 4, 2), (219, .invokevirtual 379, 3), (222, .aload_n 0, 1), (223, .iload 5, 2), (225, .invokevirtual 379, 3), (228, .aload_n 0, 1), (229, .bipush 48, 2), (231, .iload 7, 2), (233, .invokevirtual 305, 3), (236, .aload_n 0, 1), (237, .iload 6, 2), (239, .invokevirtual 376, 3), (242, .aload_n 0, 1), (243, .getfield 292, 3), (246, .istore 7, 2), (248, .aload_n 0, 1), (249, .invokevirtual 373, 3), (252, .aload_n 0, 1), (253, .getfield 292, 3), (256, .istore 9, 2), (258, .aload_n 0, 1), (259, .iconst 0, 1), (260, .invokevirtual 295, 3), (263, .iconst 0, 1), (264, .istore 10, 2), (266, .iload 10, 2), (268, .bipush 32, 2), (270, .if_icmp .ge 25, 3), (273, .aload_n 0, 1), (274, .aload_n 0, 1), (275, .getfield 14, 3), (278, .bipush 32, 2), (280, .iload_n 1, 1), (281, .imul, 1), (282, .iload 10, 2), (284, .iadd, 1), (285, .baload, 1), (286, .invokevirtual 295, 3), (289, .iinc 10 1, 3), (292, .goto (-26), 3), (295, .aload_n 0, 1), (296, .iconst 3, 1), (297, .iload 9, 2), (299, .invokevirtual 305, 3), (302, .aload_n 0, 1), (303, .bipush 48, 2), (305, .iload 7, 2), (307, .invokevirtual 305, 3), (310, .aload_n 0, 1), (311, .iload_n 3, 1), (312, .iload 6, 2), (314, .invokevirtual 382, 3), (317, .aload_n 0, 1), (318, .bipush 48, 2), (320, .iconst 0, 1), (321, .invokevirtual 305, 3), (324, .aload_n 0, 1), (325, .aload_n 0, 1), (326, .getfield 14, 3), (329, .bipush 32, 2), (331, .iload_n 2, 1), (332, .ifCond .ge 7, 3), (335, .iload_n 1, 1), (336, .goto 9, 3), (339, .aload_n 0, 1), (340, .getfield 28, 3), (343, .iload_n 2, 1), (344, .iaload, 1), (345, .imul, 1), (346, .aload_n 0, 1), (347, .getfield 48, 3), (350, .iconst 0, 1), (351, .aload_n 0, 1), (352, .getfield 292, 3), (355, .invokevirtual 385, 3), (358, .aload_n 0, 1), (359, .invokevirtual 373, 3), (362, .aload_n 0, 1), (363, .getfield 292, 3), (366, .istore 7, 2), (368, .aload_n 0, 1), (369, .iconst 0, 1), (370, .invokevirtual 295, 3), (373, .iconst 0, 1), (374, .istore 10, 2), (376, .iload 10, 2), (378, .bipush 32, 2), (380, .if_icmp .ge 20, 3), (383, .aload_n 0, 1), (384, .aload_n 0, 1), (385, .getfield 77, 3), (388, .iload 10, 2), (390, .baload, 1), (391, .invokevirtual 295, 3), (394, .iinc 10 1, 3), (397, .goto (-21), 3), (400, .aload_n 0, 1), (401, .iconst 3, 1), (402, .iload 7, 2), (404, .invokevirtual 305, 3), (407, .aload_n 0, 1), (408, .bipush 48, 2), (410, .iconst 0, 1), (411, .invokevirtual 305, 3), (414, .aload_n 0, 1), (415, .aload_n 0, 1), (416, .getfield 292, 3), (419, .invokevirtual 389, 3), (422, .ifCond .eq 9, 3), (425, .aload_n 0, 1), (426, .iconst 4, 1), (427, .invokevirtual 362, 3), (430, .ireturn, 1), (431, .iconst 0, 1), (432, .istore 10, 2), (434, .iload 10, 2), (436, .aload_n 0, 1), (437, .getfield 292, 3), (440, .if_icmp .ge 33, 3), (443, .aload_n 0, 1), (444, .getfield 21, 3), (447, .aload_n 0, 1), (448, .getfield 24, 3), (451, .aload_n 0, 1), (452, .getfield 350, 3), (455, .iaload, 1), (456, .iload 10, 2), (458, .iadd, 1), (459, .aload_n 0, 1), (460, .getfield 48, 3), (463, .iload 10, 2), (465, .baload, 1), (466, .bastore, 1), (467, .iinc 10 1, 3), (470, .goto (-36), 3), (473, .aload_n 0, 1), (474, .iconst 0, 1), (475, .putfield 328, 3), (478, .aload_n 0, 1), (479, .aload_n 0, 1), (480, .getfield 292, 3), (483, .iload_n 1, 1), (484, .invokevirtual 392, 3), (487, .ireturn, 1)]
theorem dk_M_issue : fx_dec prog_15_method_54_code dl_M_issue = true := by decide +kernel
theorem d_M_issue_0 : decode prog_15_method_54_code 0 = .ok (.aload_n 0, 1) := fx_dat dk_M_issue 0 rfl
theorem d_M_issue_1 : decode prog_15_method_54_code 1 = .ok (.iconst 0, 1) := fx_dat dk_M_issue 1 rfl
theorem d_M_issue_2 : decode prog_15_method_54_code 2 = .ok (.putfield 83, 3) := fx_dat dk_M_issue 2 rfl
theorem d_M_issue_5 : decode prog_15_method_54_code 5 = .ok (.aload_n 0, 1) := fx_dat dk_M_issue 3 rfl
theorem d_M_issue_6 : decode prog_15_method_54_code 6 = .ok (.iload_n 1, 1) := fx_dat dk_M_issue 4 rfl
theorem d_M_issue_7 : decode prog_15_method_54_code 7 = .ok (.invokevirtual 356, 3) := fx_dat dk_M_issue 5 rfl
theorem d_M_issue_10 : decode prog_15_method_54_code 10 = .ok (.ifCond .ne 16, 3) := fx_dat dk_M_issue 6 rfl
theorem d_M_issue_13 : decode prog_15_method_54_code 13 = .ok (.iload_n 2, 1) := fx_dat dk_M_issue 7 rfl
theorem d_M_issue_14 : decode prog_15_method_54_code 14 = .ok (.iconst (-1), 1) := fx_dat dk_M_issue 8 rfl
theorem d_M_issue_15 : decode prog_15_method_54_code 15 = .ok (.if_icmp .eq 17, 3) := fx_dat dk_M_issue 9 rfl
theorem d_M_issue_18 : decode prog_15_method_54_code 18 = .ok (.aload_n 0, 1) := fx_dat dk_M_issue 10 rfl
theorem d_M_issue_19 : decode prog_15_method_54_code 19 = .ok (.iload_n 2, 1) := fx_dat dk_M_issue 11 rfl
theorem d_M_issue_20 : decode prog_15_method_54_code 20 = .ok (.invokevirtual 359, 3) := fx_dat dk_M_issue 12 rfl
theorem d_M_issue_23 : decode prog_15_method_54_code 23 = .ok (.ifCond .eq 9, 3) := fx_dat dk_M_issue 13 rfl
theorem d_M_issue_26 : decode prog_15_method_54_code 26 = .ok (.aload_n 0, 1) := fx_dat dk_M_issue 14 rfl
theorem d_M_issue_27 : decode prog_15_method_54_code 27 = .ok (.iconst 1, 1) := fx_dat dk_M_issue 15 rfl
theorem d_M_issue_28 : decode prog_15_method_54_code 28 = .ok (.invokevirtual 362, 3) := fx_dat dk_M_issue 16 rfl
theorem d_M_issue_31 : decode prog_15_method_54_code 31 = .ok (.ireturn, 1) := fx_dat dk_M_issue 17 rfl
theorem d_M_issue_32 : decode prog_15_method_54_code 32 = .ok (.aload_n 0, 1) := fx_dat dk_M_issue 18 rfl
theorem d_M_issue_33 : decode prog_15_method_54_code 33 = .ok (.invokevirtual 365, 3) := fx_dat dk_M_issue 19 rfl
theorem d_M_issue_36 : decode prog_15_method_54_code 36 = .ok (.istore 6, 2) := fx_dat dk_M_issue 20 rfl
theorem d_M_issue_38 : decode prog_15_method_54_code 38 = .ok (.iload 6, 2) := fx_dat dk_M_issue 21 rfl
theorem d_M_issue_40 : decode prog_15_method_54_code 40 = .ok (.ifCond .lt 38, 3) := fx_dat dk_M_issue 22 rfl
theorem d_M_issue_43 : decode prog_15_method_54_code 43 = .ok (.iload 4, 2) := fx_dat dk_M_issue 23 rfl
theorem d_M_issue_45 : decode prog_15_method_54_code 45 = .ok (.ifCond .lt 33, 3) := fx_dat dk_M_issue 24 rfl
theorem d_M_issue_48 : decode prog_15_method_54_code 48 = .ok (.iload 5, 2) := fx_dat dk_M_issue 25 rfl
theorem d_M_issue_50 : decode prog_15_method_54_code 50 = .ok (.ifCond .lt 28, 3) := fx_dat dk_M_issue 26 rfl
theorem d_M_issue_53 : decode prog_15_method_54_code 53 = .ok (.iload_n 3, 1) := fx_dat dk_M_issue 27 rfl
theorem d_M_issue_54 : decode prog_15_method_54_code 54 = .ok (.ifCond .lt 24, 3) := fx_dat dk_M_issue 28 rfl
theorem d_M_issue_57 : decode prog_15_method_54_code 57 = .ok (.iload_n 3, 1) := fx_dat dk_M_issue 29 rfl
theorem d_M_issue_58 : decode prog_15_method_54_code 58 = .ok (.sipush 2047, 3) := fx_dat dk_M_issue 30 rfl
theorem d_M_issue_61 : decode prog_15_method_54_code 61 = .ok (.if_icmp .gt 17, 3) := fx_dat dk_M_issue 31 rfl
theorem d_M_issue_64 : decode prog_15_method_54_code 64 = .ok (.iload_n 3, 1) := fx_dat dk_M_issue 32 rfl
theorem d_M_issue_65 : decode prog_15_method_54_code 65 = .ok (.iconst 1, 1) := fx_dat dk_M_issue 33 rfl
theorem d_M_issue_66 : decode prog_15_method_54_code 66 = .ok (.iand, 1) := fx_dat dk_M_issue 34 rfl
theorem d_M_issue_67 : decode prog_15_method_54_code 67 = .ok (.ifCond .ne 17, 3) := fx_dat dk_M_issue 35 rfl
theorem d_M_issue_70 : decode prog_15_method_54_code 70 = .ok (.iload_n 3, 1) := fx_dat dk_M_issue 36 rfl
theorem d_M_issue_71 : decode prog_15_method_54_code 71 = .ok (.sipush 254, 3) := fx_dat dk_M_issue 37 rfl
theorem d_M_issue_74 : decode prog_15_method_54_code 74 = .ok (.iand, 1) := fx_dat dk_M_issue 38 rfl
theorem d_M_issue_75 : decode prog_15_method_54_code 75 = .ok (.ifCond .eq 9, 3) := fx_dat dk_M_issue 39 rfl
theorem d_M_issue_78 : decode prog_15_method_54_code 78 = .ok (.aload_n 0, 1) := fx_dat dk_M_issue 40 rfl
theorem d_M_issue_79 : decode prog_15_method_54_code 79 = .ok (.iconst 2, 1) := fx_dat dk_M_issue 41 rfl
theorem d_M_issue_80 : decode prog_15_method_54_code 80 = .ok (.invokevirtual 362, 3) := fx_dat dk_M_issue 42 rfl
theorem d_M_issue_83 : decode prog_15_method_54_code 83 = .ok (.ireturn, 1) := fx_dat dk_M_issue 43 rfl
theorem d_M_issue_84 : decode prog_15_method_54_code 84 = .ok (.iload_n 2, 1) := fx_dat dk_M_issue 44 rfl
theorem d_M_issue_85 : decode prog_15_method_54_code 85 = .ok (.ifCond .lt 17, 3) := fx_dat dk_M_issue 45 rfl
theorem d_M_issue_88 : decode prog_15_method_54_code 88 = .ok (.aload_n 0, 1) := fx_dat dk_M_issue 46 rfl
theorem d_M_issue_89 : decode prog_15_method_54_code 89 = .ok (.iload_n 2, 1) := fx_dat dk_M_issue 47 rfl
theorem d_M_issue_90 : decode prog_15_method_54_code 90 = .ok (.invokevirtual 368, 3) := fx_dat dk_M_issue 48 rfl
theorem d_M_issue_93 : decode prog_15_method_54_code 93 = .ok (.ifCond .ne 9, 3) := fx_dat dk_M_issue 49 rfl
theorem d_M_issue_96 : decode prog_15_method_54_code 96 = .ok (.aload_n 0, 1) := fx_dat dk_M_issue 50 rfl
theorem d_M_issue_97 : decode prog_15_method_54_code 97 = .ok (.iconst 3, 1) := fx_dat dk_M_issue 51 rfl
theorem d_M_issue_98 : decode prog_15_method_54_code 98 = .ok (.invokevirtual 362, 3) := fx_dat dk_M_issue 52 rfl
theorem d_M_issue_101 : decode prog_15_method_54_code 101 = .ok (.ireturn, 1) := fx_dat dk_M_issue 53 rfl
theorem d_M_issue_102 : decode prog_15_method_54_code 102 = .ok (.aload_n 0, 1) := fx_dat dk_M_issue 54 rfl
theorem d_M_issue_103 : decode prog_15_method_54_code 103 = .ok (.iconst 0, 1) := fx_dat dk_M_issue 55 rfl
theorem d_M_issue_104 : decode prog_15_method_54_code 104 = .ok (.putfield 292, 3) := fx_dat dk_M_issue 56 rfl
theorem d_M_issue_107 : decode prog_15_method_54_code 107 = .ok (.aload_n 0, 1) := fx_dat dk_M_issue 57 rfl
theorem d_M_issue_108 : decode prog_15_method_54_code 108 = .ok (.iconst 5, 1) := fx_dat dk_M_issue 58 rfl
theorem d_M_issue_109 : decode prog_15_method_54_code 109 = .ok (.ldc2_w 371, 3) := fx_dat dk_M_issue 59 rfl
theorem d_M_issue_112 : decode prog_15_method_54_code 112 = .ok (.invokevirtual 300, 3) := fx_dat dk_M_issue 60 rfl
theorem d_M_issue_115 : decode prog_15_method_54_code 115 = .ok (.aload_n 0, 1) := fx_dat dk_M_issue 61 rfl
theorem d_M_issue_116 : decode prog_15_method_54_code 116 = .ok (.getfield 292, 3) := fx_dat dk_M_issue 62 rfl
theorem d_M_issue_119 : decode prog_15_method_54_code 119 = .ok (.istore 7, 2) := fx_dat dk_M_issue 63 rfl
theorem d_M_issue_121 : decode prog_15_method_54_code 121 = .ok (.aload_n 0, 1) := fx_dat dk_M_issue 64 rfl
theorem d_M_issue_122 : decode prog_15_method_54_code 122 = .ok (.getfield 350, 3) := fx_dat dk_M_issue 65 rfl
theorem d_M_issue_125 : decode prog_15_method_54_code 125 = .ok (.iconst 1, 1) := fx_dat dk_M_issue 66 rfl
theorem d_M_issue_126 : decode prog_15_method_54_code 126 = .ok (.iadd, 1) := fx_dat dk_M_issue 67 rfl
theorem d_M_issue_127 : decode prog_15_method_54_code 127 = .ok (.istore 8, 2) := fx_dat dk_M_issue 68 rfl
theorem d_M_issue_129 : decode prog_15_method_54_code 129 = .ok (.iload 8, 2) := fx_dat dk_M_issue 69 rfl
theorem d_M_issue_131 : decode prog_15_method_54_code 131 = .ok (.bipush 127, 2) := fx_dat dk_M_issue 70 rfl
theorem d_M_issue_133 : decode prog_15_method_54_code 133 = .ok (.if_icmp .le 12, 3) := fx_dat dk_M_issue 71 rfl
theorem d_M_issue_136 : decode prog_15_method_54_code 136 = .ok (.aload_n 0, 1) := fx_dat dk_M_issue 72 rfl
theorem d_M_issue_137 : decode prog_15_method_54_code 137 = .ok (.iload 8, 2) := fx_dat dk_M_issue 73 rfl
theorem d_M_issue_139 : decode prog_15_method_54_code 139 = .ok (.bipush 8, 2) := fx_dat dk_M_issue 74 rfl
theorem d_M_issue_141 : decode prog_15_method_54_code 141 = .ok (.ishr, 1) := fx_dat dk_M_issue 75 rfl
theorem d_M_issue_142 : decode prog_15_method_54_code 142 = .ok (.invokevirtual 295, 3) := fx_dat dk_M_issue 76 rfl
theorem d_M_issue_145 : decode prog_15_method_54_code 145 = .ok (.aload_n 0, 1) := fx_dat dk_M_issue 77 rfl
theorem d_M_issue_146 : decode prog_15_method_54_code 146 = .ok (.iload 8, 2) := fx_dat dk_M_issue 78 rfl
theorem d_M_issue_148 : decode prog_15_method_54_code 148 = .ok (.sipush 255, 3) := fx_dat dk_M_issue 79 rfl
theorem d_M_issue_151 : decode prog_15_method_54_code 151 = .ok (.iand, 1) := fx_dat dk_M_issue 80 rfl
theorem d_M_issue_152 : decode prog_15_method_54_code 152 = .ok (.invokevirtual 295, 3) := fx_dat dk_M_issue 81 rfl
theorem d_M_issue_155 : decode prog_15_method_54_code 155 = .ok (.aload_n 0, 1) := fx_dat dk_M_issue 82 rfl
theorem d_M_issue_156 : decode prog_15_method_54_code 156 = .ok (.iconst 2, 1) := fx_dat dk_M_issue 83 rfl
theorem d_M_issue_157 : decode prog_15_method_54_code 157 = .ok (.iload 7, 2) := fx_dat dk_M_issue 84 rfl
theorem d_M_issue_159 : decode prog_15_method_54_code 159 = .ok (.invokevirtual 305, 3) := fx_dat dk_M_issue 85 rfl
theorem d_M_issue_162 : decode prog_15_method_54_code 162 = .ok (.aload_n 0, 1) := fx_dat dk_M_issue 86 rfl
theorem d_M_issue_163 : decode prog_15_method_54_code 163 = .ok (.invokevirtual 373, 3) := fx_dat dk_M_issue 87 rfl
theorem d_M_issue_166 : decode prog_15_method_54_code 166 = .ok (.iload_n 2, 1) := fx_dat dk_M_issue 88 rfl
theorem d_M_issue_167 : decode prog_15_method_54_code 167 = .ok (.ifCond .ge 12, 3) := fx_dat dk_M_issue 89 rfl
theorem d_M_issue_170 : decode prog_15_method_54_code 170 = .ok (.aload_n 0, 1) := fx_dat dk_M_issue 90 rfl
theorem d_M_issue_171 : decode prog_15_method_54_code 171 = .ok (.iload 6, 2) := fx_dat dk_M_issue 91 rfl
theorem d_M_issue_173 : decode prog_15_method_54_code 173 = .ok (.invokevirtual 376, 3) := fx_dat dk_M_issue 92 rfl
theorem d_M_issue_176 : decode prog_15_method_54_code 176 = .ok (.goto 34, 3) := fx_dat dk_M_issue 93 rfl
theorem d_M_issue_179 : decode prog_15_method_54_code 179 = .ok (.aload_n 0, 1) := fx_dat dk_M_issue 94 rfl
theorem d_M_issue_180 : decode prog_15_method_54_code 180 = .ok (.getfield 262, 3) := fx_dat dk_M_issue 95 rfl
theorem d_M_issue_183 : decode prog_15_method_54_code 183 = .ok (.istore 9, 2) := fx_dat dk_M_issue 96 rfl
theorem d_M_issue_185 : decode prog_15_method_54_code 185 = .ok (.iload 9, 2) := fx_dat dk_M_issue 97 rfl
theorem d_M_issue_187 : decode prog_15_method_54_code 187 = .ok (.aload_n 0, 1) := fx_dat dk_M_issue 98 rfl
theorem d_M_issue_188 : decode prog_15_method_54_code 188 = .ok (.getfield 268, 3) := fx_dat dk_M_issue 99 rfl
theorem d_M_issue_191 : decode prog_15_method_54_code 191 = .ok (.if_icmp .ge 19, 3) := fx_dat dk_M_issue 100 rfl
theorem d_M_issue_194 : decode prog_15_method_54_code 194 = .ok (.aload_n 0, 1) := fx_dat dk_M_issue 101 rfl
theorem d_M_issue_195 : decode prog_15_method_54_code 195 = .ok (.aload_n 0, 1) := fx_dat dk_M_issue 102 rfl
theorem d_M_issue_196 : decode prog_15_method_54_code 196 = .ok (.iload 9, 2) := fx_dat dk_M_issue 103 rfl
theorem d_M_issue_198 : decode prog_15_method_54_code 198 = .ok (.invokevirtual 131, 3) := fx_dat dk_M_issue 104 rfl
theorem d_M_issue_201 : decode prog_15_method_54_code 201 = .ok (.invokevirtual 295, 3) := fx_dat dk_M_issue 105 rfl
theorem d_M_issue_204 : decode prog_15_method_54_code 204 = .ok (.iinc 9 1, 3) := fx_dat dk_M_issue 106 rfl
theorem d_M_issue_207 : decode prog_15_method_54_code 207 = .ok (.goto (-22), 3) := fx_dat dk_M_issue 107 rfl
theorem d_M_issue_210 : decode prog_15_method_54_code 210 = .ok (.aload_n 0, 1) := fx_dat dk_M_issue 108 rfl
theorem d_M_issue_211 : decode prog_15_method_54_code 211 = .ok (.getfield 292, 3) := fx_dat dk_M_issue 109 rfl
theorem d_M_issue_214 : decode prog_15_method_54_code 214 = .ok (.istore 7, 2) := fx_dat dk_M_issue 110 rfl
theorem d_M_issue_216 : decode prog_15_method_54_code 216 = .ok (.aload_n 0, 1) := fx_dat dk_M_issue 111 rfl
theorem d_M_issue_217 : decode prog_15_method_54_code 217 = .ok (.iload 4, 2) := fx_dat dk_M_issue 112 rfl
theorem d_M_issue_219 : decode prog_15_method_54_code 219 = .ok (.invokevirtual 379, 3) := fx_dat dk_M_issue 113 rfl
theorem d_M_issue_222 : decode prog_15_method_54_code 222 = .ok (.aload_n 0, 1) := fx_dat dk_M_issue 114 rfl
theorem d_M_issue_223 : decode prog_15_method_54_code 223 = .ok (.iload 5, 2) := fx_dat dk_M_issue 115 rfl
theorem d_M_issue_225 : decode prog_15_method_54_code 225 = .ok (.invokevirtual 379, 3) := fx_dat dk_M_issue 116 rfl
theorem d_M_issue_228 : decode prog_15_method_54_code 228 = .ok (.aload_n 0, 1) := fx_dat dk_M_issue 117 rfl
theorem d_M_issue_229 : decode prog_15_method_54_code 229 = .ok (.bipush 48, 2) := fx_dat dk_M_issue 118 rfl
theorem d_M_issue_231 : decode prog_15_method_54_code 231 = .ok (.iload 7, 2) := fx_dat dk_M_issue 119 rfl
theorem d_M_issue_233 : decode prog_15_method_54_code 233 = .ok (.invokevirtual 305, 3) := fx_dat dk_M_issue 120 rfl
theorem d_M_issue_236 : decode prog_15_method_54_code 236 = .ok (.aload_n 0, 1) := fx_dat dk_M_issue 121 rfl
theorem d_M_issue_237 : decode prog_15_method_54_code 237 = .ok (.iload 6, 2) := fx_dat dk_M_issue 122 rfl
theorem d_M_issue_239 : decode prog_15_method_54_code 239 = .ok (.invokevirtual 376, 3) := fx_dat dk_M_issue 123 rfl
theorem d_M_issue_242 : decode prog_15_method_54_code 242 = .ok (.aload_n 0, 1) := fx_dat dk_M_issue 124 rfl
theorem d_M_issue_243 : decode prog_15_method_54_code 243 = .ok (.getfield 292, 3) := fx_dat dk_M_issue 125 rfl
theorem d_M_issue_246 : decode prog_15_method_54_code 246 = .ok (.istore 7, 2) := fx_dat dk_M_issue 126 rfl
theorem d_M_issue_248 : decode prog_15_method_54_code 248 = .ok (.aload_n 0, 1) := fx_dat dk_M_issue 127 rfl
theorem d_M_issue_249 : decode prog_15_method_54_code 249 = .ok (.invokevirtual 373, 3) := fx_dat dk_M_issue 128 rfl
theorem d_M_issue_252 : decode prog_15_method_54_code 252 = .ok (.aload_n 0, 1) := fx_dat dk_M_issue 129 rfl
theorem d_M_issue_253 : decode prog_15_method_54_code 253 = .ok (.getfield 292, 3) := fx_dat dk_M_issue 130 rfl
theorem d_M_issue_256 : decode prog_15_method_54_code 256 = .ok (.istore 9, 2) := fx_dat dk_M_issue 131 rfl
theorem d_M_issue_258 : decode prog_15_method_54_code 258 = .ok (.aload_n 0, 1) := fx_dat dk_M_issue 132 rfl
theorem d_M_issue_259 : decode prog_15_method_54_code 259 = .ok (.iconst 0, 1) := fx_dat dk_M_issue 133 rfl
theorem d_M_issue_260 : decode prog_15_method_54_code 260 = .ok (.invokevirtual 295, 3) := fx_dat dk_M_issue 134 rfl
theorem d_M_issue_263 : decode prog_15_method_54_code 263 = .ok (.iconst 0, 1) := fx_dat dk_M_issue 135 rfl
theorem d_M_issue_264 : decode prog_15_method_54_code 264 = .ok (.istore 10, 2) := fx_dat dk_M_issue 136 rfl
theorem d_M_issue_266 : decode prog_15_method_54_code 266 = .ok (.iload 10, 2) := fx_dat dk_M_issue 137 rfl
theorem d_M_issue_268 : decode prog_15_method_54_code 268 = .ok (.bipush 32, 2) := fx_dat dk_M_issue 138 rfl
theorem d_M_issue_270 : decode prog_15_method_54_code 270 = .ok (.if_icmp .ge 25, 3) := fx_dat dk_M_issue 139 rfl
theorem d_M_issue_273 : decode prog_15_method_54_code 273 = .ok (.aload_n 0, 1) := fx_dat dk_M_issue 140 rfl
theorem d_M_issue_274 : decode prog_15_method_54_code 274 = .ok (.aload_n 0, 1) := fx_dat dk_M_issue 141 rfl
theorem d_M_issue_275 : decode prog_15_method_54_code 275 = .ok (.getfield 14, 3) := fx_dat dk_M_issue 142 rfl
theorem d_M_issue_278 : decode prog_15_method_54_code 278 = .ok (.bipush 32, 2) := fx_dat dk_M_issue 143 rfl
theorem d_M_issue_280 : decode prog_15_method_54_code 280 = .ok (.iload_n 1, 1) := fx_dat dk_M_issue 144 rfl
theorem d_M_issue_281 : decode prog_15_method_54_code 281 = .ok (.imul, 1) := fx_dat dk_M_issue 145 rfl
theorem d_M_issue_282 : decode prog_15_method_54_code 282 = .ok (.iload 10, 2) := fx_dat dk_M_issue 146 rfl
theorem d_M_issue_284 : decode prog_15_method_54_code 284 = .ok (.iadd, 1) := fx_dat dk_M_issue 147 rfl
theorem d_M_issue_285 : decode prog_15_method_54_code 285 = .ok (.baload, 1) := fx_dat dk_M_issue 148 rfl
theorem d_M_issue_286 : decode prog_15_method_54_code 286 = .ok (.invokevirtual 295, 3) := fx_dat dk_M_issue 149 rfl
theorem d_M_issue_289 : decode prog_15_method_54_code 289 = .ok (.iinc 10 1, 3) := fx_dat dk_M_issue 150 rfl
theorem d_M_issue_292 : decode prog_15_method_54_code 292 = .ok (.goto (-26), 3) := fx_dat dk_M_issue 151 rfl
theorem d_M_issue_295 : decode prog_15_method_54_code 295 = .ok (.aload_n 0, 1) := fx_dat dk_M_issue 152 rfl
theorem d_M_issue_296 : decode prog_15_method_54_code 296 = .ok (.iconst 3, 1) := fx_dat dk_M_issue 153 rfl
theorem d_M_issue_297 : decode prog_15_method_54_code 297 = .ok (.iload 9, 2) := fx_dat dk_M_issue 154 rfl
theorem d_M_issue_299 : decode prog_15_method_54_code 299 = .ok (.invokevirtual 305, 3) := fx_dat dk_M_issue 155 rfl
theorem d_M_issue_302 : decode prog_15_method_54_code 302 = .ok (.aload_n 0, 1) := fx_dat dk_M_issue 156 rfl
theorem d_M_issue_303 : decode prog_15_method_54_code 303 = .ok (.bipush 48, 2) := fx_dat dk_M_issue 157 rfl
theorem d_M_issue_305 : decode prog_15_method_54_code 305 = .ok (.iload 7, 2) := fx_dat dk_M_issue 158 rfl
theorem d_M_issue_307 : decode prog_15_method_54_code 307 = .ok (.invokevirtual 305, 3) := fx_dat dk_M_issue 159 rfl
theorem d_M_issue_310 : decode prog_15_method_54_code 310 = .ok (.aload_n 0, 1) := fx_dat dk_M_issue 160 rfl
theorem d_M_issue_311 : decode prog_15_method_54_code 311 = .ok (.iload_n 3, 1) := fx_dat dk_M_issue 161 rfl
theorem d_M_issue_312 : decode prog_15_method_54_code 312 = .ok (.iload 6, 2) := fx_dat dk_M_issue 162 rfl
theorem d_M_issue_314 : decode prog_15_method_54_code 314 = .ok (.invokevirtual 382, 3) := fx_dat dk_M_issue 163 rfl
theorem d_M_issue_317 : decode prog_15_method_54_code 317 = .ok (.aload_n 0, 1) := fx_dat dk_M_issue 164 rfl
theorem d_M_issue_318 : decode prog_15_method_54_code 318 = .ok (.bipush 48, 2) := fx_dat dk_M_issue 165 rfl
theorem d_M_issue_320 : decode prog_15_method_54_code 320 = .ok (.iconst 0, 1) := fx_dat dk_M_issue 166 rfl
theorem d_M_issue_321 : decode prog_15_method_54_code 321 = .ok (.invokevirtual 305, 3) := fx_dat dk_M_issue 167 rfl
theorem d_M_issue_324 : decode prog_15_method_54_code 324 = .ok (.aload_n 0, 1) := fx_dat dk_M_issue 168 rfl
theorem d_M_issue_325 : decode prog_15_method_54_code 325 = .ok (.aload_n 0, 1) := fx_dat dk_M_issue 169 rfl
theorem d_M_issue_326 : decode prog_15_method_54_code 326 = .ok (.getfield 14, 3) := fx_dat dk_M_issue 170 rfl
theorem d_M_issue_329 : decode prog_15_method_54_code 329 = .ok (.bipush 32, 2) := fx_dat dk_M_issue 171 rfl
theorem d_M_issue_331 : decode prog_15_method_54_code 331 = .ok (.iload_n 2, 1) := fx_dat dk_M_issue 172 rfl
theorem d_M_issue_332 : decode prog_15_method_54_code 332 = .ok (.ifCond .ge 7, 3) := fx_dat dk_M_issue 173 rfl
theorem d_M_issue_335 : decode prog_15_method_54_code 335 = .ok (.iload_n 1, 1) := fx_dat dk_M_issue 174 rfl
theorem d_M_issue_336 : decode prog_15_method_54_code 336 = .ok (.goto 9, 3) := fx_dat dk_M_issue 175 rfl
theorem d_M_issue_339 : decode prog_15_method_54_code 339 = .ok (.aload_n 0, 1) := fx_dat dk_M_issue 176 rfl
theorem d_M_issue_340 : decode prog_15_method_54_code 340 = .ok (.getfield 28, 3) := fx_dat dk_M_issue 177 rfl
theorem d_M_issue_343 : decode prog_15_method_54_code 343 = .ok (.iload_n 2, 1) := fx_dat dk_M_issue 178 rfl
theorem d_M_issue_344 : decode prog_15_method_54_code 344 = .ok (.iaload, 1) := fx_dat dk_M_issue 179 rfl
theorem d_M_issue_345 : decode prog_15_method_54_code 345 = .ok (.imul, 1) := fx_dat dk_M_issue 180 rfl
theorem d_M_issue_346 : decode prog_15_method_54_code 346 = .ok (.aload_n 0, 1) := fx_dat dk_M_issue 181 rfl
theorem d_M_issue_347 : decode prog_15_method_54_code 347 = .ok (.getfield 48, 3) := fx_dat dk_M_issue 182 rfl
theorem d_M_issue_350 : decode prog_15_method_54_code 350 = .ok (.iconst 0, 1) := fx_dat dk_M_issue 183 rfl
theorem d_M_issue_351 : decode prog_15_method_54_code 351 = .ok (.aload_n 0, 1) := fx_dat dk_M_issue 184 rfl
theorem d_M_issue_352 : decode prog_15_method_54_code 352 = .ok (.getfield 292, 3) := fx_dat dk_M_issue 185 rfl
theorem d_M_issue_355 : decode prog_15_method_54_code 355 = .ok (.invokevirtual 385, 3) := fx_dat dk_M_issue 186 rfl
theorem d_M_issue_358 : decode prog_15_method_54_code 358 = .ok (.aload_n 0, 1) := fx_dat dk_M_issue 187 rfl
theorem d_M_issue_359 : decode prog_15_method_54_code 359 = .ok (.invokevirtual 373, 3) := fx_dat dk_M_issue 188 rfl
theorem d_M_issue_362 : decode prog_15_method_54_code 362 = .ok (.aload_n 0, 1) := fx_dat dk_M_issue 189 rfl
theorem d_M_issue_363 : decode prog_15_method_54_code 363 = .ok (.getfield 292, 3) := fx_dat dk_M_issue 190 rfl
theorem d_M_issue_366 : decode prog_15_method_54_code 366 = .ok (.istore 7, 2) := fx_dat dk_M_issue 191 rfl
theorem d_M_issue_368 : decode prog_15_method_54_code 368 = .ok (.aload_n 0, 1) := fx_dat dk_M_issue 192 rfl
theorem d_M_issue_369 : decode prog_15_method_54_code 369 = .ok (.iconst 0, 1) := fx_dat dk_M_issue 193 rfl
theorem d_M_issue_370 : decode prog_15_method_54_code 370 = .ok (.invokevirtual 295, 3) := fx_dat dk_M_issue 194 rfl
theorem d_M_issue_373 : decode prog_15_method_54_code 373 = .ok (.iconst 0, 1) := fx_dat dk_M_issue 195 rfl
theorem d_M_issue_374 : decode prog_15_method_54_code 374 = .ok (.istore 10, 2) := fx_dat dk_M_issue 196 rfl
theorem d_M_issue_376 : decode prog_15_method_54_code 376 = .ok (.iload 10, 2) := fx_dat dk_M_issue 197 rfl
theorem d_M_issue_378 : decode prog_15_method_54_code 378 = .ok (.bipush 32, 2) := fx_dat dk_M_issue 198 rfl
theorem d_M_issue_380 : decode prog_15_method_54_code 380 = .ok (.if_icmp .ge 20, 3) := fx_dat dk_M_issue 199 rfl
theorem d_M_issue_383 : decode prog_15_method_54_code 383 = .ok (.aload_n 0, 1) := fx_dat dk_M_issue 200 rfl
theorem d_M_issue_384 : decode prog_15_method_54_code 384 = .ok (.aload_n 0, 1) := fx_dat dk_M_issue 201 rfl
theorem d_M_issue_385 : decode prog_15_method_54_code 385 = .ok (.getfield 77, 3) := fx_dat dk_M_issue 202 rfl
theorem d_M_issue_388 : decode prog_15_method_54_code 388 = .ok (.iload 10, 2) := fx_dat dk_M_issue 203 rfl
theorem d_M_issue_390 : decode prog_15_method_54_code 390 = .ok (.baload, 1) := fx_dat dk_M_issue 204 rfl
theorem d_M_issue_391 : decode prog_15_method_54_code 391 = .ok (.invokevirtual 295, 3) := fx_dat dk_M_issue 205 rfl
theorem d_M_issue_394 : decode prog_15_method_54_code 394 = .ok (.iinc 10 1, 3) := fx_dat dk_M_issue 206 rfl
theorem d_M_issue_397 : decode prog_15_method_54_code 397 = .ok (.goto (-21), 3) := fx_dat dk_M_issue 207 rfl
theorem d_M_issue_400 : decode prog_15_method_54_code 400 = .ok (.aload_n 0, 1) := fx_dat dk_M_issue 208 rfl
theorem d_M_issue_401 : decode prog_15_method_54_code 401 = .ok (.iconst 3, 1) := fx_dat dk_M_issue 209 rfl
theorem d_M_issue_402 : decode prog_15_method_54_code 402 = .ok (.iload 7, 2) := fx_dat dk_M_issue 210 rfl
theorem d_M_issue_404 : decode prog_15_method_54_code 404 = .ok (.invokevirtual 305, 3) := fx_dat dk_M_issue 211 rfl
theorem d_M_issue_407 : decode prog_15_method_54_code 407 = .ok (.aload_n 0, 1) := fx_dat dk_M_issue 212 rfl
theorem d_M_issue_408 : decode prog_15_method_54_code 408 = .ok (.bipush 48, 2) := fx_dat dk_M_issue 213 rfl
theorem d_M_issue_410 : decode prog_15_method_54_code 410 = .ok (.iconst 0, 1) := fx_dat dk_M_issue 214 rfl
theorem d_M_issue_411 : decode prog_15_method_54_code 411 = .ok (.invokevirtual 305, 3) := fx_dat dk_M_issue 215 rfl
theorem d_M_issue_414 : decode prog_15_method_54_code 414 = .ok (.aload_n 0, 1) := fx_dat dk_M_issue 216 rfl
theorem d_M_issue_415 : decode prog_15_method_54_code 415 = .ok (.aload_n 0, 1) := fx_dat dk_M_issue 217 rfl
theorem d_M_issue_416 : decode prog_15_method_54_code 416 = .ok (.getfield 292, 3) := fx_dat dk_M_issue 218 rfl
theorem d_M_issue_419 : decode prog_15_method_54_code 419 = .ok (.invokevirtual 389, 3) := fx_dat dk_M_issue 219 rfl
theorem d_M_issue_422 : decode prog_15_method_54_code 422 = .ok (.ifCond .eq 9, 3) := fx_dat dk_M_issue 220 rfl
theorem d_M_issue_425 : decode prog_15_method_54_code 425 = .ok (.aload_n 0, 1) := fx_dat dk_M_issue 221 rfl
theorem d_M_issue_426 : decode prog_15_method_54_code 426 = .ok (.iconst 4, 1) := fx_dat dk_M_issue 222 rfl
theorem d_M_issue_427 : decode prog_15_method_54_code 427 = .ok (.invokevirtual 362, 3) := fx_dat dk_M_issue 223 rfl
theorem d_M_issue_430 : decode prog_15_method_54_code 430 = .ok (.ireturn, 1) := fx_dat dk_M_issue 224 rfl
theorem d_M_issue_431 : decode prog_15_method_54_code 431 = .ok (.iconst 0, 1) := fx_dat dk_M_issue 225 rfl
theorem d_M_issue_432 : decode prog_15_method_54_code 432 = .ok (.istore 10, 2) := fx_dat dk_M_issue 226 rfl
theorem d_M_issue_434 : decode prog_15_method_54_code 434 = .ok (.iload 10, 2) := fx_dat dk_M_issue 227 rfl
theorem d_M_issue_436 : decode prog_15_method_54_code 436 = .ok (.aload_n 0, 1) := fx_dat dk_M_issue 228 rfl
theorem d_M_issue_437 : decode prog_15_method_54_code 437 = .ok (.getfield 292, 3) := fx_dat dk_M_issue 229 rfl
theorem d_M_issue_440 : decode prog_15_method_54_code 440 = .ok (.if_icmp .ge 33, 3) := fx_dat dk_M_issue 230 rfl
theorem d_M_issue_443 : decode prog_15_method_54_code 443 = .ok (.aload_n 0, 1) := fx_dat dk_M_issue 231 rfl
theorem d_M_issue_444 : decode prog_15_method_54_code 444 = .ok (.getfield 21, 3) := fx_dat dk_M_issue 232 rfl
theorem d_M_issue_447 : decode prog_15_method_54_code 447 = .ok (.aload_n 0, 1) := fx_dat dk_M_issue 233 rfl
theorem d_M_issue_448 : decode prog_15_method_54_code 448 = .ok (.getfield 24, 3) := fx_dat dk_M_issue 234 rfl
theorem d_M_issue_451 : decode prog_15_method_54_code 451 = .ok (.aload_n 0, 1) := fx_dat dk_M_issue 235 rfl
theorem d_M_issue_452 : decode prog_15_method_54_code 452 = .ok (.getfield 350, 3) := fx_dat dk_M_issue 236 rfl
theorem d_M_issue_455 : decode prog_15_method_54_code 455 = .ok (.iaload, 1) := fx_dat dk_M_issue 237 rfl
theorem d_M_issue_456 : decode prog_15_method_54_code 456 = .ok (.iload 10, 2) := fx_dat dk_M_issue 238 rfl
theorem d_M_issue_458 : decode prog_15_method_54_code 458 = .ok (.iadd, 1) := fx_dat dk_M_issue 239 rfl
theorem d_M_issue_459 : decode prog_15_method_54_code 459 = .ok (.aload_n 0, 1) := fx_dat dk_M_issue 240 rfl
theorem d_M_issue_460 : decode prog_15_method_54_code 460 = .ok (.getfield 48, 3) := fx_dat dk_M_issue 241 rfl
theorem d_M_issue_463 : decode prog_15_method_54_code 463 = .ok (.iload 10, 2) := fx_dat dk_M_issue 242 rfl
theorem d_M_issue_465 : decode prog_15_method_54_code 465 = .ok (.baload, 1) := fx_dat dk_M_issue 243 rfl
theorem d_M_issue_466 : decode prog_15_method_54_code 466 = .ok (.bastore, 1) := fx_dat dk_M_issue 244 rfl
theorem d_M_issue_467 : decode prog_15_method_54_code 467 = .ok (.iinc 10 1, 3) := fx_dat dk_M_issue 245 rfl
theorem d_M_issue_470 : decode prog_15_method_54_code 470 = .ok (.goto (-36), 3) := fx_dat dk_M_issue 246 rfl
theorem d_M_issue_473 : decode prog_15_method_54_code 473 = .ok (.aload_n 0, 1) := fx_dat dk_M_issue 247 rfl
theorem d_M_issue_474 : decode prog_15_method_54_code 474 = .ok (.iconst 0, 1) := fx_dat dk_M_issue 248 rfl
theorem d_M_issue_475 : decode prog_15_method_54_code 475 = .ok (.putfield 328, 3) := fx_dat dk_M_issue 249 rfl
theorem d_M_issue_478 : decode prog_15_method_54_code 478 = .ok (.aload_n 0, 1) := fx_dat dk_M_issue 250 rfl
theorem d_M_issue_479 : decode prog_15_method_54_code 479 = .ok (.aload_n 0, 1) := fx_dat dk_M_issue 251 rfl
theorem d_M_issue_480 : decode prog_15_method_54_code 480 = .ok (.getfield 292, 3) := fx_dat dk_M_issue 252 rfl
theorem d_M_issue_483 : decode prog_15_method_54_code 483 = .ok (.iload_n 1, 1) := fx_dat dk_M_issue 253 rfl
theorem d_M_issue_484 : decode prog_15_method_54_code 484 = .ok (.invokevirtual 392, 3) := fx_dat dk_M_issue 254 rfl
theorem d_M_issue_487 : decode prog_15_method_54_code 487 = .ok (.ireturn, 1) := fx_dat dk_M_issue 255 rfl
def m_M_issue_26 (Q : Int32 → AH → Prop) (r0 : Nat) (h : AH) : Prop := hp_k h r0 = 13 ∧ m_M_fail (fun v1 h1 => fx_ext h h1 → Q v1 h1) r0 (1 : Int32) h
def m_M_issue_78 (Q : Int32 → AH → Prop) (r0 : Nat) (h : AH) : Prop := hp_k h r0 = 13 ∧ m_M_fail (fun v1 h1 => fx_ext h h1 → Q v1 h1) r0 (2 : Int32) h
def m_M_issue_434_b (Q : Int32 → AH → Prop) (X434 : Int32 × AH → Prop) (r0 : Nat) (x1 : Int32) (x10 : Int32) (h : AH) : Prop := hp_k h r0 = 13 ∧ ((hp_I h r0 47) ≤ x10 → ∀ h1 : AH, h1 = up_I h r0 4 (0 : Int32) → m_M_added (fun v1 h2 => fx_ext h1 h2 → Q v1 h2) r0 (hp_I h1 r0 47) x1 h1) ∧ (¬ (hp_I h r0 47) ≤ x10 → ∃ b1, hp_R h r0 7 = some b1 ∧ ∃ b2, hp_R h r0 8 = some b2 ∧ ik (hp_k h b2) ∧ vp_in (hp_I h r0 10) (hp_n h b2) ∧ ∃ b3, hp_R h r0 46 = some b3 ∧ bk (hp_k h b3) ∧ vp_in x10 (hp_n h b3) ∧ (by8 (hp_I h b3 x10.toNatClampNeg) → hp_k h b1 = 101 ∧ vp_in ((hp_I h b2 ((hp_I h r0 10)).toNatClampNeg) + x10) (hp_n h b1) ∧ ∀ h3 : AH, h3 = up_I h b1 (((hp_I h b2 ((hp_I h r0 10)).toNatClampNeg) + x10)).toNatClampNeg ((hp_I h b3 x10.toNatClampNeg)).toInt8.toInt32 → ∀ v2 : Int32, v2 = (x10 + (1 : Int32)) → X434 (v2, h3)))
def m_M_issue_434 (Q : Int32 → AH → Prop) (r0 : Nat) (x1 : Int32) (x10 : Int32) (h : AH) : Prop := fx_loop (fun (X434 : Int32 × AH → Prop) (st : Int32 × AH) => m_M_issue_434_b Q X434 r0 x1 st.1 st.2) (x10, h)
def m_M_issue_376_b (Q : Int32 → AH → Prop) (X376 : Int32 × AH → Prop) (r0 : Nat) (x1 : Int32) (x7 : Int32) (x10 : Int32) (h : AH) : Prop := ((32 : Int32) ≤ x10 → hp_k h r0 = 13 ∧ m_M_wrap (fun h1 => fx_ext h h1 → m_M_wrap (fun h2 => fx_ext h1 h2 → m_M_full (fun v1 h3 => fx_ext h2 h3 → zb v1 → (v1 = 0 → m_M_issue_434 Q r0 x1 (0 : Int32) h3) ∧ (¬ v1 = 0 → m_M_fail (fun v2 h4 => fx_ext h3 h4 → Q v2 h4) r0 (4 : Int32) h3)) r0 (hp_I h2 r0 47) h2) r0 (48 : Int32) (0 : Int32) h1) r0 (3 : Int32) x7 h) ∧ (¬ (32 : Int32) ≤ x10 → hp_k h r0 = 13 ∧ ∃ b1, hp_R h r0 56 = some b1 ∧ bk (hp_k h b1) ∧ vp_in x10 (hp_n h b1) ∧ (by8 (hp_I h b1 x10.toNatClampNeg) → m_M_put_I (fun h5 => fx_ext h h5 → ∀ v3 : Int32, v3 = (x10 + (1 : Int32)) → X376 (v3, h5)) r0 (hp_I h b1 x10.toNatClampNeg) h))
def m_M_issue_376 (Q : Int32 → AH → Prop) (r0 : Nat) (x1 : Int32) (x7 : Int32) (x10 : Int32) (h : AH) : Prop := fx_loop (fun (X376 : Int32 × AH → Prop) (st : Int32 × AH) => m_M_issue_376_b Q X376 r0 x1 x7 st.1 st.2) (x10, h)
def m_M_issue_345 (Q : Int32 → AH → Prop) (r0 : Nat) (x1 : Int32) (sr0 : Nat) (sr1 : Nat) (sx2 : Int32) (sx3 : Int32) (h : AH) : Prop := hp_k h r0 = 13 ∧ ∃ b1, hp_R h r0 46 = some b1 ∧ hp_k h sr0 = 13 ∧ m_M_keyed (fun h1 => fx_ext h h1 → m_M_putAlgorithm (fun h2 => fx_ext h1 h2 → ∀ v1 : Int32, v1 = (hp_I h2 r0 47) → m_M_put_I (fun h3 => fx_ext h2 h3 → m_M_issue_376 Q r0 x1 v1 (0 : Int32) h3) r0 (0 : Int32) h2) r0 h1) sr0 sr1 (sx2 * sx3) b1 (0 : Int32) (hp_I h r0 47) h
def m_M_issue_266_b (Q : Int32 → AH → Prop) (X266 : Int32 × AH → Prop) (r0 : Nat) (x1 : Int32) (x2 : Int32) (x3 : Int32) (x6 : Int32) (x7 : Int32) (x9 : Int32) (x10 : Int32) (h : AH) : Prop := ((32 : Int32) ≤ x10 → hp_k h r0 = 13 ∧ m_M_wrap (fun h1 => fx_ext h h1 → m_M_wrap (fun h2 => fx_ext h1 h2 → m_M_putExtensions (fun h3 => fx_ext h2 h3 → m_M_wrap (fun h4 => fx_ext h3 h4 → ∃ b1, hp_R h4 r0 2 = some b1 ∧ (0 ≤ x2 → ∃ b2, hp_R h4 r0 9 = some b2 ∧ ik (hp_k h4 b2) ∧ vp_in x2 (hp_n h4 b2) ∧ m_M_issue_345 Q r0 x1 r0 b1 (32 : Int32) (hp_I h4 b2 x2.toNatClampNeg) h4) ∧ (¬ 0 ≤ x2 → m_M_issue_345 Q r0 x1 r0 b1 (32 : Int32) x1 h4)) r0 (48 : Int32) (0 : Int32) h3) r0 x3 x6 h2) r0 (48 : Int32) x7 h1) r0 (3 : Int32) x9 h) ∧ (¬ (32 : Int32) ≤ x10 → hp_k h r0 = 13 ∧ ∃ b3, hp_R h r0 2 = some b3 ∧ bk (hp_k h b3) ∧ vp_in (((32 : Int32) * x1) + x10) (hp_n h b3) ∧ (by8 (hp_I h b3 ((((32 : Int32) * x1) + x10)).toNatClampNeg) → m_M_put_I (fun h5 => fx_ext h h5 → ∀ v1 : Int32, v1 = (x10 + (1 : Int32)) → X266 (v1, h5)) r0 (hp_I h b3 ((((32 : Int32) * x1) + x10)).toNatClampNeg) h))
def m_M_issue_266 (Q : Int32 → AH → Prop) (r0 : Nat) (x1 : Int32) (x2 : Int32) (x3 : Int32) (x6 : Int32) (x7 : Int32) (x9 : Int32) (x10 : Int32) (h : AH) : Prop := fx_loop (fun (X266 : Int32 × AH → Prop) (st : Int32 × AH) => m_M_issue_266_b Q X266 r0 x1 x2 x3 x6 x7 x9 st.1 st.2) (x10, h)
def m_M_issue_210 (Q : Int32 → AH → Prop) (r0 : Nat) (x1 : Int32) (x2 : Int32) (x3 : Int32) (x4 : Int32) (x5 : Int32) (x6 : Int32) (h : AH) : Prop := hp_k h r0 = 13 ∧ ∀ v1 : Int32, v1 = (hp_I h r0 47) → m_M_putTime (fun h1 => fx_ext h h1 → m_M_putTime (fun h2 => fx_ext h1 h2 → m_M_wrap (fun h3 => fx_ext h2 h3 → m_M_putName (fun h4 => fx_ext h3 h4 → ∀ v2 : Int32, v2 = (hp_I h4 r0 47) → m_M_putAlgorithm (fun h5 => fx_ext h4 h5 → ∀ v3 : Int32, v3 = (hp_I h5 r0 47) → m_M_put_I (fun h6 => fx_ext h5 h6 → m_M_issue_266 Q r0 x1 x2 x3 x6 v2 v3 (0 : Int32) h6) r0 (0 : Int32) h5) r0 h4) r0 x6 h3) r0 (48 : Int32) v1 h2) r0 x5 h1) r0 x4 h
def m_M_issue_185_b (Q : Int32 → AH → Prop) (X185 : Int32 × AH → Prop) (r0 : Nat) (x1 : Int32) (x2 : Int32) (x3 : Int32) (x4 : Int32) (x5 : Int32) (x6 : Int32) (x9 : Int32) (h : AH) : Prop := hp_k h r0 = 13 ∧ ((hp_I h r0 40) ≤ x9 → m_M_issue_210 Q r0 x1 x2 x3 x4 x5 x6 h) ∧ (¬ (hp_I h r0 40) ≤ x9 → m_M_here (fun v1 h1 => fx_ext h h1 → m_M_put_I (fun h2 => fx_ext h1 h2 → ∀ v2 : Int32, v2 = (x9 + (1 : Int32)) → X185 (v2, h2)) r0 v1 h1) r0 x9 h)
def m_M_issue_185 (Q : Int32 → AH → Prop) (r0 : Nat) (x1 : Int32) (x2 : Int32) (x3 : Int32) (x4 : Int32) (x5 : Int32) (x6 : Int32) (x9 : Int32) (h : AH) : Prop := fx_loop (fun (X185 : Int32 × AH → Prop) (st : Int32 × AH) => m_M_issue_185_b Q X185 r0 x1 x2 x3 x4 x5 x6 st.1 st.2) (x9, h)
def m_M_issue_145 (Q : Int32 → AH → Prop) (r0 : Nat) (x1 : Int32) (x2 : Int32) (x3 : Int32) (x4 : Int32) (x5 : Int32) (x6 : Int32) (x7 : Int32) (x8 : Int32) (h : AH) : Prop := hp_k h r0 = 13 ∧ m_M_put_I (fun h1 => fx_ext h h1 → m_M_wrap (fun h2 => fx_ext h1 h2 → m_M_putAlgorithm (fun h3 => fx_ext h2 h3 → (0 ≤ x2 → ∀ v1 : Int32, v1 = (hp_I h3 r0 39) → m_M_issue_185 Q r0 x1 x2 x3 x4 x5 x6 v1 h3) ∧ (¬ 0 ≤ x2 → m_M_putName (fun h4 => fx_ext h3 h4 → m_M_issue_210 Q r0 x1 x2 x3 x4 x5 x6 h4) r0 x6 h3)) r0 h2) r0 (2 : Int32) x7 h1) r0 (x8 &&& (255 : Int32)) h
def m_M_issue_102 (Q : Int32 → AH → Prop) (r0 : Nat) (x1 : Int32) (x2 : Int32) (x3 : Int32) (x4 : Int32) (x5 : Int32) (x6 : Int32) (h : AH) : Prop := hp_k h r0 = 13 ∧ ∀ h1 : AH, h1 = up_I h r0 47 (0 : Int32) → m_M_put_IJ (fun h2 => fx_ext h1 h2 → ∀ v1 : Int32, v1 = (hp_I h2 r0 47) → ∀ v2 : Int32, v2 = ((hp_I h2 r0 10) + (1 : Int32)) → (v2 ≤ (127 : Int32) → m_M_issue_145 Q r0 x1 x2 x3 x4 x5 x6 v1 v2 h2) ∧ (¬ v2 ≤ (127 : Int32) → m_M_put_I (fun h3 => fx_ext h2 h3 → m_M_issue_145 Q r0 x1 x2 x3 x4 x5 x6 v1 v2 h3) r0 (v2 >>> ((8 : Int32) &&& 31)) h2)) r0 (5 : Int32) (687245230338 : Int64) h1
def m_M_issue_84 (Q : Int32 → AH → Prop) (r0 : Nat) (x1 : Int32) (x2 : Int32) (x3 : Int32) (x4 : Int32) (x5 : Int32) (x6 : Int32) (h : AH) : Prop := (x2 < 0 → m_M_issue_102 Q r0 x1 x2 x3 x4 x5 x6 h) ∧ (¬ x2 < 0 → hp_k h r0 = 13 ∧ m_M_parses (fun v1 h1 => fx_ext h h1 → zb v1 → (¬ v1 = 0 → m_M_issue_102 Q r0 x1 x2 x3 x4 x5 x6 h1) ∧ (v1 = 0 → m_M_fail (fun v2 h2 => fx_ext h1 h2 → Q v2 h2) r0 (3 : Int32) h1)) r0 x2 h)
def m_M_issue_32 (Q : Int32 → AH → Prop) (r0 : Nat) (x1 : Int32) (x2 : Int32) (x3 : Int32) (x4 : Int32) (x5 : Int32) (h : AH) : Prop := hp_k h r0 = 13 ∧ m_M_comma (fun v1 h1 => fx_ext h h1 → (v1 < 0 → m_M_issue_78 Q r0 h1) ∧ (¬ v1 < 0 → (x4 < 0 → m_M_issue_78 Q r0 h1) ∧ (¬ x4 < 0 → (x5 < 0 → m_M_issue_78 Q r0 h1) ∧ (¬ x5 < 0 → (x3 < 0 → m_M_issue_78 Q r0 h1) ∧ (¬ x3 < 0 → ((2047 : Int32) < x3 → m_M_issue_78 Q r0 h1) ∧ (¬ (2047 : Int32) < x3 → (¬ (x3 &&& (1 : Int32)) = 0 → m_M_issue_84 Q r0 x1 x2 x3 x4 x5 v1 h1) ∧ ((x3 &&& (1 : Int32)) = 0 → ((x3 &&& (254 : Int32)) = 0 → m_M_issue_84 Q r0 x1 x2 x3 x4 x5 v1 h1) ∧ (¬ (x3 &&& (254 : Int32)) = 0 → m_M_issue_78 Q r0 h1)))))))) r0 h
def m_M_issue (Q : Int32 → AH → Prop) (r0 : Nat) (x1 : Int32) (x2 : Int32) (x3 : Int32) (x4 : Int32) (x5 : Int32) (h : AH) : Prop := hp_k h r0 = 13 ∧ ∀ h1 : AH, h1 = up_I h r0 0 (0 : Int32) → m_M_noKey (fun v1 h2 => fx_ext h1 h2 → zb v1 → (¬ v1 = 0 → m_M_issue_26 Q r0 h2) ∧ (v1 = 0 → (x2 = (-1 : Int32) → m_M_issue_32 Q r0 x1 x2 x3 x4 x5 h2) ∧ (¬ x2 = (-1 : Int32) → m_M_none (fun v2 h3 => fx_ext h2 h3 → zb v2 → (v2 = 0 → m_M_issue_32 Q r0 x1 x2 x3 x4 x5 h3) ∧ (¬ v2 = 0 → m_M_issue_26 Q r0 h3)) r0 x2 h2))) r0 x1 h1
theorem b_M_issue_26 {p : Program} {l : Launch} {e : Env} {R : Room} {s : State} {m : MethodId} {args : Array Value} {below : List Frame} {meth : Method} {c : Code} {D : DD} {h0 : AH} {Q : Int32 → AH → Prop} (C : fx_CX D y_M_issue prog_15_method_54_code 11 7 115 (Option.some FieldType.int) [] h0 p R s m meth c) (hl : l.flags = flags0) (r0 : Nat) (h : AH) (hw : m_M_issue_26 Q r0 h) : ∀ (ls : Array Slot) (H : Heap) (locs : List Loc) (cells slots : Nat), lv_has ls 11 [(0, .ref r0)] → fx_F D h0 h H locs cells slots → W p l e R s m args below meth c H locs cells slots (fx_Z D below s h0 (fx_oI Q fx_no)) (F0 m 26 ls []) := by
  unfold m_M_issue_26 at hw
  intro ls H locs cells slots hv F
  refine lv_aload_n C.ex C.by d_M_issue_26 rfl (lv_at hv 0 rfl) ?_
  refine lv_iconst (v := (1 : Int32)) C.ex C.by d_M_issue_27 (by decide) ?_
  obtain ⟨hk1, hw⟩ := hw
  refine fx_callI C F (c_M_fail hl hw) hm_M_fail hi_M_fail hv.1 (by decide) (Nat.le_of_ble_eq_true rfl) (iv_M_fail C F lm_M_362 hk1 d_M_issue_28) (fx_out0 _) fx_eno (fun v1 h1 H locs cells slots hw hx1 F => ?_)
  replace hw := hw hx1
  have hk1 := (hx1).k hk1
  exact fx_iret C F d_M_issue_31 (Or.inl ⟨_, rfl, hw⟩)
theorem b_M_issue_78 {p : Program} {l : Launch} {e : Env} {R : Room} {s : State} {m : MethodId} {args : Array Value} {below : List Frame} {meth : Method} {c : Code} {D : DD} {h0 : AH} {Q : Int32 → AH → Prop} (C : fx_CX D y_M_issue prog_15_method_54_code 11 7 115 (Option.some FieldType.int) [] h0 p R s m meth c) (hl : l.flags = flags0) (r0 : Nat) (h : AH) (hw : m_M_issue_78 Q r0 h) : ∀ (ls : Array Slot) (H : Heap) (locs : List Loc) (cells slots : Nat), lv_has ls 11 [(0, .ref r0)] → fx_F D h0 h H locs cells slots → W p l e R s m args below meth c H locs cells slots (fx_Z D below s h0 (fx_oI Q fx_no)) (F0 m 78 ls []) := by
  unfold m_M_issue_78 at hw
  intro ls H locs cells slots hv F
  refine lv_aload_n C.ex C.by d_M_issue_78 rfl (lv_at hv 0 rfl) ?_
  refine lv_iconst (v := (2 : Int32)) C.ex C.by d_M_issue_79 (by decide) ?_
  obtain ⟨hk1, hw⟩ := hw
  refine fx_callI C F (c_M_fail hl hw) hm_M_fail hi_M_fail hv.1 (by decide) (Nat.le_of_ble_eq_true rfl) (iv_M_fail C F lm_M_362 hk1 d_M_issue_80) (fx_out0 _) fx_eno (fun v1 h1 H locs cells slots hw hx1 F => ?_)
  replace hw := hw hx1
  have hk1 := (hx1).k hk1
  exact fx_iret C F d_M_issue_83 (Or.inl ⟨_, rfl, hw⟩)
theorem b_M_issue_434 {p : Program} {l : Launch} {e : Env} {R : Room} {s : State} {m : MethodId} {args : Array Value} {below : List Frame} {meth : Method} {c : Code} {D : DD} {h0 : AH} {Q : Int32 → AH → Prop} (C : fx_CX D y_M_issue prog_15_method_54_code 11 7 115 (Option.some FieldType.int) [] h0 p R s m meth c) (hl : l.flags = flags0) (r0 : Nat) (x1 : Int32) (x10 : Int32) (h : AH) (hw : m_M_issue_434 Q r0 x1 x10 h) : ∀ (ls : Array Slot) (H : Heap) (locs : List Loc) (cells slots : Nat), lv_has ls 11 [(0, .ref r0), (1, .int x1), (10, .int x10)] → fx_F D h0 h H locs cells slots → W p l e R s m args below meth c H locs cells slots (fx_Z D below s h0 (fx_oI Q fx_no)) (F0 m 434 ls []) := by
  refine fx_loop.use hw (fun st => ∀ (ls : Array Slot) (H : Heap) (locs : List Loc) (cells slots : Nat), lv_has ls 11 [(0, .ref r0), (1, .int x1), (10, .int st.1)] → fx_F D h0 st.2 H locs cells slots → W p l e R s m args below meth c H locs cells slots (fx_Z D below s h0 (fx_oI Q fx_no)) (F0 m 434 ls [])) (fun X434 st hX434 hw => ?_)
  obtain ⟨x10, h⟩ := st
  replace hw : m_M_issue_434_b Q X434 r0 x1 x10 h := hw
  unfold m_M_issue_434_b at hw
  intro ls H locs cells slots hv F
  refine lv_iload C.ex C.by d_M_issue_434 (lv_at hv 2 rfl) ?_
  refine lv_aload_n C.ex C.by d_M_issue_436 rfl (lv_at hv 0 rfl) ?_
  obtain ⟨hk1, hw⟩ := hw
  refine fx_getI C F lf_M_292 hk1 rfl d_M_issue_437 ?_
  refine lv_icmp_ge C.ex C.by d_M_issue_440 rfl (fun hc => ?_) (fun hc => ?_)
  · replace hw := hw.1 hc
    refine lv_aload_n C.ex C.by d_M_issue_473 rfl (lv_at hv 0 rfl) ?_
    refine lv_iconst (v := (0 : Int32)) C.ex C.by d_M_issue_474 (by decide) ?_
    let h1 : AH := up_I h r0 4 (0 : Int32)
    replace hw := hw h1 rfl
    refine fx_putI C F lf_M_328 hk1 rfl rfl (fx_mayF.no rfl rfl) d_M_issue_475 (fun H locs (F : fx_F D h0 h1 H locs _ _) => ?_)
    refine lv_aload_n C.ex C.by d_M_issue_478 rfl (lv_at hv 0 rfl) ?_
    refine lv_aload_n C.ex C.by d_M_issue_479 rfl (lv_at hv 0 rfl) ?_
    refine fx_getI C F lf_M_292 hk1 rfl d_M_issue_480 ?_
    refine lv_iload_n C.ex C.by d_M_issue_483 rfl (lv_at hv 1 rfl) ?_
    refine fx_callI C F (c_M_added hl hw) hm_M_added hi_M_added hv.1 (by decide) (Nat.le_of_ble_eq_true rfl) (iv_M_added C F lm_M_392 hk1 d_M_issue_484) (fx_out0 _) fx_eno (fun v1 h2 H locs cells slots hw hx1 F => ?_)
    replace hw := hw hx1
    have hk1 := (hx1).k hk1
    exact fx_iret C F d_M_issue_487 (Or.inl ⟨_, rfl, hw⟩)
  · replace hw := hw.2 hc
    refine lv_aload_n C.ex C.by d_M_issue_443 rfl (lv_at hv 0 rfl) ?_
    obtain ⟨b1, hb1, hw⟩ := hw
    refine fx_getR C F lf_M_21 hk1 rfl hb1 d_M_issue_444 ?_
    refine lv_aload_n C.ex C.by d_M_issue_447 rfl (lv_at hv 0 rfl) ?_
    obtain ⟨b2, hb2, hw⟩ := hw
    refine fx_getR C F lf_M_24 hk1 rfl hb2 d_M_issue_448 ?_
    refine lv_aload_n C.ex C.by d_M_issue_451 rfl (lv_at hv 0 rfl) ?_
    refine fx_getI C F lf_M_350 hk1 rfl d_M_issue_452 ?_
    obtain ⟨hk2, hw⟩ := hw
    obtain ⟨hi1, hw⟩ := hw
    refine fx_iald C F hk2 hi1 d_M_issue_455 ?_
    refine lv_iload C.ex C.by d_M_issue_456 (lv_at hv 2 rfl) ?_
    refine lv_iadd C.ex C.by d_M_issue_458 ?_
    refine lv_aload_n C.ex C.by d_M_issue_459 rfl (lv_at hv 0 rfl) ?_
    obtain ⟨b3, hb3, hw⟩ := hw
    refine fx_getR C F lf_M_48 hk1 rfl hb3 d_M_issue_460 ?_
    refine lv_iload C.ex C.by d_M_issue_463 (lv_at hv 2 rfl) ?_
    obtain ⟨hk3, hw⟩ := hw
    obtain ⟨hi2, hw⟩ := hw
    refine fx_bald C F hk3 hi2 d_M_issue_465 (fun h8 => ?_)
    replace hw := hw h8
    obtain ⟨hk4, hw⟩ := hw
    obtain ⟨hi3, hw⟩ := hw
    let h3 : AH := up_I h b1 (((hp_I h b2 ((hp_I h r0 10)).toNatClampNeg) + x10)).toNatClampNeg ((hp_I h b3 x10.toNatClampNeg)).toInt8.toInt32
    replace hw := hw h3 rfl
    refine fx_bast C F hk4 hi3 d_M_issue_466 (fun H locs (F : fx_F D h0 h3 H locs _ _) => ?_)
    let v2 : Int32 := (x10 + (1 : Int32))
    replace hw := hw v2 rfl
    refine lv_iinc (v := v2) (k := 2) (lv' := [(10, .int v2), (0, .ref r0), (1, .int x1)]) C.ex C.by d_M_issue_467 hv rfl (congrArg (fun z => x10 + z) (by decide)) (by decide) rfl (fun ls hv => ?_)
    refine lv_goto C.ex C.by d_M_issue_470 rfl ?_
    exact hX434 _ hw _ _ _ _ _ (lv_sub hv [1, 2, 0] rfl) F
theorem b_M_issue_376 {p : Program} {l : Launch} {e : Env} {R : Room} {s : State} {m : MethodId} {args : Array Value} {below : List Frame} {meth : Method} {c : Code} {D : DD} {h0 : AH} {Q : Int32 → AH → Prop} (C : fx_CX D y_M_issue prog_15_method_54_code 11 7 115 (Option.some FieldType.int) [] h0 p R s m meth c) (hl : l.flags = flags0) (r0 : Nat) (x1 : Int32) (x7 : Int32) (x10 : Int32) (h : AH) (hw : m_M_issue_376 Q r0 x1 x7 x10 h) : ∀ (ls : Array Slot) (H : Heap) (locs : List Loc) (cells slots : Nat), lv_has ls 11 [(0, .ref r0), (1, .int x1), (7, .int x7), (10, .int x10)] → fx_F D h0 h H locs cells slots → W p l e R s m args below meth c H locs cells slots (fx_Z D below s h0 (fx_oI Q fx_no)) (F0 m 376 ls []) := by
  refine fx_loop.use hw (fun st => ∀ (ls : Array Slot) (H : Heap) (locs : List Loc) (cells slots : Nat), lv_has ls 11 [(0, .ref r0), (1, .int x1), (7, .int x7), (10, .int st.1)] → fx_F D h0 st.2 H locs cells slots → W p l e R s m args below meth c H locs cells slots (fx_Z D below s h0 (fx_oI Q fx_no)) (F0 m 376 ls [])) (fun X376 st hX376 hw => ?_)
  obtain ⟨x10, h⟩ := st
  replace hw : m_M_issue_376_b Q X376 r0 x1 x7 x10 h := hw
  unfold m_M_issue_376_b at hw
  intro ls H locs cells slots hv F
  refine lv_iload C.ex C.by d_M_issue_376 (lv_at hv 3 rfl) ?_
  refine lv_bipush (v := (32 : Int32)) C.ex C.by d_M_issue_378 (by decide) ?_
  refine lv_icmp_ge C.ex C.by d_M_issue_380 rfl (fun hc => ?_) (fun hc => ?_)
  · replace hw := hw.1 hc
    refine lv_aload_n C.ex C.by d_M_issue_400 rfl (lv_at hv 0 rfl) ?_
    refine lv_iconst (v := (3 : Int32)) C.ex C.by d_M_issue_401 (by decide) ?_
    refine lv_iload C.ex C.by d_M_issue_402 (lv_at hv 2 rfl) ?_
    obtain ⟨hk1, hw⟩ := hw
    refine fx_callV C F (c_M_wrap hl hw) hm_M_wrap hi_M_wrap hv.1 (by decide) (Nat.le_of_ble_eq_true rfl) (iv_M_wrap C F lm_M_305 hk1 d_M_issue_404) (fx_out0 _) fx_eno (fun h1 H locs cells slots hw hx1 F => ?_)
    replace hw := hw hx1
    have hk1 := (hx1).k hk1
    refine lv_aload_n C.ex C.by d_M_issue_407 rfl (lv_at hv 0 rfl) ?_
    refine lv_bipush (v := (48 : Int32)) C.ex C.by d_M_issue_408 (by decide) ?_
    refine lv_iconst (v := (0 : Int32)) C.ex C.by d_M_issue_410 (by decide) ?_
    refine fx_callV C F (c_M_wrap hl hw) hm_M_wrap hi_M_wrap hv.1 (by decide) (Nat.le_of_ble_eq_true rfl) (iv_M_wrap C F lm_M_305 hk1 d_M_issue_411) (fx_out0 _) fx_eno (fun h2 H locs cells slots hw hx2 F => ?_)
    replace hw := hw hx2
    have hk1 := (hx2).k hk1
    refine lv_aload_n C.ex C.by d_M_issue_414 rfl (lv_at hv 0 rfl) ?_
    refine lv_aload_n C.ex C.by d_M_issue_415 rfl (lv_at hv 0 rfl) ?_
    refine fx_getI C F lf_M_292 hk1 rfl d_M_issue_416 ?_
    refine fx_callZ C F (c_M_full hl hw) hm_M_full hi_M_full hv.1 (by decide) (Nat.le_of_ble_eq_true rfl) (iv_M_full C F lm_M_389 hk1 d_M_issue_419) (fx_out0 _) fx_eno (fun v1 h3 H locs cells slots hw hx3 hzb F => ?_)
    replace hw := hw hx3 hzb
    have hk1 := (hx3).k hk1
    refine lv_if_eq C.ex C.by d_M_issue_422 rfl (fun hc => ?_) (fun hc => ?_)
    · replace hw := hw.1 hc
      refine lv_iconst (v := (0 : Int32)) C.ex C.by d_M_issue_431 (by decide) ?_
      refine lv_istore (lv' := [(10, .int (0 : Int32)), (0, .ref r0), (1, .int x1), (7, .int x7)]) C.ex C.by d_M_issue_432 hv (by decide) rfl (fun ls hv => ?_)
      exact b_M_issue_434 C hl _ _ _ _ hw _ _ _ _ _ (lv_sub hv [1, 2, 0] rfl) F
    · replace hw := hw.2 hc
      refine lv_aload_n C.ex C.by d_M_issue_425 rfl (lv_at hv 0 rfl) ?_
      refine lv_iconst (v := (4 : Int32)) C.ex C.by d_M_issue_426 (by decide) ?_
      refine fx_callI C F (c_M_fail hl hw) hm_M_fail hi_M_fail hv.1 (by decide) (Nat.le_of_ble_eq_true rfl) (iv_M_fail C F lm_M_362 hk1 d_M_issue_427) (fx_out0 _) fx_eno (fun v2 h4 H locs cells slots hw hx4 F => ?_)
      replace hw := hw hx4
      have hk1 := (hx4).k hk1
      exact fx_iret C F d_M_issue_430 (Or.inl ⟨_, rfl, hw⟩)
  · replace hw := hw.2 hc
    refine lv_aload_n C.ex C.by d_M_issue_383 rfl (lv_at hv 0 rfl) ?_
    refine lv_aload_n C.ex C.by d_M_issue_384 rfl (lv_at hv 0 rfl) ?_
    obtain ⟨hk2, hw⟩ := hw
    obtain ⟨b1, hb1, hw⟩ := hw
    refine fx_getR C F lf_M_77 hk2 rfl hb1 d_M_issue_385 ?_
    refine lv_iload C.ex C.by d_M_issue_388 (lv_at hv 3 rfl) ?_
    obtain ⟨hk3, hw⟩ := hw
    obtain ⟨hi1, hw⟩ := hw
    refine fx_bald C F hk3 hi1 d_M_issue_390 (fun h8 => ?_)
    replace hw := hw h8
    refine fx_callV C F (c_M_put_I hl hw) hm_M_put_I hi_M_put_I hv.1 (by decide) (Nat.le_of_ble_eq_true rfl) (iv_M_put_I C F lm_M_295 hk2 d_M_issue_391) (fx_out0 _) fx_eno (fun h5 H locs cells slots hw hx5 F => ?_)
    replace hw := hw hx5
    have hk3 := (hx5).gb hk3
    have hk2 := (hx5).k hk2
    let v3 : Int32 := (x10 + (1 : Int32))
    replace hw := hw v3 rfl
    refine lv_iinc (v := v3) (k := 3) (lv' := [(10, .int v3), (0, .ref r0), (1, .int x1), (7, .int x7)]) C.ex C.by d_M_issue_394 hv rfl (congrArg (fun z => x10 + z) (by decide)) (by decide) rfl (fun ls hv => ?_)
    refine lv_goto C.ex C.by d_M_issue_397 rfl ?_
    exact hX376 _ hw _ _ _ _ _ (lv_sub hv [1, 2, 3, 0] rfl) F
theorem b_M_issue_345 {p : Program} {l : Launch} {e : Env} {R : Room} {s : State} {m : MethodId} {args : Array Value} {below : List Frame} {meth : Method} {c : Code} {D : DD} {h0 : AH} {Q : Int32 → AH → Prop} (C : fx_CX D y_M_issue prog_15_method_54_code 11 7 115 (Option.some FieldType.int) [] h0 p R s m meth c) (hl : l.flags = flags0) (r0 : Nat) (x1 : Int32) (sr0 : Nat) (sr1 : Nat) (sx2 : Int32) (sx3 : Int32) (h : AH) (hw : m_M_issue_345 Q r0 x1 sr0 sr1 sx2 sx3 h) : ∀ (ls : Array Slot) (H : Heap) (locs : List Loc) (cells slots : Nat), lv_has ls 11 [(0, .ref r0), (1, .int x1)] → fx_F D h0 h H locs cells slots → W p l e R s m args below meth c H locs cells slots (fx_Z D below s h0 (fx_oI Q fx_no)) (F0 m 345 ls [.int sx3, .int sx2, .ref sr1, .ref sr0]) := by
  unfold m_M_issue_345 at hw
  intro ls H locs cells slots hv F
  refine lv_imul C.ex C.by d_M_issue_345 ?_
  refine lv_aload_n C.ex C.by d_M_issue_346 rfl (lv_at hv 0 rfl) ?_
  obtain ⟨hk1, hw⟩ := hw
  obtain ⟨b1, hb1, hw⟩ := hw
  refine fx_getR C F lf_M_48 hk1 rfl hb1 d_M_issue_347 ?_
  refine lv_iconst (v := (0 : Int32)) C.ex C.by d_M_issue_350 (by decide) ?_
  refine lv_aload_n C.ex C.by d_M_issue_351 rfl (lv_at hv 0 rfl) ?_
  refine fx_getI C F lf_M_292 hk1 rfl d_M_issue_352 ?_
  obtain ⟨hk2, hw⟩ := hw
  refine fx_callV C F (c_M_keyed hl hw) hm_M_keyed hi_M_keyed hv.1 (by decide) (Nat.le_of_ble_eq_true rfl) (iv_M_keyed C F lm_M_385 hk2 d_M_issue_355) (fx_out0 _) fx_eno (fun h1 H locs cells slots hw hx1 F => ?_)
  replace hw := hw hx1
  have hk1 := (hx1).k hk1
  have hk2 := (hx1).k hk2
  refine lv_aload_n C.ex C.by d_M_issue_358 rfl (lv_at hv 0 rfl) ?_
  refine fx_callV C F (c_M_putAlgorithm hl hw) hm_M_putAlgorithm hi_M_putAlgorithm hv.1 (by decide) (Nat.le_of_ble_eq_true rfl) (iv_M_putAlgorithm C F lm_M_373 hk1 d_M_issue_359) (fx_out0 _) fx_eno (fun h2 H locs cells slots hw hx2 F => ?_)
  replace hw := hw hx2
  have hk1 := (hx2).k hk1
  have hk2 := (hx2).k hk2
  refine lv_aload_n C.ex C.by d_M_issue_362 rfl (lv_at hv 0 rfl) ?_
  refine fx_getI C F lf_M_292 hk1 rfl d_M_issue_363 ?_
  let v1 : Int32 := (hp_I h2 r0 47)
  replace hw := hw v1 rfl
  refine lv_istore (lv' := [(7, .int v1), (0, .ref r0), (1, .int x1)]) C.ex C.by d_M_issue_366 hv (by decide) rfl (fun ls hv => ?_)
  refine lv_aload_n C.ex C.by d_M_issue_368 rfl (lv_at hv 1 rfl) ?_
  refine lv_iconst (v := (0 : Int32)) C.ex C.by d_M_issue_369 (by decide) ?_
  refine fx_callV C F (c_M_put_I hl hw) hm_M_put_I hi_M_put_I hv.1 (by decide) (Nat.le_of_ble_eq_true rfl) (iv_M_put_I C F lm_M_295 hk1 d_M_issue_370) (fx_out0 _) fx_eno (fun h3 H locs cells slots hw hx3 F => ?_)
  replace hw := hw hx3
  have hk1 := (hx3).k hk1
  have hk2 := (hx3).k hk2
  refine lv_iconst (v := (0 : Int32)) C.ex C.by d_M_issue_373 (by decide) ?_
  refine lv_istore (lv' := [(10, .int (0 : Int32)), (7, .int v1), (0, .ref r0), (1, .int x1)]) C.ex C.by d_M_issue_374 hv (by decide) rfl (fun ls hv => ?_)
  exact b_M_issue_376 C hl _ _ _ _ _ hw _ _ _ _ _ (lv_sub hv [2, 3, 1, 0] rfl) F
theorem b_M_issue_266 {p : Program} {l : Launch} {e : Env} {R : Room} {s : State} {m : MethodId} {args : Array Value} {below : List Frame} {meth : Method} {c : Code} {D : DD} {h0 : AH} {Q : Int32 → AH → Prop} (C : fx_CX D y_M_issue prog_15_method_54_code 11 7 115 (Option.some FieldType.int) [] h0 p R s m meth c) (hl : l.flags = flags0) (r0 : Nat) (x1 : Int32) (x2 : Int32) (x3 : Int32) (x6 : Int32) (x7 : Int32) (x9 : Int32) (x10 : Int32) (h : AH) (hw : m_M_issue_266 Q r0 x1 x2 x3 x6 x7 x9 x10 h) : ∀ (ls : Array Slot) (H : Heap) (locs : List Loc) (cells slots : Nat), lv_has ls 11 [(0, .ref r0), (1, .int x1), (2, .int x2), (3, .int x3), (6, .int x6), (7, .int x7), (9, .int x9), (10, .int x10)] → fx_F D h0 h H locs cells slots → W p l e R s m args below meth c H locs cells slots (fx_Z D below s h0 (fx_oI Q fx_no)) (F0 m 266 ls []) := by
  refine fx_loop.use hw (fun st => ∀ (ls : Array Slot) (H : Heap) (locs : List Loc) (cells slots : Nat), lv_has ls 11 [(0, .ref r0), (1, .int x1), (2, .int x2), (3, .int x3), (6, .int x6), (7, .int x7), (9, .int x9), (10, .int st.1)] → fx_F D h0 st.2 H locs cells slots → W p l e R s m args below meth c H locs cells slots (fx_Z D below s h0 (fx_oI Q fx_no)) (F0 m 266 ls [])) (fun X266 st hX266 hw => ?_)
  obtain ⟨x10, h⟩ := st
  replace hw : m_M_issue_266_b Q X266 r0 x1 x2 x3 x6 x7 x9 x10 h := hw
  unfold m_M_issue_266_b at hw
  intro ls H locs cells slots hv F
  refine lv_iload C.ex C.by d_M_issue_266 (lv_at hv 7 rfl) ?_
  refine lv_bipush (v := (32 : Int32)) C.ex C.by d_M_issue_268 (by decide) ?_
  refine lv_icmp_ge C.ex C.by d_M_issue_270 rfl (fun hc => ?_) (fun hc => ?_)
  · replace hw := hw.1 hc
    refine lv_aload_n C.ex C.by d_M_issue_295 rfl (lv_at hv 0 rfl) ?_
    refine lv_iconst (v := (3 : Int32)) C.ex C.by d_M_issue_296 (by decide) ?_
    refine lv_iload C.ex C.by d_M_issue_297 (lv_at hv 6 rfl) ?_
    obtain ⟨hk1, hw⟩ := hw
    refine fx_callV C F (c_M_wrap hl hw) hm_M_wrap hi_M_wrap hv.1 (by decide) (Nat.le_of_ble_eq_true rfl) (iv_M_wrap C F lm_M_305 hk1 d_M_issue_299) (fx_out0 _) fx_eno (fun h1 H locs cells slots hw hx1 F => ?_)
    replace hw := hw hx1
    have hk1 := (hx1).k hk1
    refine lv_aload_n C.ex C.by d_M_issue_302 rfl (lv_at hv 0 rfl) ?_
    refine lv_bipush (v := (48 : Int32)) C.ex C.by d_M_issue_303 (by decide) ?_
    refine lv_iload C.ex C.by d_M_issue_305 (lv_at hv 5 rfl) ?_
    refine fx_callV C F (c_M_wrap hl hw) hm_M_wrap hi_M_wrap hv.1 (by decide) (Nat.le_of_ble_eq_true rfl) (iv_M_wrap C F lm_M_305 hk1 d_M_issue_307) (fx_out0 _) fx_eno (fun h2 H locs cells slots hw hx2 F => ?_)
    replace hw := hw hx2
    have hk1 := (hx2).k hk1
    refine lv_aload_n C.ex C.by d_M_issue_310 rfl (lv_at hv 0 rfl) ?_
    refine lv_iload_n C.ex C.by d_M_issue_311 rfl (lv_at hv 3 rfl) ?_
    refine lv_iload C.ex C.by d_M_issue_312 (lv_at hv 4 rfl) ?_
    refine fx_callV C F (c_M_putExtensions hl hw) hm_M_putExtensions hi_M_putExtensions hv.1 (by decide) (Nat.le_of_ble_eq_true rfl) (iv_M_putExtensions C F lm_M_382 hk1 d_M_issue_314) (fx_out0 _) fx_eno (fun h3 H locs cells slots hw hx3 F => ?_)
    replace hw := hw hx3
    have hk1 := (hx3).k hk1
    refine lv_aload_n C.ex C.by d_M_issue_317 rfl (lv_at hv 0 rfl) ?_
    refine lv_bipush (v := (48 : Int32)) C.ex C.by d_M_issue_318 (by decide) ?_
    refine lv_iconst (v := (0 : Int32)) C.ex C.by d_M_issue_320 (by decide) ?_
    refine fx_callV C F (c_M_wrap hl hw) hm_M_wrap hi_M_wrap hv.1 (by decide) (Nat.le_of_ble_eq_true rfl) (iv_M_wrap C F lm_M_305 hk1 d_M_issue_321) (fx_out0 _) fx_eno (fun h4 H locs cells slots hw hx4 F => ?_)
    replace hw := hw hx4
    have hk1 := (hx4).k hk1
    refine lv_aload_n C.ex C.by d_M_issue_324 rfl (lv_at hv 0 rfl) ?_
    refine lv_aload_n C.ex C.by d_M_issue_325 rfl (lv_at hv 0 rfl) ?_
    obtain ⟨b1, hb1, hw⟩ := hw
    refine fx_getR C F lf_M_14 hk1 rfl hb1 d_M_issue_326 ?_
    refine lv_bipush (v := (32 : Int32)) C.ex C.by d_M_issue_329 (by decide) ?_
    refine lv_iload_n C.ex C.by d_M_issue_331 rfl (lv_at hv 2 rfl) ?_
    refine lv_if_ge C.ex C.by d_M_issue_332 rfl (fun hc => ?_) (fun hc => ?_)
    · replace hw := hw.1 hc
      refine lv_aload_n C.ex C.by d_M_issue_339 rfl (lv_at hv 0 rfl) ?_
      obtain ⟨b2, hb2, hw⟩ := hw
      refine fx_getR C F lf_M_28 hk1 rfl hb2 d_M_issue_340 ?_
      refine lv_iload_n C.ex C.by d_M_issue_343 rfl (lv_at hv 2 rfl) ?_
      obtain ⟨hk2, hw⟩ := hw
      obtain ⟨hi1, hw⟩ := hw
      refine fx_iald C F hk2 hi1 d_M_issue_344 ?_
      exact b_M_issue_345 C hl _ _ _ _ _ _ _ hw _ _ _ _ _ (lv_sub hv [0, 1] rfl) F
    · replace hw := hw.2 hc
      refine lv_iload_n C.ex C.by d_M_issue_335 rfl (lv_at hv 1 rfl) ?_
      refine lv_goto C.ex C.by d_M_issue_336 rfl ?_
      exact b_M_issue_345 C hl _ _ _ _ _ _ _ hw _ _ _ _ _ (lv_sub hv [0, 1] rfl) F
  · replace hw := hw.2 hc
    refine lv_aload_n C.ex C.by d_M_issue_273 rfl (lv_at hv 0 rfl) ?_
    refine lv_aload_n C.ex C.by d_M_issue_274 rfl (lv_at hv 0 rfl) ?_
    obtain ⟨hk3, hw⟩ := hw
    obtain ⟨b3, hb3, hw⟩ := hw
    refine fx_getR C F lf_M_14 hk3 rfl hb3 d_M_issue_275 ?_
    refine lv_bipush (v := (32 : Int32)) C.ex C.by d_M_issue_278 (by decide) ?_
    refine lv_iload_n C.ex C.by d_M_issue_280 rfl (lv_at hv 1 rfl) ?_
    refine lv_imul C.ex C.by d_M_issue_281 ?_
    refine lv_iload C.ex C.by d_M_issue_282 (lv_at hv 7 rfl) ?_
    refine lv_iadd C.ex C.by d_M_issue_284 ?_
    obtain ⟨hk4, hw⟩ := hw
    obtain ⟨hi2, hw⟩ := hw
    refine fx_bald C F hk4 hi2 d_M_issue_285 (fun h8 => ?_)
    replace hw := hw h8
    refine fx_callV C F (c_M_put_I hl hw) hm_M_put_I hi_M_put_I hv.1 (by decide) (Nat.le_of_ble_eq_true rfl) (iv_M_put_I C F lm_M_295 hk3 d_M_issue_286) (fx_out0 _) fx_eno (fun h5 H locs cells slots hw hx5 F => ?_)
    replace hw := hw hx5
    have hk4 := (hx5).gb hk4
    have hk3 := (hx5).k hk3
    let v1 : Int32 := (x10 + (1 : Int32))
    replace hw := hw v1 rfl
    refine lv_iinc (v := v1) (k := 7) (lv' := [(10, .int v1), (0, .ref r0), (1, .int x1), (2, .int x2), (3, .int x3), (6, .int x6), (7, .int x7), (9, .int x9)]) C.ex C.by d_M_issue_289 hv rfl (congrArg (fun z => x10 + z) (by decide)) (by decide) rfl (fun ls hv => ?_)
    refine lv_goto C.ex C.by d_M_issue_292 rfl ?_
    exact hX266 _ hw _ _ _ _ _ (lv_sub hv [1, 2, 3, 4, 5, 6, 7, 0] rfl) F
theorem b_M_issue_210 {p : Program} {l : Launch} {e : Env} {R : Room} {s : State} {m : MethodId} {args : Array Value} {below : List Frame} {meth : Method} {c : Code} {D : DD} {h0 : AH} {Q : Int32 → AH → Prop} (C : fx_CX D y_M_issue prog_15_method_54_code 11 7 115 (Option.some FieldType.int) [] h0 p R s m meth c) (hl : l.flags = flags0) (r0 : Nat) (x1 : Int32) (x2 : Int32) (x3 : Int32) (x4 : Int32) (x5 : Int32) (x6 : Int32) (h : AH) (hw : m_M_issue_210 Q r0 x1 x2 x3 x4 x5 x6 h) : ∀ (ls : Array Slot) (H : Heap) (locs : List Loc) (cells slots : Nat), lv_has ls 11 [(0, .ref r0), (1, .int x1), (2, .int x2), (3, .int x3), (4, .int x4), (5, .int x5), (6, .int x6)] → fx_F D h0 h H locs cells slots → W p l e R s m args below meth c H locs cells slots (fx_Z D below s h0 (fx_oI Q fx_no)) (F0 m 210 ls []) := by
  unfold m_M_issue_210 at hw
  intro ls H locs cells slots hv F
  refine lv_aload_n C.ex C.by d_M_issue_210 rfl (lv_at hv 0 rfl) ?_
  obtain ⟨hk1, hw⟩ := hw
  refine fx_getI C F lf_M_292 hk1 rfl d_M_issue_211 ?_
  let v1 : Int32 := (hp_I h r0 47)
  replace hw := hw v1 rfl
  refine lv_istore (lv' := [(7, .int v1), (0, .ref r0), (1, .int x1), (2, .int x2), (3, .int x3), (4, .int x4), (5, .int x5), (6, .int x6)]) C.ex C.by d_M_issue_214 hv (by decide) rfl (fun ls hv => ?_)
  refine lv_aload_n C.ex C.by d_M_issue_216 rfl (lv_at hv 1 rfl) ?_
  refine lv_iload C.ex C.by d_M_issue_217 (lv_at hv 5 rfl) ?_
  refine fx_callV C F (c_M_putTime hl hw) hm_M_putTime hi_M_putTime hv.1 (by decide) (Nat.le_of_ble_eq_true rfl) (iv_M_putTime C F lm_M_379 hk1 d_M_issue_219) (fx_out0 _) fx_eno (fun h1 H locs cells slots hw hx1 F => ?_)
  replace hw := hw hx1
  have hk1 := (hx1).k hk1
  refine lv_aload_n C.ex C.by d_M_issue_222 rfl (lv_at hv 1 rfl) ?_
  refine lv_iload C.ex C.by d_M_issue_223 (lv_at hv 6 rfl) ?_
  refine fx_callV C F (c_M_putTime hl hw) hm_M_putTime hi_M_putTime hv.1 (by decide) (Nat.le_of_ble_eq_true rfl) (iv_M_putTime C F lm_M_379 hk1 d_M_issue_225) (fx_out0 _) fx_eno (fun h2 H locs cells slots hw hx2 F => ?_)
  replace hw := hw hx2
  have hk1 := (hx2).k hk1
  refine lv_aload_n C.ex C.by d_M_issue_228 rfl (lv_at hv 1 rfl) ?_
  refine lv_bipush (v := (48 : Int32)) C.ex C.by d_M_issue_229 (by decide) ?_
  refine lv_iload C.ex C.by d_M_issue_231 (lv_at hv 0 rfl) ?_
  refine fx_callV C F (c_M_wrap hl hw) hm_M_wrap hi_M_wrap hv.1 (by decide) (Nat.le_of_ble_eq_true rfl) (iv_M_wrap C F lm_M_305 hk1 d_M_issue_233) (fx_out0 _) fx_eno (fun h3 H locs cells slots hw hx3 F => ?_)
  replace hw := hw hx3
  have hk1 := (hx3).k hk1
  refine lv_aload_n C.ex C.by d_M_issue_236 rfl (lv_at hv 1 rfl) ?_
  refine lv_iload C.ex C.by d_M_issue_237 (lv_at hv 7 rfl) ?_
  refine fx_callV C F (c_M_putName hl hw) hm_M_putName hi_M_putName hv.1 (by decide) (Nat.le_of_ble_eq_true rfl) (iv_M_putName C F lm_M_376 hk1 d_M_issue_239) (fx_out0 _) fx_eno (fun h4 H locs cells slots hw hx4 F => ?_)
  replace hw := hw hx4
  have hk1 := (hx4).k hk1
  refine lv_aload_n C.ex C.by d_M_issue_242 rfl (lv_at hv 1 rfl) ?_
  refine fx_getI C F lf_M_292 hk1 rfl d_M_issue_243 ?_
  let v2 : Int32 := (hp_I h4 r0 47)
  replace hw := hw v2 rfl
  refine lv_istore (lv' := [(7, .int v2), (0, .ref r0), (1, .int x1), (2, .int x2), (3, .int x3), (4, .int x4), (5, .int x5), (6, .int x6)]) C.ex C.by d_M_issue_246 hv (by decide) rfl (fun ls hv => ?_)
  refine lv_aload_n C.ex C.by d_M_issue_248 rfl (lv_at hv 1 rfl) ?_
  refine fx_callV C F (c_M_putAlgorithm hl hw) hm_M_putAlgorithm hi_M_putAlgorithm hv.1 (by decide) (Nat.le_of_ble_eq_true rfl) (iv_M_putAlgorithm C F lm_M_373 hk1 d_M_issue_249) (fx_out0 _) fx_eno (fun h5 H locs cells slots hw hx5 F => ?_)
  replace hw := hw hx5
  have hk1 := (hx5).k hk1
  refine lv_aload_n C.ex C.by d_M_issue_252 rfl (lv_at hv 1 rfl) ?_
  refine fx_getI C F lf_M_292 hk1 rfl d_M_issue_253 ?_
  let v3 : Int32 := (hp_I h5 r0 47)
  replace hw := hw v3 rfl
  refine lv_istore (lv' := [(9, .int v3), (7, .int v2), (0, .ref r0), (1, .int x1), (2, .int x2), (3, .int x3), (4, .int x4), (5, .int x5), (6, .int x6)]) C.ex C.by d_M_issue_256 hv (by decide) rfl (fun ls hv => ?_)
  refine lv_aload_n C.ex C.by d_M_issue_258 rfl (lv_at hv 2 rfl) ?_
  refine lv_iconst (v := (0 : Int32)) C.ex C.by d_M_issue_259 (by decide) ?_
  refine fx_callV C F (c_M_put_I hl hw) hm_M_put_I hi_M_put_I hv.1 (by decide) (Nat.le_of_ble_eq_true rfl) (iv_M_put_I C F lm_M_295 hk1 d_M_issue_260) (fx_out0 _) fx_eno (fun h6 H locs cells slots hw hx6 F => ?_)
  replace hw := hw hx6
  have hk1 := (hx6).k hk1
  refine lv_iconst (v := (0 : Int32)) C.ex C.by d_M_issue_263 (by decide) ?_
  refine lv_istore (lv' := [(10, .int (0 : Int32)), (9, .int v3), (7, .int v2), (0, .ref r0), (1, .int x1), (2, .int x2), (3, .int x3), (4, .int x4), (5, .int x5), (6, .int x6)]) C.ex C.by d_M_issue_264 hv (by decide) rfl (fun ls hv => ?_)
  exact b_M_issue_266 C hl _ _ _ _ _ _ _ _ _ hw _ _ _ _ _ (lv_sub hv [3, 4, 5, 6, 9, 2, 1, 0] rfl) F
theorem b_M_issue_185 {p : Program} {l : Launch} {e : Env} {R : Room} {s : State} {m : MethodId} {args : Array Value} {below : List Frame} {meth : Method} {c : Code} {D : DD} {h0 : AH} {Q : Int32 → AH → Prop} (C : fx_CX D y_M_issue prog_15_method_54_code 11 7 115 (Option.some FieldType.int) [] h0 p R s m meth c) (hl : l.flags = flags0) (r0 : Nat) (x1 : Int32) (x2 : Int32) (x3 : Int32) (x4 : Int32) (x5 : Int32) (x6 : Int32) (x9 : Int32) (h : AH) (hw : m_M_issue_185 Q r0 x1 x2 x3 x4 x5 x6 x9 h) : ∀ (ls : Array Slot) (H : Heap) (locs : List Loc) (cells slots : Nat), lv_has ls 11 [(0, .ref r0), (1, .int x1), (2, .int x2), (3, .int x3), (4, .int x4), (5, .int x5), (6, .int x6), (9, .int x9)] → fx_F D h0 h H locs cells slots → W p l e R s m args below meth c H locs cells slots (fx_Z D below s h0 (fx_oI Q fx_no)) (F0 m 185 ls []) := by
  refine fx_loop.use hw (fun st => ∀ (ls : Array Slot) (H : Heap) (locs : List Loc) (cells slots : Nat), lv_has ls 11 [(0, .ref r0), (1, .int x1), (2, .int x2), (3, .int x3), (4, .int x4), (5, .int x5), (6, .int x6), (9, .int st.1)] → fx_F D h0 st.2 H locs cells slots → W p l e R s m args below meth c H locs cells slots (fx_Z D below s h0 (fx_oI Q fx_no)) (F0 m 185 ls [])) (fun X185 st hX185 hw => ?_)
  obtain ⟨x9, h⟩ := st
  replace hw : m_M_issue_185_b Q X185 r0 x1 x2 x3 x4 x5 x6 x9 h := hw
  unfold m_M_issue_185_b at hw
  intro ls H locs cells slots hv F
  refine lv_iload C.ex C.by d_M_issue_185 (lv_at hv 7 rfl) ?_
  refine lv_aload_n C.ex C.by d_M_issue_187 rfl (lv_at hv 0 rfl) ?_
  obtain ⟨hk1, hw⟩ := hw
  refine fx_getI C F lf_M_268 hk1 rfl d_M_issue_188 ?_
  refine lv_icmp_ge C.ex C.by d_M_issue_191 rfl (fun hc => ?_) (fun hc => ?_)
  · replace hw := hw.1 hc
    exact b_M_issue_210 C hl _ _ _ _ _ _ _ _ hw _ _ _ _ _ (lv_sub hv [0, 1, 2, 3, 4, 5, 6] rfl) F
  · replace hw := hw.2 hc
    refine lv_aload_n C.ex C.by d_M_issue_194 rfl (lv_at hv 0 rfl) ?_
    refine lv_aload_n C.ex C.by d_M_issue_195 rfl (lv_at hv 0 rfl) ?_
    refine lv_iload C.ex C.by d_M_issue_196 (lv_at hv 7 rfl) ?_
    refine fx_callI C F (c_M_here hl hw) hm_M_here hi_M_here hv.1 (by decide) (Nat.le_of_ble_eq_true rfl) (iv_M_here C F lm_M_131 hk1 d_M_issue_198) (fx_out0 _) fx_eno (fun v1 h1 H locs cells slots hw hx1 F => ?_)
    replace hw := hw hx1
    have hk1 := (hx1).k hk1
    refine fx_callV C F (c_M_put_I hl hw) hm_M_put_I hi_M_put_I hv.1 (by decide) (Nat.le_of_ble_eq_true rfl) (iv_M_put_I C F lm_M_295 hk1 d_M_issue_201) (fx_out0 _) fx_eno (fun h2 H locs cells slots hw hx2 F => ?_)
    replace hw := hw hx2
    have hk1 := (hx2).k hk1
    let v2 : Int32 := (x9 + (1 : Int32))
    replace hw := hw v2 rfl
    refine lv_iinc (v := v2) (k := 7) (lv' := [(9, .int v2), (0, .ref r0), (1, .int x1), (2, .int x2), (3, .int x3), (4, .int x4), (5, .int x5), (6, .int x6)]) C.ex C.by d_M_issue_204 hv rfl (congrArg (fun z => x9 + z) (by decide)) (by decide) rfl (fun ls hv => ?_)
    refine lv_goto C.ex C.by d_M_issue_207 rfl ?_
    exact hX185 _ hw _ _ _ _ _ (lv_sub hv [1, 2, 3, 4, 5, 6, 7, 0] rfl) F
theorem b_M_issue_145 {p : Program} {l : Launch} {e : Env} {R : Room} {s : State} {m : MethodId} {args : Array Value} {below : List Frame} {meth : Method} {c : Code} {D : DD} {h0 : AH} {Q : Int32 → AH → Prop} (C : fx_CX D y_M_issue prog_15_method_54_code 11 7 115 (Option.some FieldType.int) [] h0 p R s m meth c) (hl : l.flags = flags0) (r0 : Nat) (x1 : Int32) (x2 : Int32) (x3 : Int32) (x4 : Int32) (x5 : Int32) (x6 : Int32) (x7 : Int32) (x8 : Int32) (h : AH) (hw : m_M_issue_145 Q r0 x1 x2 x3 x4 x5 x6 x7 x8 h) : ∀ (ls : Array Slot) (H : Heap) (locs : List Loc) (cells slots : Nat), lv_has ls 11 [(0, .ref r0), (1, .int x1), (2, .int x2), (3, .int x3), (4, .int x4), (5, .int x5), (6, .int x6), (7, .int x7), (8, .int x8)] → fx_F D h0 h H locs cells slots → W p l e R s m args below meth c H locs cells slots (fx_Z D below s h0 (fx_oI Q fx_no)) (F0 m 145 ls []) := by
  unfold m_M_issue_145 at hw
  intro ls H locs cells slots hv F
  refine lv_aload_n C.ex C.by d_M_issue_145 rfl (lv_at hv 0 rfl) ?_
  refine lv_iload C.ex C.by d_M_issue_146 (lv_at hv 8 rfl) ?_
  refine lv_sipush (v := (255 : Int32)) C.ex C.by d_M_issue_148 (by decide) ?_
  refine lv_iand C.ex C.by d_M_issue_151 ?_
  obtain ⟨hk1, hw⟩ := hw
  refine fx_callV C F (c_M_put_I hl hw) hm_M_put_I hi_M_put_I hv.1 (by decide) (Nat.le_of_ble_eq_true rfl) (iv_M_put_I C F lm_M_295 hk1 d_M_issue_152) (fx_out0 _) fx_eno (fun h1 H locs cells slots hw hx1 F => ?_)
  replace hw := hw hx1
  have hk1 := (hx1).k hk1
  refine lv_aload_n C.ex C.by d_M_issue_155 rfl (lv_at hv 0 rfl) ?_
  refine lv_iconst (v := (2 : Int32)) C.ex C.by d_M_issue_156 (by decide) ?_
  refine lv_iload C.ex C.by d_M_issue_157 (lv_at hv 7 rfl) ?_
  refine fx_callV C F (c_M_wrap hl hw) hm_M_wrap hi_M_wrap hv.1 (by decide) (Nat.le_of_ble_eq_true rfl) (iv_M_wrap C F lm_M_305 hk1 d_M_issue_159) (fx_out0 _) fx_eno (fun h2 H locs cells slots hw hx2 F => ?_)
  replace hw := hw hx2
  have hk1 := (hx2).k hk1
  refine lv_aload_n C.ex C.by d_M_issue_162 rfl (lv_at hv 0 rfl) ?_
  refine fx_callV C F (c_M_putAlgorithm hl hw) hm_M_putAlgorithm hi_M_putAlgorithm hv.1 (by decide) (Nat.le_of_ble_eq_true rfl) (iv_M_putAlgorithm C F lm_M_373 hk1 d_M_issue_163) (fx_out0 _) fx_eno (fun h3 H locs cells slots hw hx3 F => ?_)
  replace hw := hw hx3
  have hk1 := (hx3).k hk1
  refine lv_iload_n C.ex C.by d_M_issue_166 rfl (lv_at hv 2 rfl) ?_
  refine lv_if_ge C.ex C.by d_M_issue_167 rfl (fun hc => ?_) (fun hc => ?_)
  · replace hw := hw.1 hc
    refine lv_aload_n C.ex C.by d_M_issue_179 rfl (lv_at hv 0 rfl) ?_
    refine fx_getI C F lf_M_262 hk1 rfl d_M_issue_180 ?_
    let v1 : Int32 := (hp_I h3 r0 39)
    replace hw := hw v1 rfl
    refine lv_istore (lv' := [(9, .int v1), (0, .ref r0), (1, .int x1), (2, .int x2), (3, .int x3), (4, .int x4), (5, .int x5), (6, .int x6), (7, .int x7), (8, .int x8)]) C.ex C.by d_M_issue_183 hv (by decide) rfl (fun ls hv => ?_)
    exact b_M_issue_185 C hl _ _ _ _ _ _ _ _ _ hw _ _ _ _ _ (lv_sub hv [1, 2, 3, 4, 5, 6, 7, 0] rfl) F
  · replace hw := hw.2 hc
    refine lv_aload_n C.ex C.by d_M_issue_170 rfl (lv_at hv 0 rfl) ?_
    refine lv_iload C.ex C.by d_M_issue_171 (lv_at hv 6 rfl) ?_
    refine fx_callV C F (c_M_putName hl hw) hm_M_putName hi_M_putName hv.1 (by decide) (Nat.le_of_ble_eq_true rfl) (iv_M_putName C F lm_M_376 hk1 d_M_issue_173) (fx_out0 _) fx_eno (fun h4 H locs cells slots hw hx4 F => ?_)
    replace hw := hw hx4
    have hk1 := (hx4).k hk1
    refine lv_goto C.ex C.by d_M_issue_176 rfl ?_
    exact b_M_issue_210 C hl _ _ _ _ _ _ _ _ hw _ _ _ _ _ (lv_sub hv [0, 1, 2, 3, 4, 5, 6] rfl) F
theorem b_M_issue_102 {p : Program} {l : Launch} {e : Env} {R : Room} {s : State} {m : MethodId} {args : Array Value} {below : List Frame} {meth : Method} {c : Code} {D : DD} {h0 : AH} {Q : Int32 → AH → Prop} (C : fx_CX D y_M_issue prog_15_method_54_code 11 7 115 (Option.some FieldType.int) [] h0 p R s m meth c) (hl : l.flags = flags0) (r0 : Nat) (x1 : Int32) (x2 : Int32) (x3 : Int32) (x4 : Int32) (x5 : Int32) (x6 : Int32) (h : AH) (hw : m_M_issue_102 Q r0 x1 x2 x3 x4 x5 x6 h) : ∀ (ls : Array Slot) (H : Heap) (locs : List Loc) (cells slots : Nat), lv_has ls 11 [(0, .ref r0), (1, .int x1), (2, .int x2), (3, .int x3), (4, .int x4), (5, .int x5), (6, .int x6)] → fx_F D h0 h H locs cells slots → W p l e R s m args below meth c H locs cells slots (fx_Z D below s h0 (fx_oI Q fx_no)) (F0 m 102 ls []) := by
  unfold m_M_issue_102 at hw
  intro ls H locs cells slots hv F
  refine lv_aload_n C.ex C.by d_M_issue_102 rfl (lv_at hv 0 rfl) ?_
  refine lv_iconst (v := (0 : Int32)) C.ex C.by d_M_issue_103 (by decide) ?_
  obtain ⟨hk1, hw⟩ := hw
  let h1 : AH := up_I h r0 47 (0 : Int32)
  replace hw := hw h1 rfl
  refine fx_putI C F lf_M_292 hk1 rfl rfl (fx_mayF.no rfl rfl) d_M_issue_104 (fun H locs (F : fx_F D h0 h1 H locs _ _) => ?_)
  refine lv_aload_n C.ex C.by d_M_issue_107 rfl (lv_at hv 0 rfl) ?_
  refine lv_iconst (v := (5 : Int32)) C.ex C.by d_M_issue_108 (by decide) ?_
  refine lv_ldc2 (v := (687245230338 : Int64)) C.ex C.by C.ow (C.tw.at (fx_m7 (List.mem_of_getElem? (i := 69) rfl)) rfl rfl) d_M_issue_109 ?_
  refine fx_callV C F (c_M_put_IJ hl hw) hm_M_put_IJ hi_M_put_IJ hv.1 (by decide) (Nat.le_of_ble_eq_true rfl) (iv_M_put_IJ C F lm_M_300 hk1 d_M_issue_112) (fx_out0 _) fx_eno (fun h2 H locs cells slots hw hx1 F => ?_)
  replace hw := hw hx1
  have hk1 := (hx1).k hk1
  refine lv_aload_n C.ex C.by d_M_issue_115 rfl (lv_at hv 0 rfl) ?_
  refine fx_getI C F lf_M_292 hk1 rfl d_M_issue_116 ?_
  let v1 : Int32 := (hp_I h2 r0 47)
  replace hw := hw v1 rfl
  refine lv_istore (lv' := [(7, .int v1), (0, .ref r0), (1, .int x1), (2, .int x2), (3, .int x3), (4, .int x4), (5, .int x5), (6, .int x6)]) C.ex C.by d_M_issue_119 hv (by decide) rfl (fun ls hv => ?_)
  refine lv_aload_n C.ex C.by d_M_issue_121 rfl (lv_at hv 1 rfl) ?_
  refine fx_getI C F lf_M_350 hk1 rfl d_M_issue_122 ?_
  refine lv_iconst (v := (1 : Int32)) C.ex C.by d_M_issue_125 (by decide) ?_
  refine lv_iadd C.ex C.by d_M_issue_126 ?_
  let v2 : Int32 := ((hp_I h2 r0 10) + (1 : Int32))
  replace hw := hw v2 rfl
  refine lv_istore (lv' := [(8, .int v2), (7, .int v1), (0, .ref r0), (1, .int x1), (2, .int x2), (3, .int x3), (4, .int x4), (5, .int x5), (6, .int x6)]) C.ex C.by d_M_issue_127 hv (by decide) rfl (fun ls hv => ?_)
  refine lv_iload C.ex C.by d_M_issue_129 (lv_at hv 0 rfl) ?_
  refine lv_bipush (v := (127 : Int32)) C.ex C.by d_M_issue_131 (by decide) ?_
  refine lv_icmp_le C.ex C.by d_M_issue_133 rfl (fun hc => ?_) (fun hc => ?_)
  · replace hw := hw.1 hc
    exact b_M_issue_145 C hl _ _ _ _ _ _ _ _ _ _ hw _ _ _ _ _ (lv_sub hv [2, 3, 4, 5, 6, 7, 8, 1, 0] rfl) F
  · replace hw := hw.2 hc
    refine lv_aload_n C.ex C.by d_M_issue_136 rfl (lv_at hv 2 rfl) ?_
    refine lv_iload C.ex C.by d_M_issue_137 (lv_at hv 0 rfl) ?_
    refine lv_bipush (v := (8 : Int32)) C.ex C.by d_M_issue_139 (by decide) ?_
    refine lv_ishr C.ex C.by d_M_issue_141 ?_
    refine fx_callV C F (c_M_put_I hl hw) hm_M_put_I hi_M_put_I hv.1 (by decide) (Nat.le_of_ble_eq_true rfl) (iv_M_put_I C F lm_M_295 hk1 d_M_issue_142) (fx_out0 _) fx_eno (fun h3 H locs cells slots hw hx2 F => ?_)
    replace hw := hw hx2
    have hk1 := (hx2).k hk1
    exact b_M_issue_145 C hl _ _ _ _ _ _ _ _ _ _ hw _ _ _ _ _ (lv_sub hv [2, 3, 4, 5, 6, 7, 8, 1, 0] rfl) F
theorem b_M_issue_84 {p : Program} {l : Launch} {e : Env} {R : Room} {s : State} {m : MethodId} {args : Array Value} {below : List Frame} {meth : Method} {c : Code} {D : DD} {h0 : AH} {Q : Int32 → AH → Prop} (C : fx_CX D y_M_issue prog_15_method_54_code 11 7 115 (Option.some FieldType.int) [] h0 p R s m meth c) (hl : l.flags = flags0) (r0 : Nat) (x1 : Int32) (x2 : Int32) (x3 : Int32) (x4 : Int32) (x5 : Int32) (x6 : Int32) (h : AH) (hw : m_M_issue_84 Q r0 x1 x2 x3 x4 x5 x6 h) : ∀ (ls : Array Slot) (H : Heap) (locs : List Loc) (cells slots : Nat), lv_has ls 11 [(0, .ref r0), (1, .int x1), (2, .int x2), (3, .int x3), (4, .int x4), (5, .int x5), (6, .int x6)] → fx_F D h0 h H locs cells slots → W p l e R s m args below meth c H locs cells slots (fx_Z D below s h0 (fx_oI Q fx_no)) (F0 m 84 ls []) := by
  unfold m_M_issue_84 at hw
  intro ls H locs cells slots hv F
  refine lv_iload_n C.ex C.by d_M_issue_84 rfl (lv_at hv 2 rfl) ?_
  refine lv_if_lt C.ex C.by d_M_issue_85 rfl (fun hc => ?_) (fun hc => ?_)
  · replace hw := hw.1 hc
    exact b_M_issue_102 C hl _ _ _ _ _ _ _ _ hw _ _ _ _ _ hv F
  · replace hw := hw.2 hc
    refine lv_aload_n C.ex C.by d_M_issue_88 rfl (lv_at hv 0 rfl) ?_
    refine lv_iload_n C.ex C.by d_M_issue_89 rfl (lv_at hv 2 rfl) ?_
    obtain ⟨hk1, hw⟩ := hw
    refine fx_callZ C F (c_M_parses hl hw) hm_M_parses hi_M_parses hv.1 (by decide) (Nat.le_of_ble_eq_true rfl) (iv_M_parses C F lm_M_368 hk1 d_M_issue_90) (fx_out0 _) fx_eno (fun v1 h1 H locs cells slots hw hx1 hzb F => ?_)
    replace hw := hw hx1 hzb
    have hk1 := (hx1).k hk1
    refine lv_if_ne C.ex C.by d_M_issue_93 rfl (fun hc => ?_) (fun hc => ?_)
    · replace hw := hw.1 hc
      exact b_M_issue_102 C hl _ _ _ _ _ _ _ _ hw _ _ _ _ _ hv F
    · replace hw := hw.2 hc
      refine lv_aload_n C.ex C.by d_M_issue_96 rfl (lv_at hv 0 rfl) ?_
      refine lv_iconst (v := (3 : Int32)) C.ex C.by d_M_issue_97 (by decide) ?_
      refine fx_callI C F (c_M_fail hl hw) hm_M_fail hi_M_fail hv.1 (by decide) (Nat.le_of_ble_eq_true rfl) (iv_M_fail C F lm_M_362 hk1 d_M_issue_98) (fx_out0 _) fx_eno (fun v2 h2 H locs cells slots hw hx2 F => ?_)
      replace hw := hw hx2
      have hk1 := (hx2).k hk1
      exact fx_iret C F d_M_issue_101 (Or.inl ⟨_, rfl, hw⟩)
theorem b_M_issue_32 {p : Program} {l : Launch} {e : Env} {R : Room} {s : State} {m : MethodId} {args : Array Value} {below : List Frame} {meth : Method} {c : Code} {D : DD} {h0 : AH} {Q : Int32 → AH → Prop} (C : fx_CX D y_M_issue prog_15_method_54_code 11 7 115 (Option.some FieldType.int) [] h0 p R s m meth c) (hl : l.flags = flags0) (r0 : Nat) (x1 : Int32) (x2 : Int32) (x3 : Int32) (x4 : Int32) (x5 : Int32) (h : AH) (hw : m_M_issue_32 Q r0 x1 x2 x3 x4 x5 h) : ∀ (ls : Array Slot) (H : Heap) (locs : List Loc) (cells slots : Nat), lv_has ls 11 [(0, .ref r0), (1, .int x1), (2, .int x2), (3, .int x3), (4, .int x4), (5, .int x5)] → fx_F D h0 h H locs cells slots → W p l e R s m args below meth c H locs cells slots (fx_Z D below s h0 (fx_oI Q fx_no)) (F0 m 32 ls []) := by
  unfold m_M_issue_32 at hw
  intro ls H locs cells slots hv F
  refine lv_aload_n C.ex C.by d_M_issue_32 rfl (lv_at hv 0 rfl) ?_
  obtain ⟨hk1, hw⟩ := hw
  refine fx_callI C F (c_M_comma hl hw) hm_M_comma hi_M_comma hv.1 (by decide) (Nat.le_of_ble_eq_true rfl) (iv_M_comma C F lm_M_365 hk1 d_M_issue_33) (fx_out0 _) fx_eno (fun v1 h1 H locs cells slots hw hx1 F => ?_)
  replace hw := hw hx1
  have hk1 := (hx1).k hk1
  refine lv_istore (lv' := [(6, .int v1), (0, .ref r0), (1, .int x1), (2, .int x2), (3, .int x3), (4, .int x4), (5, .int x5)]) C.ex C.by d_M_issue_36 hv (by decide) rfl (fun ls hv => ?_)
  refine lv_iload C.ex C.by d_M_issue_38 (lv_at hv 0 rfl) ?_
  refine lv_if_lt C.ex C.by d_M_issue_40 rfl (fun hc => ?_) (fun hc => ?_)
  · replace hw := hw.1 hc
    exact b_M_issue_78 C hl _ _ hw _ _ _ _ _ (lv_sub hv [1] rfl) F
  · replace hw := hw.2 hc
    refine lv_iload C.ex C.by d_M_issue_43 (lv_at hv 5 rfl) ?_
    refine lv_if_lt C.ex C.by d_M_issue_45 rfl (fun hc => ?_) (fun hc => ?_)
    · replace hw := hw.1 hc
      exact b_M_issue_78 C hl _ _ hw _ _ _ _ _ (lv_sub hv [1] rfl) F
    · replace hw := hw.2 hc
      refine lv_iload C.ex C.by d_M_issue_48 (lv_at hv 6 rfl) ?_
      refine lv_if_lt C.ex C.by d_M_issue_50 rfl (fun hc => ?_) (fun hc => ?_)
      · replace hw := hw.1 hc
        exact b_M_issue_78 C hl _ _ hw _ _ _ _ _ (lv_sub hv [1] rfl) F
      · replace hw := hw.2 hc
        refine lv_iload_n C.ex C.by d_M_issue_53 rfl (lv_at hv 4 rfl) ?_
        refine lv_if_lt C.ex C.by d_M_issue_54 rfl (fun hc => ?_) (fun hc => ?_)
        · replace hw := hw.1 hc
          exact b_M_issue_78 C hl _ _ hw _ _ _ _ _ (lv_sub hv [1] rfl) F
        · replace hw := hw.2 hc
          refine lv_iload_n C.ex C.by d_M_issue_57 rfl (lv_at hv 4 rfl) ?_
          refine lv_sipush (v := (2047 : Int32)) C.ex C.by d_M_issue_58 (by decide) ?_
          refine lv_icmp_gt C.ex C.by d_M_issue_61 rfl (fun hc => ?_) (fun hc => ?_)
          · replace hw := hw.1 hc
            exact b_M_issue_78 C hl _ _ hw _ _ _ _ _ (lv_sub hv [1] rfl) F
          · replace hw := hw.2 hc
            refine lv_iload_n C.ex C.by d_M_issue_64 rfl (lv_at hv 4 rfl) ?_
            refine lv_iconst (v := (1 : Int32)) C.ex C.by d_M_issue_65 (by decide) ?_
            refine lv_iand C.ex C.by d_M_issue_66 ?_
            refine lv_if_ne C.ex C.by d_M_issue_67 rfl (fun hc => ?_) (fun hc => ?_)
            · replace hw := hw.1 hc
              exact b_M_issue_84 C hl _ _ _ _ _ _ _ _ hw _ _ _ _ _ (lv_sub hv [1, 2, 3, 4, 5, 6, 0] rfl) F
            · replace hw := hw.2 hc
              refine lv_iload_n C.ex C.by d_M_issue_70 rfl (lv_at hv 4 rfl) ?_
              refine lv_sipush (v := (254 : Int32)) C.ex C.by d_M_issue_71 (by decide) ?_
              refine lv_iand C.ex C.by d_M_issue_74 ?_
              refine lv_if_eq C.ex C.by d_M_issue_75 rfl (fun hc => ?_) (fun hc => ?_)
              · replace hw := hw.1 hc
                exact b_M_issue_84 C hl _ _ _ _ _ _ _ _ hw _ _ _ _ _ (lv_sub hv [1, 2, 3, 4, 5, 6, 0] rfl) F
              · replace hw := hw.2 hc
                exact b_M_issue_78 C hl _ _ hw _ _ _ _ _ (lv_sub hv [1] rfl) F
theorem b_M_issue_0 {p : Program} {l : Launch} {e : Env} {R : Room} {s : State} {m : MethodId} {args : Array Value} {below : List Frame} {meth : Method} {c : Code} {D : DD} {h0 : AH} {Q : Int32 → AH → Prop} (C : fx_CX D y_M_issue prog_15_method_54_code 11 7 115 (Option.some FieldType.int) [] h0 p R s m meth c) (hl : l.flags = flags0) (r0 : Nat) (x1 : Int32) (x2 : Int32) (x3 : Int32) (x4 : Int32) (x5 : Int32) (h : AH) (hw : m_M_issue Q r0 x1 x2 x3 x4 x5 h) : ∀ (ls : Array Slot) (H : Heap) (locs : List Loc) (cells slots : Nat), lv_has ls 11 [(0, .ref r0), (1, .int x1), (2, .int x2), (3, .int x3), (4, .int x4), (5, .int x5)] → fx_F D h0 h H locs cells slots → W p l e R s m args below meth c H locs cells slots (fx_Z D below s h0 (fx_oI Q fx_no)) (F0 m 0 ls []) := by
  unfold m_M_issue at hw
  intro ls H locs cells slots hv F
  refine lv_aload_n C.ex C.by d_M_issue_0 rfl (lv_at hv 0 rfl) ?_
  refine lv_iconst (v := (0 : Int32)) C.ex C.by d_M_issue_1 (by decide) ?_
  obtain ⟨hk1, hw⟩ := hw
  let h1 : AH := up_I h r0 0 (0 : Int32)
  replace hw := hw h1 rfl
  refine fx_putI C F lf_M_83 hk1 rfl rfl (fx_mayF.no rfl rfl) d_M_issue_2 (fun H locs (F : fx_F D h0 h1 H locs _ _) => ?_)
  refine lv_aload_n C.ex C.by d_M_issue_5 rfl (lv_at hv 0 rfl) ?_
  refine lv_iload_n C.ex C.by d_M_issue_6 rfl (lv_at hv 1 rfl) ?_
  refine fx_callZ C F (c_M_noKey hl hw) hm_M_noKey hi_M_noKey hv.1 (by decide) (Nat.le_of_ble_eq_true rfl) (iv_M_noKey C F lm_M_356 hk1 d_M_issue_7) (fx_out0 _) fx_eno (fun v1 h2 H locs cells slots hw hx1 hzb F => ?_)
  replace hw := hw hx1 hzb
  have hk1 := (hx1).k hk1
  refine lv_if_ne C.ex C.by d_M_issue_10 rfl (fun hc => ?_) (fun hc => ?_)
  · replace hw := hw.1 hc
    exact b_M_issue_26 C hl _ _ hw _ _ _ _ _ (lv_sub hv [0] rfl) F
  · replace hw := hw.2 hc
    refine lv_iload_n C.ex C.by d_M_issue_13 rfl (lv_at hv 2 rfl) ?_
    refine lv_iconst (v := (-1 : Int32)) C.ex C.by d_M_issue_14 (by decide) ?_
    refine lv_icmp_eq C.ex C.by d_M_issue_15 rfl (fun hc => ?_) (fun hc => ?_)
    · replace hw := hw.1 hc
      exact b_M_issue_32 C hl _ _ _ _ _ _ _ hw _ _ _ _ _ hv F
    · replace hw := hw.2 hc
      refine lv_aload_n C.ex C.by d_M_issue_18 rfl (lv_at hv 0 rfl) ?_
      refine lv_iload_n C.ex C.by d_M_issue_19 rfl (lv_at hv 2 rfl) ?_
      refine fx_callZ C F (c_M_none hl hw) hm_M_none hi_M_none hv.1 (by decide) (Nat.le_of_ble_eq_true rfl) (iv_M_none C F lm_M_359 hk1 d_M_issue_20) (fx_out0 _) fx_eno (fun v2 h3 H locs cells slots hw hx2 hzb F => ?_)
      replace hw := hw hx2 hzb
      have hk1 := (hx2).k hk1
      refine lv_if_eq C.ex C.by d_M_issue_23 rfl (fun hc => ?_) (fun hc => ?_)
      · replace hw := hw.1 hc
        exact b_M_issue_32 C hl _ _ _ _ _ _ _ hw _ _ _ _ _ hv F
      · replace hw := hw.2 hc
        exact b_M_issue_26 C hl _ _ hw _ _ _ _ _ (lv_sub hv [0] rfl) F
theorem hm_M_issue : fx_hd y_M_issue prog_15_method_54_code 11 (Option.some FieldType.int) [] ∈ tables_1 := (fx_m6 (List.mem_of_getElem? (i := 186) rfl))
theorem hi_M_issue : Cond.initialized y_M_issue.cls ∈ tables_1 := (fx_m1 (List.mem_of_getElem? (i := 15) rfl))
theorem c_M_issue {l : Launch} (hl : l.flags = flags0) {D : DD} {Q : Int32 → AH → Prop} {r0 : Nat} {x1 : Int32} {x2 : Int32} {x3 : Int32} {x4 : Int32} {x5 : Int32} {h : AH} (hw : m_M_issue Q r0 x1 x2 x3 x4 x5 h) : fx_Mt l D y_M_issue (fx_hd y_M_issue prog_15_method_54_code 11 (Option.some FieldType.int) []) 7 115 [.ref r0, .int x1, .int x2, .int x3, .int x4, .int x5] h (fx_oI Q fx_no) := by
  refine fx_ofW (plainFor_of_name (by decide)) (fun p e s m below meth c C F => ?_)
  have hv := lv_entry ([.ref r0, .int x1, .int x2, .int x3, .int x4, .int x5]) (n := 11) (Nat.le_of_ble_eq_true rfl)
  rw [lg_entry_eq]
  generalize (lg_sl ([.ref r0, .int x1, .int x2, .int x3, .int x4, .int x5]) ++ List.replicate (11 - (lg_sl ([.ref r0, .int x1, .int x2, .int x3, .int x4, .int x5])).length) Slot.unset).toArray = ls at hv ⊢
  have hv : lv_has ls 11 [(0, .ref r0), (1, .int x1), (2, .int x2), (3, .int x3), (4, .int x4), (5, .int x5)] := hv
  exact b_M_issue_0 C hl _ _ _ _ _ _ _ hw _ _ _ _ _ hv F
