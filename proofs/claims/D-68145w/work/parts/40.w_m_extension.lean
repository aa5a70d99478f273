set_option maxRecDepth 10000
/-! ChainJudgeModel.extension(I)V: frames 4, words 62 -/
abbrev y_M_extension : MethodName := ⟨"ChainJudgeModel", "extension", "(I)V"⟩
theorem lf_M_207 : fx_Lk "ChainJudgeModel" 207 12 45 := fx_Lk.mk (C := "ChainJudgeModel") (T := fx_T12) (N := 57) rfl (by decide) (by decide) (fx_m6 (List.mem_of_getElem? (i := 51) rfl))
theorem lf_M_226 : fx_Lk "ChainJudgeModel" 226 12 26 := fx_Lk.mk (C := "ChainJudgeModel") (T := fx_T12) (N := 57) rfl (by decide) (by decide) (fx_m6 (List.mem_of_getElem? (i := 32) rfl))
theorem lm_M_210 : Cond.methodLink "ChainJudgeModel" 210 y_M_alike ∈ tables_1 ∨ ∃ host, Cond.methodLinkNest "ChainJudgeModel" 210 y_M_alike host ∈ tables_1 := Or.inl (fx_m7 (List.mem_of_getElem? (i := 43) rfl))
theorem lm_M_216 : Cond.methodLink "ChainJudgeModel" 216 y_M_constraints ∈ tables_1 ∨ ∃ host, Cond.methodLinkNest "ChainJudgeModel" 216 y_M_constraints host ∈ tables_1 := Or.inl (fx_m7 (List.mem_of_getElem? (i := 52) rfl))
theorem lm_M_219 : Cond.methodLink "ChainJudgeModel" 219 y_M_usage ∈ tables_1 ∨ ∃ host, Cond.methodLinkNest "ChainJudgeModel" 219 y_M_usage host ∈ tables_1 := Or.inl (fx_m7 (List.mem_of_getElem? (i := 56) rfl))
theorem lm_M_221 : Cond.methodLink "ChainJudgeModel" 221 y_M_alternatives ∈ tables_1 ∨ ∃ host, Cond.methodLinkNest "ChainJudgeModel" 221 y_M_alternatives host ∈ tables_1 := Or.inl (fx_m7 (List.mem_of_getElem? (i := 60) rfl))
theorem lm_M_224 : Cond.methodLink "ChainJudgeModel" 224 y_M_purposes ∈ tables_1 ∨ ∃ host, Cond.methodLinkNest "ChainJudgeModel" 224 y_M_purposes host ∈ tables_1 := Or.inl (fx_m7 (List.mem_of_getElem? (i := 64) rfl))
section
variable {p : Program} {l : Launch} {e : Env} {R : Room} {s : State} {m : MethodId} {args : Array Value} {below : List Frame} {meth : Method} {c : Code} {H : Heap} {locs : List Loc} {cells slots : Nat}
variable {D : DD} {y : MethodName} {cc : ByteArray} {nL kf kw : Nat} {ret : Option FieldType} {hh : List (Nat × Nat × Nat × Nat)} {h0 h : AH} {pc : Nat} {ls : Array Slot} {rest : List Value} {b idx : Nat}
theorem iv_M_alike {x1 : Int32} {x2 : Int32} {x3 : Int32} (C : fx_CX D y cc nL kf kw ret hh h0 p R s m meth c) (F : fx_F D h0 h H locs cells slots) (hw1 : Cond.methodLink y.cls idx y_M_alike ∈ tables_1 ∨ ∃ host, Cond.methodLinkNest y.cls idx y_M_alike host ∈ tables_1) (hk : hp_k h b = 13) (hd : decode cc pc = .ok (.invokevirtual idx, 3)) : fx_IV p l e R s m args below meth c H locs cells slots (F0 m pc ls (.int x3 :: .int x2 :: .int x1 :: .ref b :: rest)) rest y_M_alike [.ref b, .int x1, .int x2, .int x3] 3 := fun T hT X => fx_invV (As := [.int x1, .int x2, .int x3]) (Cn := "ChainJudgeModel") C X hw1 (fx_m7 (List.mem_of_getElem? (i := 45) rfl)) (fx_selP C ⟨by decide, by decide⟩ (fx_m5 (List.mem_of_getElem? (i := 217) rfl)) (fx_m7 (List.mem_of_getElem? (i := 44) rfl)) (fx_m7 (List.mem_of_getElem? (i := 45) rfl))) hm_M_alike ⟨by decide, by decide⟩ (by rw [hT]; exact fx_clsO (ci := 12) (r := ("ChainJudgeModel", fx_T12, 57)) C F rfl (by decide) hk) rfl (n := 3) (by decide +kernel) rfl rfl hd
theorem iv_M_alternatives {x1 : Int32} (C : fx_CX D y cc nL kf kw ret hh h0 p R s m meth c) (F : fx_F D h0 h H locs cells slots) (hw1 : Cond.methodLink y.cls idx y_M_alternatives ∈ tables_1 ∨ ∃ host, Cond.methodLinkNest y.cls idx y_M_alternatives host ∈ tables_1) (hk : hp_k h b = 13) (hd : decode cc pc = .ok (.invokevirtual idx, 3)) : fx_IV p l e R s m args below meth c H locs cells slots (F0 m pc ls (.int x1 :: .ref b :: rest)) rest y_M_alternatives [.ref b, .int x1] 3 := fun T hT X => fx_invV (As := [.int x1]) (Cn := "ChainJudgeModel") C X hw1 (fx_m7 (List.mem_of_getElem? (i := 62) rfl)) (fx_selP C ⟨by decide, by decide⟩ (fx_m5 (List.mem_of_getElem? (i := 217) rfl)) (fx_m7 (List.mem_of_getElem? (i := 61) rfl)) (fx_m7 (List.mem_of_getElem? (i := 62) rfl))) hm_M_alternatives ⟨by decide, by decide⟩ (by rw [hT]; exact fx_clsO (ci := 12) (r := ("ChainJudgeModel", fx_T12, 57)) C F rfl (by decide) hk) rfl (n := 1) (by decide +kernel) rfl rfl hd
theorem iv_M_constraints {x1 : Int32} (C : fx_CX D y cc nL kf kw ret hh h0 p R s m meth c) (F : fx_F D h0 h H locs cells slots) (hw1 : Cond.methodLink y.cls idx y_M_constraints ∈ tables_1 ∨ ∃ host, Cond.methodLinkNest y.cls idx y_M_constraints host ∈ tables_1) (hk : hp_k h b = 13) (hd : decode cc pc = .ok (.invokevirtual idx, 3)) : fx_IV p l e R s m args below meth c H locs cells slots (F0 m pc ls (.int x1 :: .ref b :: rest)) rest y_M_constraints [.ref b, .int x1] 3 := fun T hT X => fx_invV (As := [.int x1]) (Cn := "ChainJudgeModel") C X hw1 (fx_m7 (List.mem_of_getElem? (i := 54) rfl)) (fx_selP C ⟨by decide, by decide⟩ (fx_m5 (List.mem_of_getElem? (i := 217) rfl)) (fx_m7 (List.mem_of_getElem? (i := 53) rfl)) (fx_m7 (List.mem_of_getElem? (i := 54) rfl))) hm_M_constraints ⟨by decide, by decide⟩ (by rw [hT]; exact fx_clsO (ci := 12) (r := ("ChainJudgeModel", fx_T12, 57)) C F rfl (by decide) hk) rfl (n := 1) (by decide +kernel) rfl rfl hd
theorem iv_M_purposes {x1 : Int32} (C : fx_CX D y cc nL kf kw ret hh h0 p R s m meth c) (F : fx_F D h0 h H locs cells slots) (hw1 : Cond.methodLink y.cls idx y_M_purposes ∈ tables_1 ∨ ∃ host, Cond.methodLinkNest y.cls idx y_M_purposes host ∈ tables_1) (hk : hp_k h b = 13) (hd : decode cc pc = .ok (.invokevirtual idx, 3)) : fx_IV p l e R s m args below meth c H locs cells slots (F0 m pc ls (.int x1 :: .ref b :: rest)) rest y_M_purposes [.ref b, .int x1] 3 := fun T hT X => fx_invV (As := [.int x1]) (Cn := "ChainJudgeModel") C X hw1 (fx_m7 (List.mem_of_getElem? (i := 66) rfl)) (fx_selP C ⟨by decide, by decide⟩ (fx_m5 (List.mem_of_getElem? (i := 217) rfl)) (fx_m7 (List.mem_of_getElem? (i := 65) rfl)) (fx_m7 (List.mem_of_getElem? (i := 66) rfl))) hm_M_purposes ⟨by decide, by decide⟩ (by rw [hT]; exact fx_clsO (ci := 12) (r := ("ChainJudgeModel", fx_T12, 57)) C F rfl (by decide) hk) rfl (n := 1) (by decide +kernel) rfl rfl hd
theorem iv_M_usage {x1 : Int32} (C : fx_CX D y cc nL kf kw ret hh h0 p R s m meth c) (F : fx_F D h0 h H locs cells slots) (hw1 : Cond.methodLink y.cls idx y_M_usage ∈ tables_1 ∨ ∃ host, Cond.methodLinkNest y.cls idx y_M_usage host ∈ tables_1) (hk : hp_k h b = 13) (hd : decode cc pc = .ok (.invokevirtual idx, 3)) : fx_IV p l e R s m args below meth c H locs cells slots (F0 m pc ls (.int x1 :: .ref b :: rest)) rest y_M_usage [.ref b, .int x1] 3 := fun T hT X => fx_invV (As := [.int x1]) (Cn := "ChainJudgeModel") C X hw1 (fx_m7 (List.mem_of_getElem? (i := 58) rfl)) (fx_selP C ⟨by decide, by decide⟩ (fx_m5 (List.mem_of_getElem? (i := 217) rfl)) (fx_m7 (List.mem_of_getElem? (i := 57) rfl)) (fx_m7 (List.mem_of_getElem? (i := 58) rfl))) hm_M_usage ⟨by decide, by decide⟩ (by rw [hT]; exact fx_clsO (ci := 12) (r := ("ChainJudgeModel", fx_T12, 57)) C F rfl (by decide) hk) rfl (n := 1) (by decide +kernel) rfl rfl hd
end
def dl_M_extension : List (Nat × Instr × Nat) := [(0, .aload_n 0, 1), (1, .bipush 48, 2), (3, .iload_n 1, 1), (4, .invokevirtual 140, 3), (7, .istore_n 2, 1), (8, .aload_n 0, 1), (9, .getfield 128, 3), (12, .istore_n 3, 1), (13, .aload_n 0, 1), (14, .iload_n 2, 1), (15, .invokevirtual 155, 3), (18, .aload_n 0, 1), (19, .getfield 124, 3), (22, .ifCond .eq 4, 3), (25, .return_, 1), (26, .aload_n 0, 1), (27, .getfield 128, 3), (30, .istore 4, 2), (32, .iconst 0, 1), (33, .istore 5, 2), (35, .iload 5, 2), (37, .aload_n 0, 1), (38, .getfield 207, 3), (41, .if_icmp .ge 37, 3), (44, .aload_n 0, 1), (45, .aload_n 0, 1), (46, .aload_n 0, 1), (47, .getfield 44, 3), (50, .iload 5, 2), (52, .iaload, 1), (53, .iload_n 3, 1), (54, .iload 4, 2), (56, .iload_n 3, 1), (57, .isub, 1), (58, .invokevirtual 210, 3), (61, .ifCond .ne 7, 3), (64, .iconst 1, 1), (65, .goto 4, 3), (68, .iconst 0, 1), (69, .invokevirtual 143, 3), (72, .iinc 5 1, 3), (75, .goto (-40), 3), (78, .aload_n 0, 1), (79, .getfield 124, 3), (82, .ifCond .eq 4, 3), (85, .return_, 1), (86, .aload_n 0, 1), (87, .getfield 44, 3), (90, .aload_n 0, 1), (91, .getfield 207, 3), (94, .iload_n 3, 1), (95, .iastore, 1), (96, .aload_n 0, 1), (97, .dup, 1), (98, .getfield 207, 3), (101, .iconst 1, 1), (102, .iadd, 1), (103, .putfield 207, 3), (106, .aload_n 0, 1), (107, .getfield 128, 3), (110, .iload_n 2, 1), (111, .if_icmp .ge 19, 3), (114, .aload_n 0, 1), (115, .aload_n 0, 1), (116, .getfield 128, 3), (119, .invokevirtual 131, 3), (122, .iconst 1, 1), (123, .if_icmp .ne 7, 3), (126, .iconst 1, 1), (127, .goto 4, 3), (130, .iconst 0, 1), (131, .istore 5, 2), (133, .iload 5, 2), (135, .ifCond .eq 8, 3), (138, .aload_n 0, 1), (139, .iload_n 2, 1), (140, .invokevirtual 181, 3), (143, .aload_n 0, 1), (144, .iconst 4, 1), (145, .iload_n 2, 1), (146, .invokevirtual 140, 3), (149, .istore 6, 2), (151, .aload_n 0, 1), (152, .getfield 124, 3), (155, .ifCond .eq 4, 3), (158, .return_, 1), (159, .aload_n 0, 1), (160, .iload 6, 2), (162, .iload_n 2, 1), (163, .if_icmp .ne 7, 3), (166, .iconst 1, 1), (167, .goto 4, 3), (170, .iconst 0, 1), (171, .invokevirtual 143, 3), (174, .iload 4, 2), (176, .iload_n 3, 1), (177, .isub, 1), (178, .iconst 5, 1), (179, .if_icmp .ne 27, 3), (182, .aload_n 0, 1), (183, .iload_n 3, 1), (184, .iconst 2, 1), (185, .iadd, 1), (186, .iconst 2, 1), (187, .ldc2_w 214, 3), (190, .invokevirtual 149, 3), (193, .ifCond .eq 13, 3), (196, .aload_n 0, 1), (197, .iload_n 3, 1), (198, .iconst 4, 1), (199, .iadd, 1), (200, .invokevirtual 131, 3), (203, .goto 4, 3), (206, .iconst (-1), 1), (207, .istore 7, 2), (209, .iload 7, 2), (211, .bipush 19, 2), (213, .if_icmp .ne 12, 3), (216, .aload_n 0, 1), (217, .iload 6, 2), (219, .invokevirtual 216, 3), (222, .goto 61, 3), (225, .iload 7, 2), (227, .bipush 15, 2), (229, .if_icmp .ne 12, 3), (232, .aload_n 0, 1), (233, .iload 6, 2), (235, .invokevirtual 219, 3), (238, .goto 45, 3), (241, .iload 7, 2), (243, .bipush 17, 2), (245, .if_icmp .ne 12, 3), (248, .aload_n 0, 1), (249, .iload 6, 2), (251, .invokevirtual 221, 3), (254, .goto 29, 3), (257, .iload 7, 2), (259, .bipush 37, 2), (261, .if_icmp .ne 12, 3), (264, .aload_n 0, 1), (265, .iload 6, 2), (267, .invokevirtual 224, 3), (270, .goto 13, 3), (273, .iload 5, 2), (275, .ifCond .eq 8, 3), (278, .aload_n 0, 1), (279, .iconst 1, 1), (280, .putfield 226, 3), (283, .aload_n 0, 1), (284, .iload 6, 2), (286, .putfield 128, 3), (289, .return_, 1)]
theorem dk_M_extension : fx_dec prog_15_method_32_code dl_M_extension = true := by decide +kernel
theorem d_M_extension_0 : decode prog_15_method_32_code 0 = .ok (.aload_n 0, 1) := fx_dat dk_M_extension 0 rfl
theorem d_M_extension_1 : decode prog_15_method_32_code 1 = .ok (.bipush 48, 2) := fx_dat dk_M_extension 1 rfl
theorem d_M_extension_3 : decode prog_15_method_32_code 3 = .ok (.iload_n 1, 1) := fx_dat dk_M_extension 2 rfl
theorem d_M_extension_4 : decode prog_15_method_32_code 4 = .ok (.invokevirtual 140, 3) := fx_dat dk_M_extension 3 rfl
theorem d_M_extension_7 : decode prog_15_method_32_code 7 = .ok (.istore_n 2, 1) := fx_dat dk_M_extension 4 rfl
theorem d_M_extension_8 : decode prog_15_method_32_code 8 = .ok (.aload_n 0, 1) := fx_dat dk_M_extension 5 rfl
theorem d_M_extension_9 : decode prog_15_method_32_code 9 = .ok (.getfield 128, 3) := fx_dat dk_M_extension 6 rfl
theorem d_M_extension_12 : decode prog_15_method_32_code 12 = .ok (.istore_n 3, 1) := fx_dat dk_M_extension 7 rfl
theorem d_M_extension_13 : decode prog_15_method_32_code 13 = .ok (.aload_n 0, 1) := fx_dat dk_M_extension 8 rfl
theorem d_M_extension_14 : decode prog_15_method_32_code 14 = .ok (.iload_n 2, 1) := fx_dat dk_M_extension 9 rfl
theorem d_M_extension_15 : decode prog_15_method_32_code 15 = .ok (.invokevirtual 155, 3) := fx_dat dk_M_extension 10 rfl
theorem d_M_extension_18 : decode prog_15_method_32_code 18 = .ok (.aload_n 0, 1) := fx_dat dk_M_extension 11 rfl
theorem d_M_extension_19 : decode prog_15_method_32_code 19 = .ok (.getfield 124, 3) := fx_dat dk_M_extension 12 rfl
theorem d_M_extension_22 : decode prog_15_method_32_code 22 = .ok (.ifCond .eq 4, 3) := fx_dat dk_M_extension 13 rfl
theorem d_M_extension_25 : decode prog_15_method_32_code 25 = .ok (.return_, 1) := fx_dat dk_M_extension 14 rfl
theorem d_M_extension_26 : decode prog_15_method_32_code 26 = .ok (.aload_n 0, 1) := fx_dat dk_M_extension 15 rfl
theorem d_M_extension_27 : decode prog_15_method_32_code 27 = .ok (.getfield 128, 3) := fx_dat dk_M_extension 16 rfl
theorem d_M_extension_30 : decode prog_15_method_32_code 30 = .ok (.istore 4, 2) := fx_dat dk_M_extension 17 rfl
theorem d_M_extension_32 : decode prog_15_method_32_code 32 = .ok (.iconst 0, 1) := fx_dat dk_M_extension 18 rfl
theorem d_M_extension_33 : decode prog_15_method_32_code 33 = .ok (.istore 5, 2) := fx_dat dk_M_extension 19 rfl
theorem d_M_extension_35 : decode prog_15_method_32_code 35 = .ok (.iload 5, 2) := fx_dat dk_M_extension 20 rfl
theorem d_M_extension_37 : decode prog_15_method_32_code 37 = .ok (.aload_n 0, 1) := fx_dat dk_M_extension 21 rfl
theorem d_M_extension_38 : decode prog_15_method_32_code 38 = .ok (.getfield 207, 3) := fx_dat dk_M_extension 22 rfl
theorem d_M_extension_41 : decode prog_15_method_32_code 41 = .ok (.if_icmp .ge 37, 3) := fx_dat dk_M_extension 23 rfl
theorem d_M_extension_44 : decode prog_15_method_32_code 44 = .ok (.aload_n 0, 1) := fx_dat dk_M_extension 24 rfl
theorem d_M_extension_45 : decode prog_15_method_32_code 45 = .ok (.aload_n 0, 1) := fx_dat dk_M_extension 25 rfl
theorem d_M_extension_46 : decode prog_15_method_32_code 46 = .ok (.aload_n 0, 1) := fx_dat dk_M_extension 26 rfl
theorem d_M_extension_47 : decode prog_15_method_32_code 47 = .ok (.getfield 44, 3) := fx_dat dk_M_extension 27 rfl
theorem d_M_extension_50 : decode prog_15_method_32_code 50 = .ok (.iload 5, 2) := fx_dat dk_M_extension 28 rfl
theorem d_M_extension_52 : decode prog_15_method_32_code 52 = .ok (.iaload, 1) := fx_dat dk_M_extension 29 rfl
theorem d_M_extension_53 : decode prog_15_method_32_code 53 = .ok (.iload_n 3, 1) := fx_dat dk_M_extension 30 rfl
theorem d_M_extension_54 : decode prog_15_method_32_code 54 = .ok (.iload 4, 2) := fx_dat dk_M_extension 31 rfl
theorem d_M_extension_56 : decode prog_15_method_32_code 56 = .ok (.iload_n 3, 1) := fx_dat dk_M_extension 32 rfl
theorem d_M_extension_57 : decode prog_15_method_32_code 57 = .ok (.isub, 1) := fx_dat dk_M_extension 33 rfl
theorem d_M_extension_58 : decode prog_15_method_32_code 58 = .ok (.invokevirtual 210, 3) := fx_dat dk_M_extension 34 rfl
theorem d_M_extension_61 : decode prog_15_method_32_code 61 = .ok (.ifCond .ne 7, 3) := fx_dat dk_M_extension 35 rfl
theorem d_M_extension_64 : decode prog_15_method_32_code 64 = .ok (.iconst 1, 1) := fx_dat dk_M_extension 36 rfl
theorem d_M_extension_65 : decode prog_15_method_32_code 65 = .ok (.goto 4, 3) := fx_dat dk_M_extension 37 rfl
theorem d_M_extension_68 : decode prog_15_method_32_code 68 = .ok (.iconst 0, 1) := fx_dat dk_M_extension 38 rfl
theorem d_M_extension_69 : decode prog_15_method_32_code 69 = .ok (.invokevirtual 143, 3) := fx_dat dk_M_extension 39 rfl
theorem d_M_extension_72 : decode prog_15_method_32_code 72 = .ok (.iinc 5 1, 3) := fx_dat dk_M_extension 40 rfl
theorem d_M_extension_75 : decode prog_15_method_32_code 75 = .ok (.goto (-40), 3) := fx_dat dk_M_extension 41 rfl
theorem d_M_extension_78 : decode prog_15_method_32_code 78 = .ok (.aload_n 0, 1) := fx_dat dk_M_extension 42 rfl
theorem d_M_extension_79 : decode prog_15_method_32_code 79 = .ok (.getfield 124, 3) := fx_dat dk_M_extension 43 rfl
theorem d_M_extension_82 : decode prog_15_method_32_code 82 = .ok (.ifCond .eq 4, 3) := fx_dat dk_M_extension 44 rfl
theorem d_M_extension_85 : decode prog_15_method_32_code 85 = .ok (.return_, 1) := fx_dat dk_M_extension 45 rfl
theorem d_M_extension_86 : decode prog_15_method_32_code 86 = .ok (.aload_n 0, 1) := fx_dat dk_M_extension 46 rfl
theorem d_M_extension_87 : decode prog_15_method_32_code 87 = .ok (.getfield 44, 3) := fx_dat dk_M_extension 47 rfl
theorem d_M_extension_90 : decode prog_15_method_32_code 90 = .ok (.aload_n 0, 1) := fx_dat dk_M_extension 48 rfl
theorem d_M_extension_91 : decode prog_15_method_32_code 91 = .ok (.getfield 207, 3) := fx_dat dk_M_extension 49 rfl
theorem d_M_extension_94 : decode prog_15_method_32_code 94 = .ok (.iload_n 3, 1) := fx_dat dk_M_extension 50 rfl
theorem d_M_extension_95 : decode prog_15_method_32_code 95 = .ok (.iastore, 1) := fx_dat dk_M_extension 51 rfl
theorem d_M_extension_96 : decode prog_15_method_32_code 96 = .ok (.aload_n 0, 1) := fx_dat dk_M_extension 52 rfl
theorem d_M_extension_97 : decode prog_15_method_32_code 97 = .ok (.dup, 1) := fx_dat dk_M_extension 53 rfl
theorem d_M_extension_98 : decode prog_15_method_32_code 98 = .ok (.getfield 207, 3) := fx_dat dk_M_extension 54 rfl
theorem d_M_extension_101 : decode prog_15_method_32_code 101 = .ok (.iconst 1, 1) := fx_dat dk_M_extension 55 rfl
theorem d_M_extension_102 : decode prog_15_method_32_code 102 = .ok (.iadd, 1) := fx_dat dk_M_extension 56 rfl
theorem d_M_extension_103 : decode prog_15_method_32_code 103 = .ok (.putfield 207, 3) := fx_dat dk_M_extension 57 rfl
theorem d_M_extension_106 : decode prog_15_method_32_code 106 = .ok (.aload_n 0, 1) := fx_dat dk_M_extension 58 rfl
theorem d_M_extension_107 : decode prog_15_method_32_code 107 = .ok (.getfield 128, 3) := fx_dat dk_M_extension 59 rfl
theorem d_M_extension_110 : decode prog_15_method_32_code 110 = .ok (.iload_n 2, 1) := fx_dat dk_M_extension 60 rfl
theorem d_M_extension_111 : decode prog_15_method_32_code 111 = .ok (.if_icmp .ge 19, 3) := fx_dat dk_M_extension 61 rfl
theorem d_M_extension_114 : decode prog_15_method_32_code 114 = .ok (.aload_n 0, 1) := fx_dat dk_M_extension 62 rfl
theorem d_M_extension_115 : decode prog_15_method_32_code 115 = .ok (.aload_n 0, 1) := fx_dat dk_M_extension 63 rfl
theorem d_M_extension_116 : decode prog_15_method_32_code 116 = .ok (.getfield 128, 3) := fx_dat dk_M_extension 64 rfl
theorem d_M_extension_119 : decode prog_15_method_32_code 119 = .ok (.invokevirtual 131, 3) := fx_dat dk_M_extension 65 rfl
theorem d_M_extension_122 : decode prog_15_method_32_code 122 = .ok (.iconst 1, 1) := fx_dat dk_M_extension 66 rfl
theorem d_M_extension_123 : decode prog_15_method_32_code 123 = .ok (.if_icmp .ne 7, 3) := fx_dat dk_M_extension 67 rfl
theorem d_M_extension_126 : decode prog_15_method_32_code 126 = .ok (.iconst 1, 1) := fx_dat dk_M_extension 68 rfl
theorem d_M_extension_127 : decode prog_15_method_32_code 127 = .ok (.goto 4, 3) := fx_dat dk_M_extension 69 rfl
theorem d_M_extension_130 : decode prog_15_method_32_code 130 = .ok (.iconst 0, 1) := fx_dat dk_M_extension 70 rfl
theorem d_M_extension_131 : decode prog_15_method_32_code 131 = .ok (.istore 5, 2) := fx_dat dk_M_extension 71 rfl
theorem d_M_extension_133 : decode prog_15_method_32_code 133 = .ok (.iload 5, 2) := fx_dat dk_M_extension 72 rfl
theorem d_M_extension_135 : decode prog_15_method_32_code 135 = .ok (.ifCond .eq 8, 3) := fx_dat dk_M_extension 73 rfl
theorem d_M_extension_138 : decode prog_15_method_32_code 138 = .ok (.aload_n 0, 1) := fx_dat dk_M_extension 74 rfl
theorem d_M_extension_139 : decode prog_15_method_32_code 139 = .ok (.iload_n 2, 1) := fx_dat dk_M_extension 75 rfl
theorem d_M_extension_140 : decode prog_15_method_32_code 140 = .ok (.invokevirtual 181, 3) := fx_dat dk_M_extension 76 rfl
theorem d_M_extension_143 : decode prog_15_method_32_code 143 = .ok (.aload_n 0, 1) := fx_dat dk_M_extension 77 rfl
theorem d_M_extension_144 : decode prog_15_method_32_code 144 = .ok (.iconst 4, 1) := fx_dat dk_M_extension 78 rfl
theorem d_M_extension_145 : decode prog_15_method_32_code 145 = .ok (.iload_n 2, 1) := fx_dat dk_M_extension 79 rfl
theorem d_M_extension_146 : decode prog_15_method_32_code 146 = .ok (.invokevirtual 140, 3) := fx_dat dk_M_extension 80 rfl
theorem d_M_extension_149 : decode prog_15_method_32_code 149 = .ok (.istore 6, 2) := fx_dat dk_M_extension 81 rfl
theorem d_M_extension_151 : decode prog_15_method_32_code 151 = .ok (.aload_n 0, 1) := fx_dat dk_M_extension 82 rfl
theorem d_M_extension_152 : decode prog_15_method_32_code 152 = .ok (.getfield 124, 3) := fx_dat dk_M_extension 83 rfl
theorem d_M_extension_155 : decode prog_15_method_32_code 155 = .ok (.ifCond .eq 4, 3) := fx_dat dk_M_extension 84 rfl
theorem d_M_extension_158 : decode prog_15_method_32_code 158 = .ok (.return_, 1) := fx_dat dk_M_extension 85 rfl
theorem d_M_extension_159 : decode prog_15_method_32_code 159 = .ok (.aload_n 0, 1) := fx_dat dk_M_extension 86 rfl
theorem d_M_extension_160 : decode prog_15_method_32_code 160 = .ok (.iload 6, 2) := fx_dat dk_M_extension 87 rfl
theorem d_M_extension_162 : decode prog_15_method_32_code 162 = .ok (.iload_n 2, 1) := fx_dat dk_M_extension 88 rfl
theorem d_M_extension_163 : decode prog_15_method_32_code 163 = .ok (.if_icmp .ne 7, 3) := fx_dat dk_M_extension 89 rfl
theorem d_M_extension_166 : decode prog_15_method_32_code 166 = .ok (.iconst 1, 1) := fx_dat dk_M_extension 90 rfl
theorem d_M_extension_167 : decode prog_15_method_32_code 167 = .ok (.goto 4, 3) := fx_dat dk_M_extension 91 rfl
theorem d_M_extension_170 : decode prog_15_method_32_code 170 = .ok (.iconst 0, 1) := fx_dat dk_M_extension 92 rfl
theorem d_M_extension_171 : decode prog_15_method_32_code 171 = .ok (.invokevirtual 143, 3) := fx_dat dk_M_extension 93 rfl
theorem d_M_extension_174 : decode prog_15_method_32_code 174 = .ok (.iload 4, 2) := fx_dat dk_M_extension 94 rfl
theorem d_M_extension_176 : decode prog_15_method_32_code 176 = .ok (.iload_n 3, 1) := fx_dat dk_M_extension 95 rfl
theorem d_M_extension_177 : decode prog_15_method_32_code 177 = .ok (.isub, 1) := fx_dat dk_M_extension 96 rfl
theorem d_M_extension_178 : decode prog_15_method_32_code 178 = .ok (.iconst 5, 1) := fx_dat dk_M_extension 97 rfl
theorem d_M_extension_179 : decode prog_15_method_32_code 179 = .ok (.if_icmp .ne 27, 3) := fx_dat dk_M_extension 98 rfl
theorem d_M_extension_182 : decode prog_15_method_32_code 182 = .ok (.aload_n 0, 1) := fx_dat dk_M_extension 99 rfl
theorem d_M_extension_183 : decode prog_15_method_32_code 183 = .ok (.iload_n 3, 1) := fx_dat dk_M_extension 100 rfl
theorem d_M_extension_184 : decode prog_15_method_32_code 184 = .ok (.iconst 2, 1) := fx_dat dk_M_extension 101 rfl
theorem d_M_extension_185 : decode prog_15_method_32_code 185 = .ok (.iadd, 1) := fx_dat dk_M_extension 102 rfl
theorem d_M_extension_186 : decode prog_15_method_32_code 186 = .ok (.iconst 2, 1) := fx_dat dk_M_extension 103 rfl
theorem d_M_extension_187 : decode prog_15_method_32_code 187 = .ok (.ldc2_w 214, 3) := fx_dat dk_M_extension 104 rfl
theorem d_M_extension_190 : decode prog_15_method_32_code 190 = .ok (.invokevirtual 149, 3) := fx_dat dk_M_extension 105 rfl
theorem d_M_extension_193 : decode prog_15_method_32_code 193 = .ok (.ifCond .eq 13, 3) := fx_dat dk_M_extension 106 rfl
theorem d_M_extension_196 : decode prog_15_method_32_code 196 = .ok (.aload_n 0, 1) := fx_dat dk_M_extension 107 rfl
theorem d_M_extension_197 : decode prog_15_method_32_code 197 = .ok (.iload_n 3, 1) := fx_dat dk_M_extension 108 rfl
theorem d_M_extension_198 : decode prog_15_method_32_code 198 = .ok (.iconst 4, 1) := fx_dat dk_M_extension 109 rfl
theorem d_M_extension_199 : decode prog_15_method_32_code 199 = .ok (.iadd, 1) := fx_dat dk_M_extension 110 rfl
theorem d_M_extension_200 : decode prog_15_method_32_code 200 = .ok (.invokevirtual 131, 3) := fx_dat dk_M_extension 111 rfl
theorem d_M_extension_203 : decode prog_15_method_32_code 203 = .ok (.goto 4, 3) := fx_dat dk_M_extension 112 rfl
theorem d_M_extension_206 : decode prog_15_method_32_code 206 = .ok (.iconst (-1), 1) := fx_dat dk_M_extension 113 rfl
theorem d_M_extension_207 : decode prog_15_method_32_code 207 = .ok (.istore 7, 2) := fx_dat dk_M_extension 114 rfl
theorem d_M_extension_209 : decode prog_15_method_32_code 209 = .ok (.iload 7, 2) := fx_dat dk_M_extension 115 rfl
theorem d_M_extension_211 : decode prog_15_method_32_code 211 = .ok (.bipush 19, 2) := fx_dat dk_M_extension 116 rfl
theorem d_M_extension_213 : decode prog_15_method_32_code 213 = .ok (.if_icmp .ne 12, 3) := fx_dat dk_M_extension 117 rfl
theorem d_M_extension_216 : decode prog_15_method_32_code 216 = .ok (.aload_n 0, 1) := fx_dat dk_M_extension 118 rfl
theorem d_M_extension_217 : decode prog_15_method_32_code 217 = .ok (.iload 6, 2) := fx_dat dk_M_extension 119 rfl
theorem d_M_extension_219 : decode prog_15_method_32_code 219 = .ok (.invokevirtual 216, 3) := fx_dat dk_M_extension 120 rfl
theorem d_M_extension_222 : decode prog_15_method_32_code 222 = .ok (.goto 61, 3) := fx_dat dk_M_extension 121 rfl
theorem d_M_extension_225 : decode prog_15_method_32_code 225 = .ok (.iload 7, 2) := fx_dat dk_M_extension 122 rfl
theorem d_M_extension_227 : decode prog_15_method_32_code 227 = .ok (.bipush 15, 2) := fx_dat dk_M_extension 123 rfl
theorem d_M_extension_229 : decode prog_15_method_32_code 229 = .ok (.if_icmp .ne 12, 3) := fx_dat dk_M_extension 124 rfl
theorem d_M_extension_232 : decode prog_15_method_32_code 232 = .ok (.aload_n 0, 1) := fx_dat dk_M_extension 125 rfl
theorem d_M_extension_233 : decode prog_15_method_32_code 233 = .ok (.iload 6, 2) := fx_dat dk_M_extension 126 rfl
theorem d_M_extension_235 : decode prog_15_method_32_code 235 = .ok (.invokevirtual 219, 3) := fx_dat dk_M_extension 127 rfl
theorem d_M_extension_238 : decode prog_15_method_32_code 238 = .ok (.goto 45, 3) := fx_dat dk_M_extension 128 rfl
theorem d_M_extension_241 : decode prog_15_method_32_code 241 = .ok (.iload 7, 2) := fx_dat dk_M_extension 129 rfl
theorem d_M_extension_243 : decode prog_15_method_32_code 243 = .ok (.bipush 17, 2) := fx_dat dk_M_extension 130 rfl
theorem d_M_extension_245 : decode prog_15_method_32_code 245 = .ok (.if_icmp .ne 12, 3) := fx_dat dk_M_extension 131 rfl
theorem d_M_extension_248 : decode prog_15_method_32_code 248 = .ok (.aload_n 0, 1) := fx_dat dk_M_extension 132 rfl
theorem d_M_extension_249 : decode prog_15_method_32_code 249 = .ok (.iload 6, 2) := fx_dat dk_M_extension 133 rfl
theorem d_M_extension_251 : decode prog_15_method_32_code 251 = .ok (.invokevirtual 221, 3) := fx_dat dk_M_extension 134 rfl
theorem d_M_extension_254 : decode prog_15_method_32_code 254 = .ok (.goto 29, 3) := fx_dat dk_M_extension 135 rfl
theorem d_M_extension_257 : decode prog_15_method_32_code 257 = .ok (.iload 7, 2) := fx_dat dk_M_extension 136 rfl
theorem d_M_extension_259 : decode prog_15_method_32_code 259 = .ok (.bipush 37, 2) := fx_dat dk_M_extension 137 rfl
theorem d_M_extension_261 : decode prog_15_method_32_code 261 = .ok (.if_icmp .ne 12, 3) := fx_dat dk_M_extension 138 rfl
theorem d_M_extension_264 : decode prog_15_method_32_code 264 = .ok (.aload_n 0, 1) := fx_dat dk_M_extension 139 rfl
theorem d_M_extension_265 : decode prog_15_method_32_code 265 = .ok (.iload 6, 2) := fx_dat dk_M_extension 140 rfl
theorem d_M_extension_267 : decode prog_15_method_32_code 267 = .ok (.invokevirtual 224, 3) := fx_dat dk_M_extension 141 rfl
theorem d_M_extension_270 : decode prog_15_method_32_code 270 = .ok (.goto 13, 3) := fx_dat dk_M_extension 142 rfl
theorem d_M_extension_273 : decode prog_15_method_32_code 273 = .ok (.iload 5, 2) := fx_dat dk_M_extension 143 rfl
theorem d_M_extension_275 : decode prog_15_method_32_code 275 = .ok (.ifCond .eq 8, 3) := fx_dat dk_M_extension 144 rfl
theorem d_M_extension_278 : decode prog_15_method_32_code 278 = .ok (.aload_n 0, 1) := fx_dat dk_M_extension 145 rfl
theorem d_M_extension_279 : decode prog_15_method_32_code 279 = .ok (.iconst 1, 1) := fx_dat dk_M_extension 146 rfl
theorem d_M_extension_280 : decode prog_15_method_32_code 280 = .ok (.putfield 226, 3) := fx_dat dk_M_extension 147 rfl
theorem d_M_extension_283 : decode prog_15_method_32_code 283 = .ok (.aload_n 0, 1) := fx_dat dk_M_extension 148 rfl
theorem d_M_extension_284 : decode prog_15_method_32_code 284 = .ok (.iload 6, 2) := fx_dat dk_M_extension 149 rfl
theorem d_M_extension_286 : decode prog_15_method_32_code 286 = .ok (.putfield 128, 3) := fx_dat dk_M_extension 150 rfl
theorem d_M_extension_289 : decode prog_15_method_32_code 289 = .ok (.return_, 1) := fx_dat dk_M_extension 151 rfl
def m_M_extension_283 (Q : AH → Prop) (r0 : Nat) (x6 : Int32) (h : AH) : Prop := hp_k h r0 = 13 ∧ ∀ h1 : AH, h1 = up_I h r0 20 x6 → Q h1
def m_M_extension_207 (Q : AH → Prop) (r0 : Nat) (x5 : Int32) (x6 : Int32) (sx0 : Int32) (h : AH) : Prop := (¬ sx0 = (19 : Int32) → (¬ sx0 = (15 : Int32) → (¬ sx0 = (17 : Int32) → (¬ sx0 = (37 : Int32) → (x5 = 0 → m_M_extension_283 Q r0 x6 h) ∧ (¬ x5 = 0 → hp_k h r0 = 13 ∧ ∀ h1 : AH, h1 = up_I h r0 26 (1 : Int32) → m_M_extension_283 Q r0 x6 h1)) ∧ (sx0 = (37 : Int32) → hp_k h r0 = 13 ∧ m_M_purposes (fun h2 => fx_ext h h2 → m_M_extension_283 Q r0 x6 h2) r0 x6 h)) ∧ (sx0 = (17 : Int32) → hp_k h r0 = 13 ∧ m_M_alternatives (fun h3 => fx_ext h h3 → m_M_extension_283 Q r0 x6 h3) r0 x6 h)) ∧ (sx0 = (15 : Int32) → hp_k h r0 = 13 ∧ m_M_usage (fun h4 => fx_ext h h4 → m_M_extension_283 Q r0 x6 h4) r0 x6 h)) ∧ (sx0 = (19 : Int32) → hp_k h r0 = 13 ∧ m_M_constraints (fun h5 => fx_ext h h5 → m_M_extension_283 Q r0 x6 h5) r0 x6 h)
def m_M_extension_206 (Q : AH → Prop) (r0 : Nat) (x5 : Int32) (x6 : Int32) (h : AH) : Prop := m_M_extension_207 Q r0 x5 x6 (-1 : Int32) h
def m_M_extension_171 (Q : AH → Prop) (r0 : Nat) (x3 : Int32) (x4 : Int32) (x5 : Int32) (x6 : Int32) (sr0 : Nat) (sx1 : Int32) (h : AH) : Prop := hp_k h sr0 = 13 ∧ m_M_need (fun h1 => fx_ext h h1 → (¬ (x4 - x3) = (5 : Int32) → m_M_extension_206 Q r0 x5 x6 h1) ∧ ((x4 - x3) = (5 : Int32) → hp_k h1 r0 = 13 ∧ m_M_stands (fun v1 h2 => fx_ext h1 h2 → zb v1 → (v1 = 0 → m_M_extension_206 Q r0 x5 x6 h2) ∧ (¬ v1 = 0 → m_M_here (fun v2 h3 => fx_ext h2 h3 → m_M_extension_207 Q r0 x5 x6 v2 h3) r0 (x3 + (4 : Int32)) h2)) r0 (x3 + (2 : Int32)) (2 : Int32) (21789 : Int64) h1)) sr0 sx1 h
def m_M_extension_143 (Q : AH → Prop) (r0 : Nat) (x2 : Int32) (x3 : Int32) (x4 : Int32) (x5 : Int32) (h : AH) : Prop := hp_k h r0 = 13 ∧ m_M_open (fun v1 h1 => fx_ext h h1 → ((hp_I h1 r0 21) = 0 → (¬ v1 = x2 → m_M_extension_171 Q r0 x3 x4 x5 v1 r0 (0 : Int32) h1) ∧ (v1 = x2 → m_M_extension_171 Q r0 x3 x4 x5 v1 r0 (1 : Int32) h1)) ∧ (¬ (hp_I h1 r0 21) = 0 → Q h1)) r0 (4 : Int32) x2 h
def m_M_extension_131 (Q : AH → Prop) (r0 : Nat) (x2 : Int32) (x3 : Int32) (x4 : Int32) (sx0 : Int32) (h : AH) : Prop := (sx0 = 0 → m_M_extension_143 Q r0 x2 x3 x4 sx0 h) ∧ (¬ sx0 = 0 → hp_k h r0 = 13 ∧ m_M_truth (fun h1 => fx_ext h h1 → m_M_extension_143 Q r0 x2 x3 x4 sx0 h1) r0 x2 h)
def m_M_extension_130 (Q : AH → Prop) (r0 : Nat) (x2 : Int32) (x3 : Int32) (x4 : Int32) (h : AH) : Prop := m_M_extension_131 Q r0 x2 x3 x4 (0 : Int32) h
def m_M_extension_69 (Q : AH → Prop) (X35 : Int32 × AH → Prop) (r0 : Nat) (x2 : Int32) (x3 : Int32) (x4 : Int32) (x5 : Int32) (sr0 : Nat) (sx1 : Int32) (h : AH) : Prop := hp_k h sr0 = 13 ∧ m_M_need (fun h1 => fx_ext h h1 → ∀ v1 : Int32, v1 = (x5 + (1 : Int32)) → X35 (v1, h1)) sr0 sx1 h
def m_M_extension_35_b (Q : AH → Prop) (X35 : Int32 × AH → Prop) (r0 : Nat) (x2 : Int32) (x3 : Int32) (x4 : Int32) (x5 : Int32) (h : AH) : Prop := hp_k h r0 = 13 ∧ ((hp_I h r0 45) ≤ x5 → ((hp_I h r0 21) = 0 → ∃ b1, hp_R h r0 44 = some b1 ∧ hp_k h b1 = 102 ∧ vp_in (hp_I h r0 45) (hp_n h b1) ∧ ∀ h1 : AH, h1 = up_I h b1 ((hp_I h r0 45)).toNatClampNeg x3 → ∀ h2 : AH, h2 = up_I h1 r0 45 ((hp_I h1 r0 45) + (1 : Int32)) → (x2 ≤ (hp_I h2 r0 20) → m_M_extension_130 Q r0 x2 x3 x4 h2) ∧ (¬ x2 ≤ (hp_I h2 r0 20) → m_M_here (fun v1 h3 => fx_ext h2 h3 → (¬ v1 = (1 : Int32) → m_M_extension_130 Q r0 x2 x3 x4 h3) ∧ (v1 = (1 : Int32) → m_M_extension_131 Q r0 x2 x3 x4 (1 : Int32) h3)) r0 (hp_I h2 r0 20) h2)) ∧ (¬ (hp_I h r0 21) = 0 → Q h)) ∧ (¬ (hp_I h r0 45) ≤ x5 → ∃ b2, hp_R h r0 44 = some b2 ∧ ik (hp_k h b2) ∧ vp_in x5 (hp_n h b2) ∧ m_M_alike (fun v2 h4 => fx_ext h h4 → zb v2 → (¬ v2 = 0 → m_M_extension_69 Q X35 r0 x2 x3 x4 x5 r0 (0 : Int32) h4) ∧ (v2 = 0 → m_M_extension_69 Q X35 r0 x2 x3 x4 x5 r0 (1 : Int32) h4)) r0 (hp_I h b2 x5.toNatClampNeg) x3 (x4 - x3) h)
def m_M_extension_35 (Q : AH → Prop) (r0 : Nat) (x2 : Int32) (x3 : Int32) (x4 : Int32) (x5 : Int32) (h : AH) : Prop := fx_loop (fun (X35 : Int32 × AH → Prop) (st : Int32 × AH) => m_M_extension_35_b Q X35 r0 x2 x3 x4 st.1 st.2) (x5, h)
def m_M_extension (Q : AH → Prop) (r0 : Nat) (x1 : Int32) (h : AH) : Prop := hp_k h r0 = 13 ∧ m_M_open (fun v1 h1 => fx_ext h h1 → ∀ v2 : Int32, v2 = (hp_I h1 r0 20) → m_M_oid (fun h2 => fx_ext h1 h2 → ((hp_I h2 r0 21) = 0 → ∀ v3 : Int32, v3 = (hp_I h2 r0 20) → m_M_extension_35 Q r0 v1 v2 v3 (0 : Int32) h2) ∧ (¬ (hp_I h2 r0 21) = 0 → Q h2)) r0 v1 h1) r0 (48 : Int32) x1 h
theorem b_M_extension_283 {p : Program} {l : Launch} {e : Env} {R : Room} {s : State} {m : MethodId} {args : Array Value} {below : List Frame} {meth : Method} {c : Code} {D : DD} {h0 : AH} {Q : AH → Prop} (C : fx_CX D y_M_extension prog_15_method_32_code 8 4 62 (none) [] h0 p R s m meth c) (hl : l.flags = flags0) (r0 : Nat) (x6 : Int32) (h : AH) (hw : m_M_extension_283 Q r0 x6 h) : ∀ (ls : Array Slot) (H : Heap) (locs : List Loc) (cells slots : Nat), lv_has ls 8 [(0, .ref r0), (6, .int x6)] → fx_F D h0 h H locs cells slots → W p l e R s m args below meth c H locs cells slots (fx_Z D below s h0 (fx_oV Q fx_no)) (F0 m 283 ls []) := by
  unfold m_M_extension_283 at hw
  intro ls H locs cells slots hv F
  refine lv_aload_n C.ex C.by d_M_extension_283 rfl (lv_at hv 0 rfl) ?_
  refine lv_iload C.ex C.by d_M_extension_284 (lv_at hv 1 rfl) ?_
  obtain ⟨hk1, hw⟩ := hw
  let h1 : AH := up_I h r0 20 x6
  replace hw := hw h1 rfl
  refine fx_putI C F lf_M_128 hk1 rfl rfl (fx_mayF.no rfl rfl) d_M_extension_286 (fun H locs (F : fx_F D h0 h1 H locs _ _) => ?_)
  exact fx_vret C F d_M_extension_289 (Or.inl ⟨rfl, hw⟩)
theorem b_M_extension_207 {p : Program} {l : Launch} {e : Env} {R : Room} {s : State} {m : MethodId} {args : Array Value} {below : List Frame} {meth : Method} {c : Code} {D : DD} {h0 : AH} {Q : AH → Prop} (C : fx_CX D y_M_extension prog_15_method_32_code 8 4 62 (none) [] h0 p R s m meth c) (hl : l.flags = flags0) (r0 : Nat) (x5 : Int32) (x6 : Int32) (sx0 : Int32) (h : AH) (hw : m_M_extension_207 Q r0 x5 x6 sx0 h) : ∀ (ls : Array Slot) (H : Heap) (locs : List Loc) (cells slots : Nat), lv_has ls 8 [(0, .ref r0), (5, .int x5), (6, .int x6)] → fx_F D h0 h H locs cells slots → W p l e R s m args below meth c H locs cells slots (fx_Z D below s h0 (fx_oV Q fx_no)) (F0 m 207 ls [.int sx0]) := by
  unfold m_M_extension_207 at hw
  intro ls H locs cells slots hv F
  refine lv_istore (lv' := [(7, .int sx0), (0, .ref r0), (5, .int x5), (6, .int x6)]) C.ex C.by d_M_extension_207 hv (by decide) rfl (fun ls hv => ?_)
  refine lv_iload C.ex C.by d_M_extension_209 (lv_at hv 0 rfl) ?_
  refine lv_bipush (v := (19 : Int32)) C.ex C.by d_M_extension_211 (by decide) ?_
  refine lv_icmp_ne C.ex C.by d_M_extension_213 rfl (fun hc => ?_) (fun hc => ?_)
  · replace hw := hw.1 hc
    refine lv_iload C.ex C.by d_M_extension_225 (lv_at hv 0 rfl) ?_
    refine lv_bipush (v := (15 : Int32)) C.ex C.by d_M_extension_227 (by decide) ?_
    refine lv_icmp_ne C.ex C.by d_M_extension_229 rfl (fun hc => ?_) (fun hc => ?_)
    · replace hw := hw.1 hc
      refine lv_iload C.ex C.by d_M_extension_241 (lv_at hv 0 rfl) ?_
      refine lv_bipush (v := (17 : Int32)) C.ex C.by d_M_extension_243 (by decide) ?_
      refine lv_icmp_ne C.ex C.by d_M_extension_245 rfl (fun hc => ?_) (fun hc => ?_)
      · replace hw := hw.1 hc
        refine lv_iload C.ex C.by d_M_extension_257 (lv_at hv 0 rfl) ?_
        refine lv_bipush (v := (37 : Int32)) C.ex C.by d_M_extension_259 (by decide) ?_
        refine lv_icmp_ne C.ex C.by d_M_extension_261 rfl (fun hc => ?_) (fun hc => ?_)
        · replace hw := hw.1 hc
          refine lv_iload C.ex C.by d_M_extension_273 (lv_at hv 2 rfl) ?_
          refine lv_if_eq C.ex C.by d_M_extension_275 rfl (fun hc => ?_) (fun hc => ?_)
          · replace hw := hw.1 hc
            exact b_M_extension_283 C hl _ _ _ hw _ _ _ _ _ (lv_sub hv [1, 3] rfl) F
          · replace hw := hw.2 hc
            refine lv_aload_n C.ex C.by d_M_extension_278 rfl (lv_at hv 1 rfl) ?_
            refine lv_iconst (v := (1 : Int32)) C.ex C.by d_M_extension_279 (by decide) ?_
            obtain ⟨hk1, hw⟩ := hw
            let h1 : AH := up_I h r0 26 (1 : Int32)
            replace hw := hw h1 rfl
            refine fx_putZ C F lf_M_226 hk1 rfl rfl (Or.inr rfl) (fx_mayF.no rfl rfl) d_M_extension_280 (fun H locs (F : fx_F D h0 h1 H locs _ _) => ?_)
            exact b_M_extension_283 C hl _ _ _ hw _ _ _ _ _ (lv_sub hv [1, 3] rfl) F
        · replace hw := hw.2 hc
          refine lv_aload_n C.ex C.by d_M_extension_264 rfl (lv_at hv 1 rfl) ?_
          refine lv_iload C.ex C.by d_M_extension_265 (lv_at hv 3 rfl) ?_
          obtain ⟨hk2, hw⟩ := hw
          refine fx_callV C F (c_M_purposes hl hw) hm_M_purposes hi_M_purposes hv.1 (by decide) (Nat.le_of_ble_eq_true rfl) (iv_M_purposes C F lm_M_224 hk2 d_M_extension_267) (fx_out0 _) fx_eno (fun h2 H locs cells slots hw hx1 F => ?_)
          replace hw := hw hx1
          have hk2 := (hx1).k hk2
          refine lv_goto C.ex C.by d_M_extension_270 rfl ?_
          exact b_M_extension_283 C hl _ _ _ hw _ _ _ _ _ (lv_sub hv [1, 3] rfl) F
      · replace hw := hw.2 hc
        refine lv_aload_n C.ex C.by d_M_extension_248 rfl (lv_at hv 1 rfl) ?_
        refine lv_iload C.ex C.by d_M_extension_249 (lv_at hv 3 rfl) ?_
        obtain ⟨hk3, hw⟩ := hw
        refine fx_callV C F (c_M_alternatives hl hw) hm_M_alternatives hi_M_alternatives hv.1 (by decide) (Nat.le_of_ble_eq_true rfl) (iv_M_alternatives C F lm_M_221 hk3 d_M_extension_251) (fx_out0 _) fx_eno (fun h3 H locs cells slots hw hx2 F => ?_)
        replace hw := hw hx2
        have hk3 := (hx2).k hk3
        refine lv_goto C.ex C.by d_M_extension_254 rfl ?_
        exact b_M_extension_283 C hl _ _ _ hw _ _ _ _ _ (lv_sub hv [1, 3] rfl) F
    · replace hw := hw.2 hc
      refine lv_aload_n C.ex C.by d_M_extension_232 rfl (lv_at hv 1 rfl) ?_
      refine lv_iload C.ex C.by d_M_extension_233 (lv_at hv 3 rfl) ?_
      obtain ⟨hk4, hw⟩ := hw
      refine fx_callV C F (c_M_usage hl hw) hm_M_usage hi_M_usage hv.1 (by decide) (Nat.le_of_ble_eq_true rfl) (iv_M_usage C F lm_M_219 hk4 d_M_extension_235) (fx_out0 _) fx_eno (fun h4 H locs cells slots hw hx3 F => ?_)
      replace hw := hw hx3
      have hk4 := (hx3).k hk4
      refine lv_goto C.ex C.by d_M_extension_238 rfl ?_
      exact b_M_extension_283 C hl _ _ _ hw _ _ _ _ _ (lv_sub hv [1, 3] rfl) F
  · replace hw := hw.2 hc
    refine lv_aload_n C.ex C.by d_M_extension_216 rfl (lv_at hv 1 rfl) ?_
    refine lv_iload C.ex C.by d_M_extension_217 (lv_at hv 3 rfl) ?_
    obtain ⟨hk5, hw⟩ := hw
    refine fx_callV C F (c_M_constraints hl hw) hm_M_constraints hi_M_constraints hv.1 (by decide) (Nat.le_of_ble_eq_true rfl) (iv_M_constraints C F lm_M_216 hk5 d_M_extension_219) (fx_out0 _) fx_eno (fun h5 H locs cells slots hw hx4 F => ?_)
    replace hw := hw hx4
    have hk5 := (hx4).k hk5
    refine lv_goto C.ex C.by d_M_extension_222 rfl ?_
    exact b_M_extension_283 C hl _ _ _ hw _ _ _ _ _ (lv_sub hv [1, 3] rfl) F
theorem b_M_extension_206 {p : Program} {l : Launch} {e : Env} {R : Room} {s : State} {m : MethodId} {args : Array Value} {below : List Frame} {meth : Method} {c : Code} {D : DD} {h0 : AH} {Q : AH → Prop} (C : fx_CX D y_M_extension prog_15_method_32_code 8 4 62 (none) [] h0 p R s m meth c) (hl : l.flags = flags0) (r0 : Nat) (x5 : Int32) (x6 : Int32) (h : AH) (hw : m_M_extension_206 Q r0 x5 x6 h) : ∀ (ls : Array Slot) (H : Heap) (locs : List Loc) (cells slots : Nat), lv_has ls 8 [(0, .ref r0), (5, .int x5), (6, .int x6)] → fx_F D h0 h H locs cells slots → W p l e R s m args below meth c H locs cells slots (fx_Z D below s h0 (fx_oV Q fx_no)) (F0 m 206 ls []) := by
  unfold m_M_extension_206 at hw
  intro ls H locs cells slots hv F
  refine lv_iconst (v := (-1 : Int32)) C.ex C.by d_M_extension_206 (by decide) ?_
  exact b_M_extension_207 C hl _ _ _ _ _ hw _ _ _ _ _ hv F
theorem b_M_extension_171 {p : Program} {l : Launch} {e : Env} {R : Room} {s : State} {m : MethodId} {args : Array Value} {below : List Frame} {meth : Method} {c : Code} {D : DD} {h0 : AH} {Q : AH → Prop} (C : fx_CX D y_M_extension prog_15_method_32_code 8 4 62 (none) [] h0 p R s m meth c) (hl : l.flags = flags0) (r0 : Nat) (x3 : Int32) (x4 : Int32) (x5 : Int32) (x6 : Int32) (sr0 : Nat) (sx1 : Int32) (h : AH) (hw : m_M_extension_171 Q r0 x3 x4 x5 x6 sr0 sx1 h) : ∀ (ls : Array Slot) (H : Heap) (locs : List Loc) (cells slots : Nat), lv_has ls 8 [(0, .ref r0), (3, .int x3), (4, .int x4), (5, .int x5), (6, .int x6)] → fx_F D h0 h H locs cells slots → W p l e R s m args below meth c H locs cells slots (fx_Z D below s h0 (fx_oV Q fx_no)) (F0 m 171 ls [.int sx1, .ref sr0]) := by
  unfold m_M_extension_171 at hw
  intro ls H locs cells slots hv F
  obtain ⟨hk1, hw⟩ := hw
  refine fx_callV C F (c_M_need hl hw) hm_M_need hi_M_need hv.1 (by decide) (Nat.le_of_ble_eq_true rfl) (iv_M_need C F lm_M_143 hk1 d_M_extension_171) (fx_out0 _) fx_eno (fun h1 H locs cells slots hw hx1 F => ?_)
  replace hw := hw hx1
  have hk1 := (hx1).k hk1
  refine lv_iload C.ex C.by d_M_extension_174 (lv_at hv 2 rfl) ?_
  refine lv_iload_n C.ex C.by d_M_extension_176 rfl (lv_at hv 1 rfl) ?_
  refine lv_isub C.ex C.by d_M_extension_177 ?_
  refine lv_iconst (v := (5 : Int32)) C.ex C.by d_M_extension_178 (by decide) ?_
  refine lv_icmp_ne C.ex C.by d_M_extension_179 rfl (fun hc => ?_) (fun hc => ?_)
  · replace hw := hw.1 hc
    exact b_M_extension_206 C hl _ _ _ _ hw _ _ _ _ _ (lv_sub hv [0, 3, 4] rfl) F
  · replace hw := hw.2 hc
    refine lv_aload_n C.ex C.by d_M_extension_182 rfl (lv_at hv 0 rfl) ?_
    refine lv_iload_n C.ex C.by d_M_extension_183 rfl (lv_at hv 1 rfl) ?_
    refine lv_iconst (v := (2 : Int32)) C.ex C.by d_M_extension_184 (by decide) ?_
    refine lv_iadd C.ex C.by d_M_extension_185 ?_
    refine lv_iconst (v := (2 : Int32)) C.ex C.by d_M_extension_186 (by decide) ?_
    refine lv_ldc2 (v := (21789 : Int64)) C.ex C.by C.ow (C.tw.at (fx_m7 (List.mem_of_getElem? (i := 51) rfl)) rfl rfl) d_M_extension_187 ?_
    obtain ⟨hk2, hw⟩ := hw
    refine fx_callZ C F (c_M_stands hl hw) hm_M_stands hi_M_stands hv.1 (by decide) (Nat.le_of_ble_eq_true rfl) (iv_M_stands C F lm_M_149 hk2 d_M_extension_190) (fx_out0 _) fx_eno (fun v1 h2 H locs cells slots hw hx2 hzb F => ?_)
    replace hw := hw hx2 hzb
    have hk2 := (hx2).k hk2
    have hk1 := (hx2).k hk1
    refine lv_if_eq C.ex C.by d_M_extension_193 rfl (fun hc => ?_) (fun hc => ?_)
    · replace hw := hw.1 hc
      exact b_M_extension_206 C hl _ _ _ _ hw _ _ _ _ _ (lv_sub hv [0, 3, 4] rfl) F
    · replace hw := hw.2 hc
      refine lv_aload_n C.ex C.by d_M_extension_196 rfl (lv_at hv 0 rfl) ?_
      refine lv_iload_n C.ex C.by d_M_extension_197 rfl (lv_at hv 1 rfl) ?_
      refine lv_iconst (v := (4 : Int32)) C.ex C.by d_M_extension_198 (by decide) ?_
      refine lv_iadd C.ex C.by d_M_extension_199 ?_
      refine fx_callI C F (c_M_here hl hw) hm_M_here hi_M_here hv.1 (by decide) (Nat.le_of_ble_eq_true rfl) (iv_M_here C F lm_M_131 hk2 d_M_extension_200) (fx_out0 _) fx_eno (fun v2 h3 H locs cells slots hw hx3 F => ?_)
      replace hw := hw hx3
      have hk2 := (hx3).k hk2
      have hk1 := (hx3).k hk1
      refine lv_goto C.ex C.by d_M_extension_203 rfl ?_
      exact b_M_extension_207 C hl _ _ _ _ _ hw _ _ _ _ _ (lv_sub hv [0, 3, 4] rfl) F
theorem b_M_extension_143 {p : Program} {l : Launch} {e : Env} {R : Room} {s : State} {m : MethodId} {args : Array Value} {below : List Frame} {meth : Method} {c : Code} {D : DD} {h0 : AH} {Q : AH → Prop} (C : fx_CX D y_M_extension prog_15_method_32_code 8 4 62 (none) [] h0 p R s m meth c) (hl : l.flags = flags0) (r0 : Nat) (x2 : Int32) (x3 : Int32) (x4 : Int32) (x5 : Int32) (h : AH) (hw : m_M_extension_143 Q r0 x2 x3 x4 x5 h) : ∀ (ls : Array Slot) (H : Heap) (locs : List Loc) (cells slots : Nat), lv_has ls 8 [(0, .ref r0), (2, .int x2), (3, .int x3), (4, .int x4), (5, .int x5)] → fx_F D h0 h H locs cells slots → W p l e R s m args below meth c H locs cells slots (fx_Z D below s h0 (fx_oV Q fx_no)) (F0 m 143 ls []) := by
  unfold m_M_extension_143 at hw
  intro ls H locs cells slots hv F
  refine lv_aload_n C.ex C.by d_M_extension_143 rfl (lv_at hv 0 rfl) ?_
  refine lv_iconst (v := (4 : Int32)) C.ex C.by d_M_extension_144 (by decide) ?_
  refine lv_iload_n C.ex C.by d_M_extension_145 rfl (lv_at hv 1 rfl) ?_
  obtain ⟨hk1, hw⟩ := hw
  refine fx_callI C F (c_M_open hl hw) hm_M_open hi_M_open hv.1 (by decide) (Nat.le_of_ble_eq_true rfl) (iv_M_open C F lm_M_140 hk1 d_M_extension_146) (fx_out0 _) fx_eno (fun v1 h1 H locs cells slots hw hx1 F => ?_)
  replace hw := hw hx1
  have hk1 := (hx1).k hk1
  refine lv_istore (lv' := [(6, .int v1), (0, .ref r0), (2, .int x2), (3, .int x3), (4, .int x4), (5, .int x5)]) C.ex C.by d_M_extension_149 hv (by decide) rfl (fun ls hv => ?_)
  refine lv_aload_n C.ex C.by d_M_extension_151 rfl (lv_at hv 1 rfl) ?_
  refine fx_getI C F lf_M_124 hk1 rfl d_M_extension_152 ?_
  refine lv_if_eq C.ex C.by d_M_extension_155 rfl (fun hc => ?_) (fun hc => ?_)
  · replace hw := hw.1 hc
    refine lv_aload_n C.ex C.by d_M_extension_159 rfl (lv_at hv 1 rfl) ?_
    refine lv_iload C.ex C.by d_M_extension_160 (lv_at hv 0 rfl) ?_
    refine lv_iload_n C.ex C.by d_M_extension_162 rfl (lv_at hv 2 rfl) ?_
    refine lv_icmp_ne C.ex C.by d_M_extension_163 rfl (fun hc => ?_) (fun hc => ?_)
    · replace hw := hw.1 hc
      refine lv_iconst (v := (0 : Int32)) C.ex C.by d_M_extension_170 (by decide) ?_
      exact b_M_extension_171 C hl _ _ _ _ _ _ _ _ hw _ _ _ _ _ (lv_sub hv [1, 3, 4, 5, 0] rfl) F
    · replace hw := hw.2 hc
      refine lv_iconst (v := (1 : Int32)) C.ex C.by d_M_extension_166 (by decide) ?_
      refine lv_goto C.ex C.by d_M_extension_167 rfl ?_
      exact b_M_extension_171 C hl _ _ _ _ _ _ _ _ hw _ _ _ _ _ (lv_sub hv [1, 3, 4, 5, 0] rfl) F
  · replace hw := hw.2 hc
    exact fx_vret C F d_M_extension_158 (Or.inl ⟨rfl, hw⟩)
theorem b_M_extension_131 {p : Program} {l : Launch} {e : Env} {R : Room} {s : State} {m : MethodId} {args : Array Value} {below : List Frame} {meth : Method} {c : Code} {D : DD} {h0 : AH} {Q : AH → Prop} (C : fx_CX D y_M_extension prog_15_method_32_code 8 4 62 (none) [] h0 p R s m meth c) (hl : l.flags = flags0) (r0 : Nat) (x2 : Int32) (x3 : Int32) (x4 : Int32) (sx0 : Int32) (h : AH) (hw : m_M_extension_131 Q r0 x2 x3 x4 sx0 h) : ∀ (ls : Array Slot) (H : Heap) (locs : List Loc) (cells slots : Nat), lv_has ls 8 [(0, .ref r0), (2, .int x2), (3, .int x3), (4, .int x4)] → fx_F D h0 h H locs cells slots → W p l e R s m args below meth c H locs cells slots (fx_Z D below s h0 (fx_oV Q fx_no)) (F0 m 131 ls [.int sx0]) := by
  unfold m_M_extension_131 at hw
  intro ls H locs cells slots hv F
  refine lv_istore (lv' := [(5, .int sx0), (0, .ref r0), (2, .int x2), (3, .int x3), (4, .int x4)]) C.ex C.by d_M_extension_131 hv (by decide) rfl (fun ls hv => ?_)
  refine lv_iload C.ex C.by d_M_extension_133 (lv_at hv 0 rfl) ?_
  refine lv_if_eq C.ex C.by d_M_extension_135 rfl (fun hc => ?_) (fun hc => ?_)
  · replace hw := hw.1 hc
    exact b_M_extension_143 C hl _ _ _ _ _ _ hw _ _ _ _ _ (lv_sub hv [1, 2, 3, 4, 0] rfl) F
  · replace hw := hw.2 hc
    refine lv_aload_n C.ex C.by d_M_extension_138 rfl (lv_at hv 1 rfl) ?_
    refine lv_iload_n C.ex C.by d_M_extension_139 rfl (lv_at hv 2 rfl) ?_
    obtain ⟨hk1, hw⟩ := hw
    refine fx_callV C F (c_M_truth hl hw) hm_M_truth hi_M_truth hv.1 (by decide) (Nat.le_of_ble_eq_true rfl) (iv_M_truth C F lm_M_181 hk1 d_M_extension_140) (fx_out0 _) fx_eno (fun h1 H locs cells slots hw hx1 F => ?_)
    replace hw := hw hx1
    have hk1 := (hx1).k hk1
    exact b_M_extension_143 C hl _ _ _ _ _ _ hw _ _ _ _ _ (lv_sub hv [1, 2, 3, 4, 0] rfl) F
theorem b_M_extension_130 {p : Program} {l : Launch} {e : Env} {R : Room} {s : State} {m : MethodId} {args : Array Value} {below : List Frame} {meth : Method} {c : Code} {D : DD} {h0 : AH} {Q : AH → Prop} (C : fx_CX D y_M_extension prog_15_method_32_code 8 4 62 (none) [] h0 p R s m meth c) (hl : l.flags = flags0) (r0 : Nat) (x2 : Int32) (x3 : Int32) (x4 : Int32) (h : AH) (hw : m_M_extension_130 Q r0 x2 x3 x4 h) : ∀ (ls : Array Slot) (H : Heap) (locs : List Loc) (cells slots : Nat), lv_has ls 8 [(0, .ref r0), (2, .int x2), (3, .int x3), (4, .int x4)] → fx_F D h0 h H locs cells slots → W p l e R s m args below meth c H locs cells slots (fx_Z D below s h0 (fx_oV Q fx_no)) (F0 m 130 ls []) := by
  unfold m_M_extension_130 at hw
  intro ls H locs cells slots hv F
  refine lv_iconst (v := (0 : Int32)) C.ex C.by d_M_extension_130 (by decide) ?_
  exact b_M_extension_131 C hl _ _ _ _ _ _ hw _ _ _ _ _ hv F
theorem b_M_extension_69 {p : Program} {l : Launch} {e : Env} {R : Room} {s : State} {m : MethodId} {args : Array Value} {below : List Frame} {meth : Method} {c : Code} {D : DD} {h0 : AH} {Q : AH → Prop} {X35 : Int32 × AH → Prop} (C : fx_CX D y_M_extension prog_15_method_32_code 8 4 62 (none) [] h0 p R s m meth c) (hl : l.flags = flags0) (r0 : Nat) (x2 : Int32) (x3 : Int32) (x4 : Int32) (x5 : Int32) (sr0 : Nat) (sx1 : Int32) (h : AH) (hX35 : ∀ st, X35 st → ∀ (ls : Array Slot) (H : Heap) (locs : List Loc) (cells slots : Nat), lv_has ls 8 [(0, .ref r0), (2, .int x2), (3, .int x3), (4, .int x4), (5, .int st.1)] → fx_F D h0 st.2 H locs cells slots → W p l e R s m args below meth c H locs cells slots (fx_Z D below s h0 (fx_oV Q fx_no)) (F0 m 35 ls [])) (hw : m_M_extension_69 Q X35 r0 x2 x3 x4 x5 sr0 sx1 h) : ∀ (ls : Array Slot) (H : Heap) (locs : List Loc) (cells slots : Nat), lv_has ls 8 [(0, .ref r0), (2, .int x2), (3, .int x3), (4, .int x4), (5, .int x5)] → fx_F D h0 h H locs cells slots → W p l e R s m args below meth c H locs cells slots (fx_Z D below s h0 (fx_oV Q fx_no)) (F0 m 69 ls [.int sx1, .ref sr0]) := by
  unfold m_M_extension_69 at hw
  intro ls H locs cells slots hv F
  obtain ⟨hk1, hw⟩ := hw
  refine fx_callV C F (c_M_need hl hw) hm_M_need hi_M_need hv.1 (by decide) (Nat.le_of_ble_eq_true rfl) (iv_M_need C F lm_M_143 hk1 d_M_extension_69) (fx_out0 _) fx_eno (fun h1 H locs cells slots hw hx1 F => ?_)
  replace hw := hw hx1
  have hk1 := (hx1).k hk1
  let v1 : Int32 := (x5 + (1 : Int32))
  replace hw := hw v1 rfl
  refine lv_iinc (v := v1) (k := 4) (lv' := [(5, .int v1), (0, .ref r0), (2, .int x2), (3, .int x3), (4, .int x4)]) C.ex C.by d_M_extension_72 hv rfl (congrArg (fun z => x5 + z) (by decide)) (by decide) rfl (fun ls hv => ?_)
  refine lv_goto C.ex C.by d_M_extension_75 rfl ?_
  exact hX35 _ hw _ _ _ _ _ (lv_sub hv [1, 2, 3, 4, 0] rfl) F
theorem b_M_extension_35 {p : Program} {l : Launch} {e : Env} {R : Room} {s : State} {m : MethodId} {args : Array Value} {below : List Frame} {meth : Method} {c : Code} {D : DD} {h0 : AH} {Q : AH → Prop} (C : fx_CX D y_M_extension prog_15_method_32_code 8 4 62 (none) [] h0 p R s m meth c) (hl : l.flags = flags0) (r0 : Nat) (x2 : Int32) (x3 : Int32) (x4 : Int32) (x5 : Int32) (h : AH) (hw : m_M_extension_35 Q r0 x2 x3 x4 x5 h) : ∀ (ls : Array Slot) (H : Heap) (locs : List Loc) (cells slots : Nat), lv_has ls 8 [(0, .ref r0), (2, .int x2), (3, .int x3), (4, .int x4), (5, .int x5)] → fx_F D h0 h H locs cells slots → W p l e R s m args below meth c H locs cells slots (fx_Z D below s h0 (fx_oV Q fx_no)) (F0 m 35 ls []) := by
  refine fx_loop.use hw (fun st => ∀ (ls : Array Slot) (H : Heap) (locs : List Loc) (cells slots : Nat), lv_has ls 8 [(0, .ref r0), (2, .int x2), (3, .int x3), (4, .int x4), (5, .int st.1)] → fx_F D h0 st.2 H locs cells slots → W p l e R s m args below meth c H locs cells slots (fx_Z D below s h0 (fx_oV Q fx_no)) (F0 m 35 ls [])) (fun X35 st hX35 hw => ?_)
  obtain ⟨x5, h⟩ := st
  replace hw : m_M_extension_35_b Q X35 r0 x2 x3 x4 x5 h := hw
  unfold m_M_extension_35_b at hw
  intro ls H locs cells slots hv F
  refine lv_iload C.ex C.by d_M_extension_35 (lv_at hv 4 rfl) ?_
  refine lv_aload_n C.ex C.by d_M_extension_37 rfl (lv_at hv 0 rfl) ?_
  obtain ⟨hk1, hw⟩ := hw
  refine fx_getI C F lf_M_207 hk1 rfl d_M_extension_38 ?_
  refine lv_icmp_ge C.ex C.by d_M_extension_41 rfl (fun hc => ?_) (fun hc => ?_)
  · replace hw := hw.1 hc
    refine lv_aload_n C.ex C.by d_M_extension_78 rfl (lv_at hv 0 rfl) ?_
    refine fx_getI C F lf_M_124 hk1 rfl d_M_extension_79 ?_
    refine lv_if_eq C.ex C.by d_M_extension_82 rfl (fun hc => ?_) (fun hc => ?_)
    · replace hw := hw.1 hc
      refine lv_aload_n C.ex C.by d_M_extension_86 rfl (lv_at hv 0 rfl) ?_
      obtain ⟨b1, hb1, hw⟩ := hw
      refine fx_getR C F lf_M_44 hk1 rfl hb1 d_M_extension_87 ?_
      refine lv_aload_n C.ex C.by d_M_extension_90 rfl (lv_at hv 0 rfl) ?_
      refine fx_getI C F lf_M_207 hk1 rfl d_M_extension_91 ?_
      refine lv_iload_n C.ex C.by d_M_extension_94 rfl (lv_at hv 2 rfl) ?_
      obtain ⟨hk2, hw⟩ := hw
      obtain ⟨hi1, hw⟩ := hw
      let h1 : AH := up_I h b1 ((hp_I h r0 45)).toNatClampNeg x3
      replace hw := hw h1 rfl
      refine fx_iast C F hk2 hi1 d_M_extension_95 (fun H locs (F : fx_F D h0 h1 H locs _ _) => ?_)
      refine lv_aload_n C.ex C.by d_M_extension_96 rfl (lv_at hv 0 rfl) ?_
      refine lv_dup C.ex C.by d_M_extension_97 rfl ?_
      refine fx_getI C F lf_M_207 hk1 rfl d_M_extension_98 ?_
      refine lv_iconst (v := (1 : Int32)) C.ex C.by d_M_extension_101 (by decide) ?_
      refine lv_iadd C.ex C.by d_M_extension_102 ?_
      let h2 : AH := up_I h1 r0 45 ((hp_I h1 r0 45) + (1 : Int32))
      replace hw := hw h2 rfl
      refine fx_putI C F lf_M_207 hk1 rfl rfl (fx_mayF.no rfl rfl) d_M_extension_103 (fun H locs (F : fx_F D h0 h2 H locs _ _) => ?_)
      refine lv_aload_n C.ex C.by d_M_extension_106 rfl (lv_at hv 0 rfl) ?_
      refine fx_getI C F lf_M_128 hk1 rfl d_M_extension_107 ?_
      refine lv_iload_n C.ex C.by d_M_extension_110 rfl (lv_at hv 1 rfl) ?_
      refine lv_icmp_ge C.ex C.by d_M_extension_111 rfl (fun hc => ?_) (fun hc => ?_)
      · replace hw := hw.1 hc
        exact b_M_extension_130 C hl _ _ _ _ _ hw _ _ _ _ _ (lv_sub hv [0, 1, 2, 3] rfl) F
      · replace hw := hw.2 hc
        refine lv_aload_n C.ex C.by d_M_extension_114 rfl (lv_at hv 0 rfl) ?_
        refine lv_aload_n C.ex C.by d_M_extension_115 rfl (lv_at hv 0 rfl) ?_
        refine fx_getI C F lf_M_128 hk1 rfl d_M_extension_116 ?_
        refine fx_callI C F (c_M_here hl hw) hm_M_here hi_M_here hv.1 (by decide) (Nat.le_of_ble_eq_true rfl) (iv_M_here C F lm_M_131 hk1 d_M_extension_119) (fx_out0 _) fx_eno (fun v1 h3 H locs cells slots hw hx1 F => ?_)
        replace hw := hw hx1
        have hk2 := (hx1).k hk2
        have hk1 := (hx1).k hk1
        refine lv_iconst (v := (1 : Int32)) C.ex C.by d_M_extension_122 (by decide) ?_
        refine lv_icmp_ne C.ex C.by d_M_extension_123 rfl (fun hc => ?_) (fun hc => ?_)
        · replace hw := hw.1 hc
          exact b_M_extension_130 C hl _ _ _ _ _ hw _ _ _ _ _ (lv_sub hv [0, 1, 2, 3] rfl) F
        · replace hw := hw.2 hc
          refine lv_iconst (v := (1 : Int32)) C.ex C.by d_M_extension_126 (by decide) ?_
          refine lv_goto C.ex C.by d_M_extension_127 rfl ?_
          exact b_M_extension_131 C hl _ _ _ _ _ _ hw _ _ _ _ _ (lv_sub hv [0, 1, 2, 3] rfl) F
    · replace hw := hw.2 hc
      exact fx_vret C F d_M_extension_85 (Or.inl ⟨rfl, hw⟩)
  · replace hw := hw.2 hc
    refine lv_aload_n C.ex C.by d_M_extension_44 rfl (lv_at hv 0 rfl) ?_
    refine lv_aload_n C.ex C.by d_M_extension_45 rfl (lv_at hv 0 rfl) ?_
    refine lv_aload_n C.ex C.by d_M_extension_46 rfl (lv_at hv 0 rfl) ?_
    obtain ⟨b2, hb2, hw⟩ := hw
    refine fx_getR C F lf_M_44 hk1 rfl hb2 d_M_extension_47 ?_
    refine lv_iload C.ex C.by d_M_extension_50 (lv_at hv 4 rfl) ?_
    obtain ⟨hk3, hw⟩ := hw
    obtain ⟨hi2, hw⟩ := hw
    refine fx_iald C F hk3 hi2 d_M_extension_52 ?_
    refine lv_iload_n C.ex C.by d_M_extension_53 rfl (lv_at hv 2 rfl) ?_
    refine lv_iload C.ex C.by d_M_extension_54 (lv_at hv 3 rfl) ?_
    refine lv_iload_n C.ex C.by d_M_extension_56 rfl (lv_at hv 2 rfl) ?_
    refine lv_isub C.ex C.by d_M_extension_57 ?_
    refine fx_callZ C F (c_M_alike hl hw) hm_M_alike hi_M_alike hv.1 (by decide) (Nat.le_of_ble_eq_true rfl) (iv_M_alike C F lm_M_210 hk1 d_M_extension_58) (fx_out0 _) fx_eno (fun v2 h4 H locs cells slots hw hx2 hzb F => ?_)
    replace hw := hw hx2 hzb
    have hk3 := (hx2).gi hk3
    have hk1 := (hx2).k hk1
    refine lv_if_ne C.ex C.by d_M_extension_61 rfl (fun hc => ?_) (fun hc => ?_)
    · replace hw := hw.1 hc
      refine lv_iconst (v := (0 : Int32)) C.ex C.by d_M_extension_68 (by decide) ?_
      exact b_M_extension_69 C hl _ _ _ _ _ _ _ _ hX35 hw _ _ _ _ _ hv F
    · replace hw := hw.2 hc
      refine lv_iconst (v := (1 : Int32)) C.ex C.by d_M_extension_64 (by decide) ?_
      refine lv_goto C.ex C.by d_M_extension_65 rfl ?_
      exact b_M_extension_69 C hl _ _ _ _ _ _ _ _ hX35 hw _ _ _ _ _ hv F
theorem b_M_extension_0 {p : Program} {l : Launch} {e : Env} {R : Room} {s : State} {m : MethodId} {args : Array Value} {below : List Frame} {meth : Method} {c : Code} {D : DD} {h0 : AH} {Q : AH → Prop} (C : fx_CX D y_M_extension prog_15_method_32_code 8 4 62 (none) [] h0 p R s m meth c) (hl : l.flags = flags0) (r0 : Nat) (x1 : Int32) (h : AH) (hw : m_M_extension Q r0 x1 h) : ∀ (ls : Array Slot) (H : Heap) (locs : List Loc) (cells slots : Nat), lv_has ls 8 [(0, .ref r0), (1, .int x1)] → fx_F D h0 h H locs cells slots → W p l e R s m args below meth c H locs cells slots (fx_Z D below s h0 (fx_oV Q fx_no)) (F0 m 0 ls []) := by
  unfold m_M_extension at hw
  intro ls H locs cells slots hv F
  refine lv_aload_n C.ex C.by d_M_extension_0 rfl (lv_at hv 0 rfl) ?_
  refine lv_bipush (v := (48 : Int32)) C.ex C.by d_M_extension_1 (by decide) ?_
  refine lv_iload_n C.ex C.by d_M_extension_3 rfl (lv_at hv 1 rfl) ?_
  obtain ⟨hk1, hw⟩ := hw
  refine fx_callI C F (c_M_open hl hw) hm_M_open hi_M_open hv.1 (by decide) (Nat.le_of_ble_eq_true rfl) (iv_M_open C F lm_M_140 hk1 d_M_extension_4) (fx_out0 _) fx_eno (fun v1 h1 H locs cells slots hw hx1 F => ?_)
  replace hw := hw hx1
  have hk1 := (hx1).k hk1
  refine lv_istore_n (lv' := [(2, .int v1), (0, .ref r0), (1, .int x1)]) C.ex C.by d_M_extension_7 rfl hv (by decide) rfl (fun ls hv => ?_)
  refine lv_aload_n C.ex C.by d_M_extension_8 rfl (lv_at hv 1 rfl) ?_
  refine fx_getI C F lf_M_128 hk1 rfl d_M_extension_9 ?_
  let v2 : Int32 := (hp_I h1 r0 20)
  replace hw := hw v2 rfl
  refine lv_istore_n (lv' := [(3, .int v2), (2, .int v1), (0, .ref r0), (1, .int x1)]) C.ex C.by d_M_extension_12 rfl hv (by decide) rfl (fun ls hv => ?_)
  refine lv_aload_n C.ex C.by d_M_extension_13 rfl (lv_at hv 2 rfl) ?_
  refine lv_iload_n C.ex C.by d_M_extension_14 rfl (lv_at hv 1 rfl) ?_
  refine fx_callV C F (c_M_oid hl hw) hm_M_oid hi_M_oid hv.1 (by decide) (Nat.le_of_ble_eq_true rfl) (iv_M_oid C F lm_M_155 hk1 d_M_extension_15) (fx_out0 _) fx_eno (fun h2 H locs cells slots hw hx2 F => ?_)
  replace hw := hw hx2
  have hk1 := (hx2).k hk1
  refine lv_aload_n C.ex C.by d_M_extension_18 rfl (lv_at hv 2 rfl) ?_
  refine fx_getI C F lf_M_124 hk1 rfl d_M_extension_19 ?_
  refine lv_if_eq C.ex C.by d_M_extension_22 rfl (fun hc => ?_) (fun hc => ?_)
  · replace hw := hw.1 hc
    refine lv_aload_n C.ex C.by d_M_extension_26 rfl (lv_at hv 2 rfl) ?_
    refine fx_getI C F lf_M_128 hk1 rfl d_M_extension_27 ?_
    let v3 : Int32 := (hp_I h2 r0 20)
    replace hw := hw v3 rfl
    refine lv_istore (lv' := [(4, .int v3), (3, .int v2), (2, .int v1), (0, .ref r0), (1, .int x1)]) C.ex C.by d_M_extension_30 hv (by decide) rfl (fun ls hv => ?_)
    refine lv_iconst (v := (0 : Int32)) C.ex C.by d_M_extension_32 (by decide) ?_
    refine lv_istore (lv' := [(5, .int (0 : Int32)), (4, .int v3), (3, .int v2), (2, .int v1), (0, .ref r0), (1, .int x1)]) C.ex C.by d_M_extension_33 hv (by decide) rfl (fun ls hv => ?_)
    exact b_M_extension_35 C hl _ _ _ _ _ _ hw _ _ _ _ _ (lv_sub hv [4, 3, 2, 1, 0] rfl) F
  · replace hw := hw.2 hc
    exact fx_vret C F d_M_extension_25 (Or.inl ⟨rfl, hw⟩)
theorem hm_M_extension : fx_hd y_M_extension prog_15_method_32_code 8 (none) [] ∈ tables_1 := (fx_m7 (List.mem_of_getElem? (i := 42) rfl))
theorem hi_M_extension : Cond.initialized y_M_extension.cls ∈ tables_1 := (fx_m1 (List.mem_of_getElem? (i := 15) rfl))
theorem c_M_extension {l : Launch} (hl : l.flags = flags0) {D : DD} {Q : AH → Prop} {r0 : Nat} {x1 : Int32} {h : AH} (hw : m_M_extension Q r0 x1 h) : fx_Mt l D y_M_extension (fx_hd y_M_extension prog_15_method_32_code 8 (none) []) 4 62 [.ref r0, .int x1] h (fx_oV Q fx_no) := by
  refine fx_ofW (plainFor_of_name (by decide)) (fun p e s m below meth c C F => ?_)
  have hv := lv_entry ([.ref r0, .int x1]) (n := 8) (Nat.le_of_ble_eq_true rfl)
  rw [lg_entry_eq]
  generalize (lg_sl ([.ref r0, .int x1]) ++ List.replicate (8 - (lg_sl ([.ref r0, .int x1])).length) Slot.unset).toArray = ls at hv ⊢
  have hv : lv_has ls 8 [(0, .ref r0), (1, .int x1)] := hv
  exact b_M_extension_0 C hl _ _ _ hw _ _ _ _ _ hv F
/-! ChainJudgeModel.body(I)V: frames 5, words 81 -/
abbrev y_M_body : MethodName := ⟨"ChainJudgeModel", "body", "(I)V"⟩
theorem lf_M_243 : fx_Lk "ChainJudgeModel" 243 12 37 := fx_Lk.mk (C := "ChainJudgeModel") (T := fx_T12) (N := 57) rfl (by decide) (by decide) (fx_m6 (List.mem_of_getElem? (i := 43) rfl))
theorem lf_M_249 : fx_Lk "ChainJudgeModel" 249 12 38 := fx_Lk.mk (C := "ChainJudgeModel") (T := fx_T12) (N := 57) rfl (by decide) (by decide) (fx_m6 (List.mem_of_getElem? (i := 44) rfl))
theorem lf_M_255 : fx_Lk "ChainJudgeModel" 255 12 23 := fx_Lk.mk (C := "ChainJudgeModel") (T := fx_T12) (N := 57) rfl (by decide) (by decide) (fx_m6 (List.mem_of_getElem? (i := 29) rfl))
theorem lf_M_259 : fx_Lk "ChainJudgeModel" 259 12 24 := fx_Lk.mk (C := "ChainJudgeModel") (T := fx_T12) (N := 57) rfl (by decide) (by decide) (fx_m6 (List.mem_of_getElem? (i := 30) rfl))
theorem lf_M_262 : fx_Lk "ChainJudgeModel" 262 12 39 := fx_Lk.mk (C := "ChainJudgeModel") (T := fx_T12) (N := 57) rfl (by decide) (by decide) (fx_m6 (List.mem_of_getElem? (i := 45) rfl))
theorem lf_M_265 : fx_Lk "ChainJudgeModel" 265 12 31 := fx_Lk.mk (C := "ChainJudgeModel") (T := fx_T12) (N := 57) rfl (by decide) (by decide) (fx_m6 (List.mem_of_getElem? (i := 37) rfl))
theorem lf_M_268 : fx_Lk "ChainJudgeModel" 268 12 40 := fx_Lk.mk (C := "ChainJudgeModel") (T := fx_T12) (N := 57) rfl (by decide) (by decide) (fx_m6 (List.mem_of_getElem? (i := 46) rfl))
theorem lm_M_241 : Cond.methodLink "ChainJudgeModel" 241 y_M_serial ∈ tables_1 ∨ ∃ host, Cond.methodLinkNest "ChainJudgeModel" 241 y_M_serial host ∈ tables_1 := Or.inl (fx_m6 (List.mem_of_getElem? (i := 227) rfl))
theorem lm_M_246 : Cond.methodLink "ChainJudgeModel" 246 y_M_name ∈ tables_1 ∨ ∃ host, Cond.methodLinkNest "ChainJudgeModel" 246 y_M_name host ∈ tables_1 := Or.inl (fx_m7 (List.mem_of_getElem? (i := 2) rfl))
theorem lm_M_252 : Cond.methodLink "ChainJudgeModel" 252 y_M_time ∈ tables_1 ∨ ∃ host, Cond.methodLinkNest "ChainJudgeModel" 252 y_M_time host ∈ tables_1 := Or.inl (fx_m7 (List.mem_of_getElem? (i := 10) rfl))
theorem lm_M_271 : Cond.methodLink "ChainJudgeModel" 271 y_M_key_I ∈ tables_1 ∨ ∃ host, Cond.methodLinkNest "ChainJudgeModel" 271 y_M_key_I host ∈ tables_1 := Or.inl (fx_m7 (List.mem_of_getElem? (i := 31) rfl))
theorem lm_M_274 : Cond.methodLink "ChainJudgeModel" 274 y_M_extension ∈ tables_1 ∨ ∃ host, Cond.methodLinkNest "ChainJudgeModel" 274 y_M_extension host ∈ tables_1 := Or.inl (fx_m7 (List.mem_of_getElem? (i := 39) rfl))
section
variable {p : Program} {l : Launch} {e : Env} {R : Room} {s : State} {m : MethodId} {args : Array Value} {below : List Frame} {meth : Method} {c : Code} {H : Heap} {locs : List Loc} {cells slots : Nat}
variable {D : DD} {y : MethodName} {cc : ByteArray} {nL kf kw : Nat} {ret : Option FieldType} {hh : List (Nat × Nat × Nat × Nat)} {h0 h : AH} {pc : Nat} {ls : Array Slot} {rest : List Value} {b idx : Nat}
theorem iv_M_extension {x1 : Int32} (C : fx_CX D y cc nL kf kw ret hh h0 p R s m meth c) (F : fx_F D h0 h H locs cells slots) (hw1 : Cond.methodLink y.cls idx y_M_extension ∈ tables_1 ∨ ∃ host, Cond.methodLinkNest y.cls idx y_M_extension host ∈ tables_1) (hk : hp_k h b = 13) (hd : decode cc pc = .ok (.invokevirtual idx, 3)) : fx_IV p l e R s m args below meth c H locs cells slots (F0 m pc ls (.int x1 :: .ref b :: rest)) rest y_M_extension [.ref b, .int x1] 3 := fun T hT X => fx_invV (As := [.int x1]) (Cn := "ChainJudgeModel") C X hw1 (fx_m7 (List.mem_of_getElem? (i := 41) rfl)) (fx_selP C ⟨by decide, by decide⟩ (fx_m5 (List.mem_of_getElem? (i := 217) rfl)) (fx_m7 (List.mem_of_getElem? (i := 40) rfl)) (fx_m7 (List.mem_of_getElem? (i := 41) rfl))) hm_M_extension ⟨by decide, by decide⟩ (by rw [hT]; exact fx_clsO (ci := 12) (r := ("ChainJudgeModel", fx_T12, 57)) C F rfl (by decide) hk) rfl (n := 1) (by decide +kernel) rfl rfl hd
theorem iv_M_key_I {x1 : Int32} (C : fx_CX D y cc nL kf kw ret hh h0 p R s m meth c) (F : fx_F D h0 h H locs cells slots) (hw1 : Cond.methodLink y.cls idx y_M_key_I ∈ tables_1 ∨ ∃ host, Cond.methodLinkNest y.cls idx y_M_key_I host ∈ tables_1) (hk : hp_k h b = 13) (hd : decode cc pc = .ok (.invokevirtual idx, 3)) : fx_IV p l e R s m args below meth c H locs cells slots (F0 m pc ls (.int x1 :: .ref b :: rest)) rest y_M_key_I [.ref b, .int x1] 3 := fun T hT X => fx_invV (As := [.int x1]) (Cn := "ChainJudgeModel") C X hw1 (fx_m7 (List.mem_of_getElem? (i := 33) rfl)) (fx_selP C ⟨by decide, by decide⟩ (fx_m5 (List.mem_of_getElem? (i := 217) rfl)) (fx_m7 (List.mem_of_getElem? (i := 32) rfl)) (fx_m7 (List.mem_of_getElem? (i := 33) rfl))) hm_M_key_I ⟨by decide, by decide⟩ (by rw [hT]; exact fx_clsO (ci := 12) (r := ("ChainJudgeModel", fx_T12, 57)) C F rfl (by decide) hk) rfl (n := 1) (by decide +kernel) rfl rfl hd
theorem iv_M_name {x1 : Int32} (C : fx_CX D y cc nL kf kw ret hh h0 p R s m meth c) (F : fx_F D h0 h H locs cells slots) (hw1 : Cond.methodLink y.cls idx y_M_name ∈ tables_1 ∨ ∃ host, Cond.methodLinkNest y.cls idx y_M_name host ∈ tables_1) (hk : hp_k h b = 13) (hd : decode cc pc = .ok (.invokevirtual idx, 3)) : fx_IV p l e R s m args below meth c H locs cells slots (F0 m pc ls (.int x1 :: .ref b :: rest)) rest y_M_name [.ref b, .int x1] 3 := fun T hT X => fx_invV (As := [.int x1]) (Cn := "ChainJudgeModel") C X hw1 (fx_m7 (List.mem_of_getElem? (i := 4) rfl)) (fx_selP C ⟨by decide, by decide⟩ (fx_m5 (List.mem_of_getElem? (i := 217) rfl)) (fx_m7 (List.mem_of_getElem? (i := 3) rfl)) (fx_m7 (List.mem_of_getElem? (i := 4) rfl))) hm_M_name ⟨by decide, by decide⟩ (by rw [hT]; exact fx_clsO (ci := 12) (r := ("ChainJudgeModel", fx_T12, 57)) C F rfl (by decide) hk) rfl (n := 1) (by decide +kernel) rfl rfl hd
theorem iv_M_serial {x1 : Int32} (C : fx_CX D y cc nL kf kw ret hh h0 p R s m meth c) (F : fx_F D h0 h H locs cells slots) (hw1 : Cond.methodLink y.cls idx y_M_serial ∈ tables_1 ∨ ∃ host, Cond.methodLinkNest y.cls idx y_M_serial host ∈ tables_1) (hk : hp_k h b = 13) (hd : decode cc pc = .ok (.invokevirtual idx, 3)) : fx_IV p l e R s m args below meth c H locs cells slots (F0 m pc ls (.int x1 :: .ref b :: rest)) rest y_M_serial [.ref b, .int x1] 3 := fun T hT X => fx_invV (As := [.int x1]) (Cn := "ChainJudgeModel") C X hw1 (fx_m6 (List.mem_of_getElem? (i := 229) rfl)) (fx_selP C ⟨by decide, by decide⟩ (fx_m5 (List.mem_of_getElem? (i := 217) rfl)) (fx_m6 (List.mem_of_getElem? (i := 228) rfl)) (fx_m6 (List.mem_of_getElem? (i := 229) rfl))) hm_M_serial ⟨by decide, by decide⟩ (by rw [hT]; exact fx_clsO (ci := 12) (r := ("ChainJudgeModel", fx_T12, 57)) C F rfl (by decide) hk) rfl (n := 1) (by decide +kernel) rfl rfl hd
theorem iv_M_time {x1 : Int32} (C : fx_CX D y cc nL kf kw ret hh h0 p R s m meth c) (F : fx_F D h0 h H locs cells slots) (hw1 : Cond.methodLink y.cls idx y_M_time ∈ tables_1 ∨ ∃ host, Cond.methodLinkNest y.cls idx y_M_time host ∈ tables_1) (hk : hp_k h b = 13) (hd : decode cc pc = .ok (.invokevirtual idx, 3)) : fx_IV p l e R s m args below meth c H locs cells slots (F0 m pc ls (.int x1 :: .ref b :: rest)) rest y_M_time [.ref b, .int x1] 3 := fun T hT X => fx_invV (As := [.int x1]) (Cn := "ChainJudgeModel") C X hw1 (fx_m7 (List.mem_of_getElem? (i := 12) rfl)) (fx_selP C ⟨by decide, by decide⟩ (fx_m5 (List.mem_of_getElem? (i := 217) rfl)) (fx_m7 (List.mem_of_getElem? (i := 11) rfl)) (fx_m7 (List.mem_of_getElem? (i := 12) rfl))) hm_M_time ⟨by decide, by decide⟩ (by rw [hT]; exact fx_clsO (ci := 12) (r := ("ChainJudgeModel", fx_T12, 57)) C F rfl (by decide) hk) rfl (n := 1) (by decide +kernel) rfl rfl hd
end
def dl_M_body : List (Nat × Instr × Nat) := [(0, .aload_n 0, 1), (1, .sipush 160, 3), (4, .iload_n 1, 1), (5, .invokevirtual 140, 3), (8, .istore_n 2, 1), (9, .aload_n 0, 1), (10, .iconst 2, 1), (11, .iload_n 2, 1), (12, .invokevirtual 140, 3), (15, .istore_n 3, 1), (16, .aload_n 0, 1), (17, .getfield 124, 3), (20, .ifCond .ne 39, 3), (23, .aload_n 0, 1), (24, .iload_n 3, 1), (25, .iload_n 2, 1), (26, .if_icmp .ne 29, 3), (29, .iload_n 3, 1), (30, .aload_n 0, 1), (31, .getfield 128, 3), (34, .isub, 1), (35, .iconst 1, 1), (36, .if_icmp .ne 19, 3), (39, .aload_n 0, 1), (40, .aload_n 0, 1), (41, .getfield 128, 3), (44, .invokevirtual 131, 3), (47, .iconst 2, 1), (48, .if_icmp .ne 7, 3), (51, .iconst 1, 1), (52, .goto 4, 3), (55, .iconst 0, 1), (56, .invokevirtual 143, 3), (59, .aload_n 0, 1), (60, .aload_n 0, 1), (61, .getfield 124, 3), (64, .ifCond .eq 10, 3), (67, .aload_n 0, 1), (68, .getfield 128, 3), (71, .goto 4, 3), (74, .iload_n 2, 1), (75, .putfield 128, 3), (78, .aload_n 0, 1), (79, .iload_n 1, 1), (80, .invokevirtual 241, 3), (83, .aload_n 0, 1), (84, .iload_n 1, 1), (85, .invokevirtual 232, 3), (88, .aload_n 0, 1), (89, .aload_n 0, 1), (90, .getfield 128, 3), (93, .putfield 243, 3), (96, .aload_n 0, 1), (97, .iload_n 1, 1), (98, .invokevirtual 246, 3), (101, .pop, 1), (102, .aload_n 0, 1), (103, .aload_n 0, 1), (104, .getfield 128, 3), (107, .putfield 249, 3), (110, .aload_n 0, 1), (111, .bipush 48, 2), (113, .iload_n 1, 1), (114, .invokevirtual 140, 3), (117, .istore 4, 2), (119, .aload_n 0, 1), (120, .aload_n 0, 1), (121, .iload 4, 2), (123, .invokevirtual 252, 3), (126, .putfield 255, 3), (129, .aload_n 0, 1), (130, .aload_n 0, 1), (131, .iload 4, 2), (133, .invokevirtual 252, 3), (136, .putfield 259, 3), (139, .aload_n 0, 1), (140, .getfield 124, 3), (143, .ifCond .ne 21, 3), (146, .aload_n 0, 1), (147, .aload_n 0, 1), (148, .getfield 128, 3), (151, .iload 4, 2), (153, .if_icmp .ne 7, 3), (156, .iconst 1, 1), (157, .goto 4, 3), (160, .iconst 0, 1), (161, .invokevirtual 143, 3), (164, .aload_n 0, 1), (165, .aload_n 0, 1), (166, .getfield 128, 3), (169, .putfield 262, 3), (172, .aload_n 0, 1), (173, .aload_n 0, 1), (174, .iload_n 1, 1), (175, .invokevirtual 246, 3), (178, .putfield 265, 3), (181, .aload_n 0, 1), (182, .aload_n 0, 1), (183, .getfield 128, 3), (186, .putfield 268, 3), (189, .aload_n 0, 1), (190, .iload_n 1, 1), (191, .invokevirtual 271, 3), (194, .aload_n 0, 1), (195, .getfield 124, 3), (198, .ifCond .ne 11, 3), (201, .aload_n 0, 1), (202, .getfield 128, 3), (205, .iload_n 1, 1), (206, .if_icmp .ne 4, 3), (209, .return_, 1), (210, .aload_n 0, 1), (211, .sipush 163, 3), (214, .iload_n 1, 1), (215, .invokevirtual 140, 3), (218, .istore 5, 2), (220, .aload_n 0, 1), (221, .bipush 48, 2), (223, .iload 5, 2), (225, .invokevirtual 140, 3), (228, .istore 6, 2), (230, .aload_n 0, 1), (231, .getfield 124, 3), (234, .ifCond .eq 4, 3), (237, .return_, 1), (238, .aload_n 0, 1), (239, .iload 5, 2), (241, .iload_n 1, 1), (242, .if_icmp .ne 23, 3), (245, .iload 6, 2), (247, .iload 5, 2), (249, .if_icmp .ne 16, 3), (252, .aload_n 0, 1), (253, .getfield 128, 3), (256, .iload 6, 2), (258, .if_icmp .ge 7, 3), (261, .iconst 1, 1), (262, .goto 4, 3), (265, .iconst 0, 1), (266, .invokevirtual 143, 3), (269, .aload_n 0, 1), (270, .getfield 124, 3), (273, .ifCond .ne 21, 3), (276, .aload_n 0, 1), (277, .getfield 128, 3), (280, .iload 6, 2), (282, .if_icmp .ge 12, 3), (285, .aload_n 0, 1), (286, .iload 6, 2), (288, .invokevirtual 274, 3), (291, .goto (-22), 3), (294, .return_, 1)]
theorem dk_M_body : fx_dec prog_15_method_37_code dl_M_body = true := by decide +kernel
theorem d_M_body_0 : decode prog_15_method_37_code 0 = .ok (.aload_n 0, 1) := fx_dat dk_M_body 0 rfl
theorem d_M_body_1 : decode prog_15_method_37_code 1 = .ok (.sipush 160, 3) := fx_dat dk_M_body 1 rfl
theorem d_M_body_4 : decode prog_15_method_37_code 4 = .ok (.iload_n 1, 1) := fx_dat dk_M_body 2 rfl
theorem d_M_body_5 : decode prog_15_method_37_code 5 = .ok (.invokevirtual 140, 3) := fx_dat dk_M_body 3 rfl
theorem d_M_body_8 : decode prog_15_method_37_code 8 = .ok (.istore_n 2, 1) := fx_dat dk_M_body 4 rfl
theorem d_M_body_9 : decode prog_15_method_37_code 9 = .ok (.aload_n 0, 1) := fx_dat dk_M_body 5 rfl
theorem d_M_body_10 : decode prog_15_method_37_code 10 = .ok (.iconst 2, 1) := fx_dat dk_M_body 6 rfl
theorem d_M_body_11 : decode prog_15_method_37_code 11 = .ok (.iload_n 2, 1) := fx_dat dk_M_body 7 rfl
theorem d_M_body_12 : decode prog_15_method_37_code 12 = .ok (.invokevirtual 140, 3) := fx_dat dk_M_body 8 rfl
theorem d_M_body_15 : decode prog_15_method_37_code 15 = .ok (.istore_n 3, 1) := fx_dat dk_M_body 9 rfl
theorem d_M_body_16 : decode prog_15_method_37_code 16 = .ok (.aload_n 0, 1) := fx_dat dk_M_body 10 rfl
theorem d_M_body_17 : decode prog_15_method_37_code 17 = .ok (.getfield 124, 3) := fx_dat dk_M_body 11 rfl
theorem d_M_body_20 : decode prog_15_method_37_code 20 = .ok (.ifCond .ne 39, 3) := fx_dat dk_M_body 12 rfl
theorem d_M_body_23 : decode prog_15_method_37_code 23 = .ok (.aload_n 0, 1) := fx_dat dk_M_body 13 rfl
theorem d_M_body_24 : decode prog_15_method_37_code 24 = .ok (.iload_n 3, 1) := fx_dat dk_M_body 14 rfl
theorem d_M_body_25 : decode prog_15_method_37_code 25 = .ok (.iload_n 2, 1) := fx_dat dk_M_body 15 rfl
theorem d_M_body_26 : decode prog_15_method_37_code 26 = .ok (.if_icmp .ne 29, 3) := fx_dat dk_M_body 16 rfl
theorem d_M_body_29 : decode prog_15_method_37_code 29 = .ok (.iload_n 3, 1) := fx_dat dk_M_body 17 rfl
theorem d_M_body_30 : decode prog_15_method_37_code 30 = .ok (.aload_n 0, 1) := fx_dat dk_M_body 18 rfl
theorem d_M_body_31 : decode prog_15_method_37_code 31 = .ok (.getfield 128, 3) := fx_dat dk_M_body 19 rfl
theorem d_M_body_34 : decode prog_15_method_37_code 34 = .ok (.isub, 1) := fx_dat dk_M_body 20 rfl
theorem d_M_body_35 : decode prog_15_method_37_code 35 = .ok (.iconst 1, 1) := fx_dat dk_M_body 21 rfl
theorem d_M_body_36 : decode prog_15_method_37_code 36 = .ok (.if_icmp .ne 19, 3) := fx_dat dk_M_body 22 rfl
theorem d_M_body_39 : decode prog_15_method_37_code 39 = .ok (.aload_n 0, 1) := fx_dat dk_M_body 23 rfl
theorem d_M_body_40 : decode prog_15_method_37_code 40 = .ok (.aload_n 0, 1) := fx_dat dk_M_body 24 rfl
theorem d_M_body_41 : decode prog_15_method_37_code 41 = .ok (.getfield 128, 3) := fx_dat dk_M_body 25 rfl
theorem d_M_body_44 : decode prog_15_method_37_code 44 = .ok (.invokevirtual 131, 3) := fx_dat dk_M_body 26 rfl
theorem d_M_body_47 : decode prog_15_method_37_code 47 = .ok (.iconst 2, 1) := fx_dat dk_M_body 27 rfl
theorem d_M_body_48 : decode prog_15_method_37_code 48 = .ok (.if_icmp .ne 7, 3) := fx_dat dk_M_body 28 rfl
theorem d_M_body_51 : decode prog_15_method_37_code 51 = .ok (.iconst 1, 1) := fx_dat dk_M_body 29 rfl
theorem d_M_body_52 : decode prog_15_method_37_code 52 = .ok (.goto 4, 3) := fx_dat dk_M_body 30 rfl
theorem d_M_body_55 : decode prog_15_method_37_code 55 = .ok (.iconst 0, 1) := fx_dat dk_M_body 31 rfl
theorem d_M_body_56 : decode prog_15_method_37_code 56 = .ok (.invokevirtual 143, 3) := fx_dat dk_M_body 32 rfl
theorem d_M_body_59 : decode prog_15_method_37_code 59 = .ok (.aload_n 0, 1) := fx_dat dk_M_body 33 rfl
theorem d_M_body_60 : decode prog_15_method_37_code 60 = .ok (.aload_n 0, 1) := fx_dat dk_M_body 34 rfl
theorem d_M_body_61 : decode prog_15_method_37_code 61 = .ok (.getfield 124, 3) := fx_dat dk_M_body 35 rfl
theorem d_M_body_64 : decode prog_15_method_37_code 64 = .ok (.ifCond .eq 10, 3) := fx_dat dk_M_body 36 rfl
theorem d_M_body_67 : decode prog_15_method_37_code 67 = .ok (.aload_n 0, 1) := fx_dat dk_M_body 37 rfl
theorem d_M_body_68 : decode prog_15_method_37_code 68 = .ok (.getfield 128, 3) := fx_dat dk_M_body 38 rfl
theorem d_M_body_71 : decode prog_15_method_37_code 71 = .ok (.goto 4, 3) := fx_dat dk_M_body 39 rfl
theorem d_M_body_74 : decode prog_15_method_37_code 74 = .ok (.iload_n 2, 1) := fx_dat dk_M_body 40 rfl
theorem d_M_body_75 : decode prog_15_method_37_code 75 = .ok (.putfield 128, 3) := fx_dat dk_M_body 41 rfl
theorem d_M_body_78 : decode prog_15_method_37_code 78 = .ok (.aload_n 0, 1) := fx_dat dk_M_body 42 rfl
theorem d_M_body_79 : decode prog_15_method_37_code 79 = .ok (.iload_n 1, 1) := fx_dat dk_M_body 43 rfl
theorem d_M_body_80 : decode prog_15_method_37_code 80 = .ok (.invokevirtual 241, 3) := fx_dat dk_M_body 44 rfl
theorem d_M_body_83 : decode prog_15_method_37_code 83 = .ok (.aload_n 0, 1) := fx_dat dk_M_body 45 rfl
theorem d_M_body_84 : decode prog_15_method_37_code 84 = .ok (.iload_n 1, 1) := fx_dat dk_M_body 46 rfl
theorem d_M_body_85 : decode prog_15_method_37_code 85 = .ok (.invokevirtual 232, 3) := fx_dat dk_M_body 47 rfl
theorem d_M_body_88 : decode prog_15_method_37_code 88 = .ok (.aload_n 0, 1) := fx_dat dk_M_body 48 rfl
theorem d_M_body_89 : decode prog_15_method_37_code 89 = .ok (.aload_n 0, 1) := fx_dat dk_M_body 49 rfl
theorem d_M_body_90 : decode prog_15_method_37_code 90 = .ok (.getfield 128, 3) := fx_dat dk_M_body 50 rfl
theorem d_M_body_93 : decode prog_15_method_37_code 93 = .ok (.putfield 243, 3) := fx_dat dk_M_body 51 rfl
theorem d_M_body_96 : decode prog_15_method_37_code 96 = .ok (.aload_n 0, 1) := fx_dat dk_M_body 52 rfl
theorem d_M_body_97 : decode prog_15_method_37_code 97 = .ok (.iload_n 1, 1) := fx_dat dk_M_body 53 rfl
theorem d_M_body_98 : decode prog_15_method_37_code 98 = .ok (.invokevirtual 246, 3) := fx_dat dk_M_body 54 rfl
theorem d_M_body_101 : decode prog_15_method_37_code 101 = .ok (.pop, 1) := fx_dat dk_M_body 55 rfl
theorem d_M_body_102 : decode prog_15_method_37_code 102 = .ok (.aload_n 0, 1) := fx_dat dk_M_body 56 rfl
theorem d_M_body_103 : decode prog_15_method_37_code 103 = .ok (.aload_n 0, 1) := fx_dat dk_M_body 57 rfl
theorem d_M_body_104 : decode prog_15_method_37_code 104 = .ok (.getfield 128, 3) := fx_dat dk_M_body 58 rfl
theorem d_M_body_107 : decode prog_15_method_37_code 107 = .ok (.putfield 249, 3) := fx_dat dk_M_body 59 rfl
theorem d_M_body_110 : decode prog_15_method_37_code 110 = .ok (.aload_n 0, 1) := fx_dat dk_M_body 60 rfl
theorem d_M_body_111 : decode prog_15_method_37_code 111 = .ok (.bipush 48, 2) := fx_dat dk_M_body 61 rfl
theorem d_M_body_113 : decode prog_15_method_37_code 113 = .ok (.iload_n 1, 1) := fx_dat dk_M_body 62 rfl
theorem d_M_body_114 : decode prog_15_method_37_code 114 = .ok (.invokevirtual 140, 3) := fx_dat dk_M_body 63 rfl
theorem d_M_body_117 : decode prog_15_method_37_code 117 = .ok (.istore 4, 2) := fx_dat dk_M_body 64 rfl
theorem d_M_body_119 : decode prog_15_method_37_code 119 = .ok (.aload_n 0, 1) := fx_dat dk_M_body 65 rfl
theorem d_M_body_120 : decode prog_15_method_37_code 120 = .ok (.aload_n 0, 1) := fx_dat dk_M_body 66 rfl
theorem d_M_body_121 : decode prog_15_method_37_code 121 = .ok (.iload 4, 2) := fx_dat dk_M_body 67 rfl
theorem d_M_body_123 : decode prog_15_method_37_code 123 = .ok (.invokevirtual 252, 3) := fx_dat dk_M_body 68 rfl
theorem d_M_body_126 : decode prog_15_method_37_code 126 = .ok (.putfield 255, 3) := fx_dat dk_M_body 69 rfl
theorem d_M_body_129 : decode prog_15_method_37_code 129 = .ok (.aload_n 0, 1) := fx_dat dk_M_body 70 rfl
theorem d_M_body_130 : decode prog_15_method_37_code 130 = .ok (.aload_n 0, 1) := fx_dat dk_M_body 71 rfl
theorem d_M_body_131 : decode prog_15_method_37_code 131 = .ok (.iload 4, 2) := fx_dat dk_M_body 72 rfl
theorem d_M_body_133 : decode prog_15_method_37_code 133 = .ok (.invokevirtual 252, 3) := fx_dat dk_M_body 73 rfl
theorem d_M_body_136 : decode prog_15_method_37_code 136 = .ok (.putfield 259, 3) := fx_dat dk_M_body 74 rfl
theorem d_M_body_139 : decode prog_15_method_37_code 139 = .ok (.aload_n 0, 1) := fx_dat dk_M_body 75 rfl
theorem d_M_body_140 : decode prog_15_method_37_code 140 = .ok (.getfield 124, 3) := fx_dat dk_M_body 76 rfl
theorem d_M_body_143 : decode prog_15_method_37_code 143 = .ok (.ifCond .ne 21, 3) := fx_dat dk_M_body 77 rfl
theorem d_M_body_146 : decode prog_15_method_37_code 146 = .ok (.aload_n 0, 1) := fx_dat dk_M_body 78 rfl
theorem d_M_body_147 : decode prog_15_method_37_code 147 = .ok (.aload_n 0, 1) := fx_dat dk_M_body 79 rfl
theorem d_M_body_148 : decode prog_15_method_37_code 148 = .ok (.getfield 128, 3) := fx_dat dk_M_body 80 rfl
theorem d_M_body_151 : decode prog_15_method_37_code 151 = .ok (.iload 4, 2) := fx_dat dk_M_body 81 rfl
theorem d_M_body_153 : decode prog_15_method_37_code 153 = .ok (.if_icmp .ne 7, 3) := fx_dat dk_M_body 82 rfl
theorem d_M_body_156 : decode prog_15_method_37_code 156 = .ok (.iconst 1, 1) := fx_dat dk_M_body 83 rfl
theorem d_M_body_157 : decode prog_15_method_37_code 157 = .ok (.goto 4, 3) := fx_dat dk_M_body 84 rfl
theorem d_M_body_160 : decode prog_15_method_37_code 160 = .ok (.iconst 0, 1) := fx_dat dk_M_body 85 rfl
theorem d_M_body_161 : decode prog_15_method_37_code 161 = .ok (.invokevirtual 143, 3) := fx_dat dk_M_body 86 rfl
theorem d_M_body_164 : decode prog_15_method_37_code 164 = .ok (.aload_n 0, 1) := fx_dat dk_M_body 87 rfl
theorem d_M_body_165 : decode prog_15_method_37_code 165 = .ok (.aload_n 0, 1) := fx_dat dk_M_body 88 rfl
theorem d_M_body_166 : decode prog_15_method_37_code 166 = .ok (.getfield 128, 3) := fx_dat dk_M_body 89 rfl
theorem d_M_body_169 : decode prog_15_method_37_code 169 = .ok (.putfield 262, 3) := fx_dat dk_M_body 90 rfl
theorem d_M_body_172 : decode prog_15_method_37_code 172 = .ok (.aload_n 0, 1) := fx_dat dk_M_body 91 rfl
theorem d_M_body_173 : decode prog_15_method_37_code 173 = .ok (.aload_n 0, 1) := fx_dat dk_M_body 92 rfl
theorem d_M_body_174 : decode prog_15_method_37_code 174 = .ok (.iload_n 1, 1) := fx_dat dk_M_body 93 rfl
theorem d_M_body_175 : decode prog_15_method_37_code 175 = .ok (.invokevirtual 246, 3) := fx_dat dk_M_body 94 rfl
theorem d_M_body_178 : decode prog_15_method_37_code 178 = .ok (.putfield 265, 3) := fx_dat dk_M_body 95 rfl
theorem d_M_body_181 : decode prog_15_method_37_code 181 = .ok (.aload_n 0, 1) := fx_dat dk_M_body 96 rfl
theorem d_M_body_182 : decode prog_15_method_37_code 182 = .ok (.aload_n 0, 1) := fx_dat dk_M_body 97 rfl
theorem d_M_body_183 : decode prog_15_method_37_code 183 = .ok (.getfield 128, 3) := fx_dat dk_M_body 98 rfl
theorem d_M_body_186 : decode prog_15_method_37_code 186 = .ok (.putfield 268, 3) := fx_dat dk_M_body 99 rfl
theorem d_M_body_189 : decode prog_15_method_37_code 189 = .ok (.aload_n 0, 1) := fx_dat dk_M_body 100 rfl
theorem d_M_body_190 : decode prog_15_method_37_code 190 = .ok (.iload_n 1, 1) := fx_dat dk_M_body 101 rfl
theorem d_M_body_191 : decode prog_15_method_37_code 191 = .ok (.invokevirtual 271, 3) := fx_dat dk_M_body 102 rfl
theorem d_M_body_194 : decode prog_15_method_37_code 194 = .ok (.aload_n 0, 1) := fx_dat dk_M_body 103 rfl
theorem d_M_body_195 : decode prog_15_method_37_code 195 = .ok (.getfield 124, 3) := fx_dat dk_M_body 104 rfl
theorem d_M_body_198 : decode prog_15_method_37_code 198 = .ok (.ifCond .ne 11, 3) := fx_dat dk_M_body 105 rfl
theorem d_M_body_201 : decode prog_15_method_37_code 201 = .ok (.aload_n 0, 1) := fx_dat dk_M_body 106 rfl
theorem d_M_body_202 : decode prog_15_method_37_code 202 = .ok (.getfield 128, 3) := fx_dat dk_M_body 107 rfl
theorem d_M_body_205 : decode prog_15_method_37_code 205 = .ok (.iload_n 1, 1) := fx_dat dk_M_body 108 rfl
theorem d_M_body_206 : decode prog_15_method_37_code 206 = .ok (.if_icmp .ne 4, 3) := fx_dat dk_M_body 109 rfl
theorem d_M_body_209 : decode prog_15_method_37_code 209 = .ok (.return_, 1) := fx_dat dk_M_body 110 rfl
theorem d_M_body_210 : decode prog_15_method_37_code 210 = .ok (.aload_n 0, 1) := fx_dat dk_M_body 111 rfl
theorem d_M_body_211 : decode prog_15_method_37_code 211 = .ok (.sipush 163, 3) := fx_dat dk_M_body 112 rfl
theorem d_M_body_214 : decode prog_15_method_37_code 214 = .ok (.iload_n 1, 1) := fx_dat dk_M_body 113 rfl
theorem d_M_body_215 : decode prog_15_method_37_code 215 = .ok (.invokevirtual 140, 3) := fx_dat dk_M_body 114 rfl
theorem d_M_body_218 : decode prog_15_method_37_code 218 = .ok (.istore 5, 2) := fx_dat dk_M_body 115 rfl
theorem d_M_body_220 : decode prog_15_method_37_code 220 = .ok (.aload_n 0, 1) := fx_dat dk_M_body 116 rfl
theorem d_M_body_221 : decode prog_15_method_37_code 221 = .ok (.bipush 48, 2) := fx_dat dk_M_body 117 rfl
theorem d_M_body_223 : decode prog_15_method_37_code 223 = .ok (.iload 5, 2) := fx_dat dk_M_body 118 rfl
theorem d_M_body_225 : decode prog_15_method_37_code 225 = .ok (.invokevirtual 140, 3) := fx_dat dk_M_body 119 rfl
theorem d_M_body_228 : decode prog_15_method_37_code 228 = .ok (.istore 6, 2) := fx_dat dk_M_body 120 rfl
theorem d_M_body_230 : decode prog_15_method_37_code 230 = .ok (.aload_n 0, 1) := fx_dat dk_M_body 121 rfl
theorem d_M_body_231 : decode prog_15_method_37_code 231 = .ok (.getfield 124, 3) := fx_dat dk_M_body 122 rfl
theorem d_M_body_234 : decode prog_15_method_37_code 234 = .ok (.ifCond .eq 4, 3) := fx_dat dk_M_body 123 rfl
theorem d_M_body_237 : decode prog_15_method_37_code 237 = .ok (.return_, 1) := fx_dat dk_M_body 124 rfl
theorem d_M_body_238 : decode prog_15_method_37_code 238 = .ok (.aload_n 0, 1) := fx_dat dk_M_body 125 rfl
theorem d_M_body_239 : decode prog_15_method_37_code 239 = .ok (.iload 5, 2) := fx_dat dk_M_body 126 rfl
theorem d_M_body_241 : decode prog_15_method_37_code 241 = .ok (.iload_n 1, 1) := fx_dat dk_M_body 127 rfl
theorem d_M_body_242 : decode prog_15_method_37_code 242 = .ok (.if_icmp .ne 23, 3) := fx_dat dk_M_body 128 rfl
theorem d_M_body_245 : decode prog_15_method_37_code 245 = .ok (.iload 6, 2) := fx_dat dk_M_body 129 rfl
theorem d_M_body_247 : decode prog_15_method_37_code 247 = .ok (.iload 5, 2) := fx_dat dk_M_body 130 rfl
theorem d_M_body_249 : decode prog_15_method_37_code 249 = .ok (.if_icmp .ne 16, 3) := fx_dat dk_M_body 131 rfl
theorem d_M_body_252 : decode prog_15_method_37_code 252 = .ok (.aload_n 0, 1) := fx_dat dk_M_body 132 rfl
theorem d_M_body_253 : decode prog_15_method_37_code 253 = .ok (.getfield 128, 3) := fx_dat dk_M_body 133 rfl
theorem d_M_body_256 : decode prog_15_method_37_code 256 = .ok (.iload 6, 2) := fx_dat dk_M_body 134 rfl
theorem d_M_body_258 : decode prog_15_method_37_code 258 = .ok (.if_icmp .ge 7, 3) := fx_dat dk_M_body 135 rfl
theorem d_M_body_261 : decode prog_15_method_37_code 261 = .ok (.iconst 1, 1) := fx_dat dk_M_body 136 rfl
theorem d_M_body_262 : decode prog_15_method_37_code 262 = .ok (.goto 4, 3) := fx_dat dk_M_body 137 rfl
theorem d_M_body_265 : decode prog_15_method_37_code 265 = .ok (.iconst 0, 1) := fx_dat dk_M_body 138 rfl
theorem d_M_body_266 : decode prog_15_method_37_code 266 = .ok (.invokevirtual 143, 3) := fx_dat dk_M_body 139 rfl
theorem d_M_body_269 : decode prog_15_method_37_code 269 = .ok (.aload_n 0, 1) := fx_dat dk_M_body 140 rfl
theorem d_M_body_270 : decode prog_15_method_37_code 270 = .ok (.getfield 124, 3) := fx_dat dk_M_body 141 rfl
theorem d_M_body_273 : decode prog_15_method_37_code 273 = .ok (.ifCond .ne 21, 3) := fx_dat dk_M_body 142 rfl
theorem d_M_body_276 : decode prog_15_method_37_code 276 = .ok (.aload_n 0, 1) := fx_dat dk_M_body 143 rfl
theorem d_M_body_277 : decode prog_15_method_37_code 277 = .ok (.getfield 128, 3) := fx_dat dk_M_body 144 rfl
theorem d_M_body_280 : decode prog_15_method_37_code 280 = .ok (.iload 6, 2) := fx_dat dk_M_body 145 rfl
theorem d_M_body_282 : decode prog_15_method_37_code 282 = .ok (.if_icmp .ge 12, 3) := fx_dat dk_M_body 146 rfl
theorem d_M_body_285 : decode prog_15_method_37_code 285 = .ok (.aload_n 0, 1) := fx_dat dk_M_body 147 rfl
theorem d_M_body_286 : decode prog_15_method_37_code 286 = .ok (.iload 6, 2) := fx_dat dk_M_body 148 rfl
theorem d_M_body_288 : decode prog_15_method_37_code 288 = .ok (.invokevirtual 274, 3) := fx_dat dk_M_body 149 rfl
theorem d_M_body_291 : decode prog_15_method_37_code 291 = .ok (.goto (-22), 3) := fx_dat dk_M_body 150 rfl
theorem d_M_body_294 : decode prog_15_method_37_code 294 = .ok (.return_, 1) := fx_dat dk_M_body 151 rfl
def m_M_body_209 (Q : AH → Prop) (h : AH) : Prop := Q h
def m_M_body_294 (Q : AH → Prop) (h : AH) : Prop := Q h
def m_M_body_269_b (Q : AH → Prop) (X269 : AH → Prop) (r0 : Nat) (x6 : Int32) (h : AH) : Prop := hp_k h r0 = 13 ∧ (¬ (hp_I h r0 21) = 0 → m_M_body_294 Q h) ∧ ((hp_I h r0 21) = 0 → (x6 ≤ (hp_I h r0 20) → m_M_body_294 Q h) ∧ (¬ x6 ≤ (hp_I h r0 20) → m_M_extension (fun h1 => fx_ext h h1 → X269 h1) r0 x6 h))
def m_M_body_269 (Q : AH → Prop) (r0 : Nat) (x6 : Int32) (h : AH) : Prop := fx_loop (fun (X269 : AH → Prop) (st : AH) => m_M_body_269_b Q X269 r0 x6 st) (h)
def m_M_body_266 (Q : AH → Prop) (r0 : Nat) (x6 : Int32) (sr0 : Nat) (sx1 : Int32) (h : AH) : Prop := hp_k h sr0 = 13 ∧ m_M_need (fun h1 => fx_ext h h1 → m_M_body_269 Q r0 x6 h1) sr0 sx1 h
def m_M_body_265 (Q : AH → Prop) (r0 : Nat) (x6 : Int32) (sr0 : Nat) (h : AH) : Prop := m_M_body_266 Q r0 x6 sr0 (0 : Int32) h
def m_M_body_164 (Q : AH → Prop) (r0 : Nat) (x1 : Int32) (h : AH) : Prop := hp_k h r0 = 13 ∧ ∀ h1 : AH, h1 = up_I h r0 39 (hp_I h r0 20) → m_M_name (fun v1 h2 => fx_ext h1 h2 → ∀ h3 : AH, h3 = up_I h2 r0 31 v1 → ∀ h4 : AH, h4 = up_I h3 r0 40 (hp_I h3 r0 20) → m_M_key_I (fun h5 => fx_ext h4 h5 → (¬ (hp_I h5 r0 21) = 0 → m_M_body_209 Q h5) ∧ ((hp_I h5 r0 21) = 0 → (¬ (hp_I h5 r0 20) = x1 → m_M_open (fun v2 h6 => fx_ext h5 h6 → m_M_open (fun v3 h7 => fx_ext h6 h7 → ((hp_I h7 r0 21) = 0 → (¬ v2 = x1 → m_M_body_265 Q r0 v3 r0 h7) ∧ (v2 = x1 → (¬ v3 = v2 → m_M_body_265 Q r0 v3 r0 h7) ∧ (v3 = v2 → (v3 ≤ (hp_I h7 r0 20) → m_M_body_265 Q r0 v3 r0 h7) ∧ (¬ v3 ≤ (hp_I h7 r0 20) → m_M_body_266 Q r0 v3 r0 (1 : Int32) h7)))) ∧ (¬ (hp_I h7 r0 21) = 0 → Q h7)) r0 (48 : Int32) v2 h6) r0 (163 : Int32) x1 h5) ∧ ((hp_I h5 r0 20) = x1 → m_M_body_209 Q h5))) r0 x1 h4) r0 x1 h1
def m_M_body_161 (Q : AH → Prop) (r0 : Nat) (x1 : Int32) (sr0 : Nat) (sx1 : Int32) (h : AH) : Prop := hp_k h sr0 = 13 ∧ m_M_need (fun h1 => fx_ext h h1 → m_M_body_164 Q r0 x1 h1) sr0 sx1 h
def m_M_body_75 (Q : AH → Prop) (r0 : Nat) (x1 : Int32) (sr0 : Nat) (sx1 : Int32) (h : AH) : Prop := hp_k h sr0 = 13 ∧ ∀ h1 : AH, h1 = up_I h sr0 20 sx1 → hp_k h1 r0 = 13 ∧ m_M_serial (fun h2 => fx_ext h1 h2 → m_M_algorithm (fun h3 => fx_ext h2 h3 → ∀ h4 : AH, h4 = up_I h3 r0 37 (hp_I h3 r0 20) → m_M_name (fun v1 h5 => fx_ext h4 h5 → ∀ h6 : AH, h6 = up_I h5 r0 38 (hp_I h5 r0 20) → m_M_open (fun v2 h7 => fx_ext h6 h7 → m_M_time (fun u1 h8 => fx_ext h7 h8 → ∀ h9 : AH, h9 = up_L h8 r0 23 u1 → m_M_time (fun u2 h10 => fx_ext h9 h10 → ∀ h11 : AH, h11 = up_L h10 r0 24 u2 → (¬ (hp_I h11 r0 21) = 0 → m_M_body_164 Q r0 x1 h11) ∧ ((hp_I h11 r0 21) = 0 → (¬ (hp_I h11 r0 20) = v2 → m_M_body_161 Q r0 x1 r0 (0 : Int32) h11) ∧ ((hp_I h11 r0 20) = v2 → m_M_body_161 Q r0 x1 r0 (1 : Int32) h11))) r0 v2 h9) r0 v2 h7) r0 (48 : Int32) x1 h6) r0 x1 h4) r0 x1 h2) r0 x1 h1
def m_M_body_59 (Q : AH → Prop) (r0 : Nat) (x1 : Int32) (x2 : Int32) (h : AH) : Prop := hp_k h r0 = 13 ∧ ((hp_I h r0 21) = 0 → m_M_body_75 Q r0 x1 r0 x2 h) ∧ (¬ (hp_I h r0 21) = 0 → m_M_body_75 Q r0 x1 r0 (hp_I h r0 20) h)
def m_M_body_56 (Q : AH → Prop) (r0 : Nat) (x1 : Int32) (x2 : Int32) (sr0 : Nat) (sx1 : Int32) (h : AH) : Prop := hp_k h sr0 = 13 ∧ m_M_need (fun h1 => fx_ext h h1 → m_M_body_59 Q r0 x1 x2 h1) sr0 sx1 h
def m_M_body_55 (Q : AH → Prop) (r0 : Nat) (x1 : Int32) (x2 : Int32) (sr0 : Nat) (h : AH) : Prop := m_M_body_56 Q r0 x1 x2 sr0 (0 : Int32) h
def m_M_body (Q : AH → Prop) (r0 : Nat) (x1 : Int32) (h : AH) : Prop := hp_k h r0 = 13 ∧ m_M_open (fun v1 h1 => fx_ext h h1 → m_M_open (fun v2 h2 => fx_ext h1 h2 → (¬ (hp_I h2 r0 21) = 0 → m_M_body_59 Q r0 x1 v1 h2) ∧ ((hp_I h2 r0 21) = 0 → (¬ v2 = v1 → m_M_body_55 Q r0 x1 v1 r0 h2) ∧ (v2 = v1 → (¬ (v2 - (hp_I h2 r0 20)) = (1 : Int32) → m_M_body_55 Q r0 x1 v1 r0 h2) ∧ ((v2 - (hp_I h2 r0 20)) = (1 : Int32) → m_M_here (fun v3 h3 => fx_ext h2 h3 → (¬ v3 = (2 : Int32) → m_M_body_55 Q r0 x1 v1 r0 h3) ∧ (v3 = (2 : Int32) → m_M_body_56 Q r0 x1 v1 r0 (1 : Int32) h3)) r0 (hp_I h2 r0 20) h2)))) r0 (2 : Int32) v1 h1) r0 (160 : Int32) x1 h
theorem b_M_body_209 {p : Program} {l : Launch} {e : Env} {R : Room} {s : State} {m : MethodId} {args : Array Value} {below : List Frame} {meth : Method} {c : Code} {D : DD} {h0 : AH} {Q : AH → Prop} (C : fx_CX D y_M_body prog_15_method_37_code 7 5 81 (none) [] h0 p R s m meth c) (hl : l.flags = flags0) (h : AH) (hw : m_M_body_209 Q h) : ∀ (ls : Array Slot) (H : Heap) (locs : List Loc) (cells slots : Nat), lv_has ls 7 [] → fx_F D h0 h H locs cells slots → W p l e R s m args below meth c H locs cells slots (fx_Z D below s h0 (fx_oV Q fx_no)) (F0 m 209 ls []) := by
  unfold m_M_body_209 at hw
  intro ls H locs cells slots hv F
  exact fx_vret C F d_M_body_209 (Or.inl ⟨rfl, hw⟩)
theorem b_M_body_294 {p : Program} {l : Launch} {e : Env} {R : Room} {s : State} {m : MethodId} {args : Array Value} {below : List Frame} {meth : Method} {c : Code} {D : DD} {h0 : AH} {Q : AH → Prop} (C : fx_CX D y_M_body prog_15_method_37_code 7 5 81 (none) [] h0 p R s m meth c) (hl : l.flags = flags0) (h : AH) (hw : m_M_body_294 Q h) : ∀ (ls : Array Slot) (H : Heap) (locs : List Loc) (cells slots : Nat), lv_has ls 7 [] → fx_F D h0 h H locs cells slots → W p l e R s m args below meth c H locs cells slots (fx_Z D below s h0 (fx_oV Q fx_no)) (F0 m 294 ls []) := by
  unfold m_M_body_294 at hw
  intro ls H locs cells slots hv F
  exact fx_vret C F d_M_body_294 (Or.inl ⟨rfl, hw⟩)
theorem b_M_body_269 {p : Program} {l : Launch} {e : Env} {R : Room} {s : State} {m : MethodId} {args : Array Value} {below : List Frame} {meth : Method} {c : Code} {D : DD} {h0 : AH} {Q : AH → Prop} (C : fx_CX D y_M_body prog_15_method_37_code 7 5 81 (none) [] h0 p R s m meth c) (hl : l.flags = flags0) (r0 : Nat) (x6 : Int32) (h : AH) (hw : m_M_body_269 Q r0 x6 h) : ∀ (ls : Array Slot) (H : Heap) (locs : List Loc) (cells slots : Nat), lv_has ls 7 [(0, .ref r0), (6, .int x6)] → fx_F D h0 h H locs cells slots → W p l e R s m args below meth c H locs cells slots (fx_Z D below s h0 (fx_oV Q fx_no)) (F0 m 269 ls []) := by
  refine fx_loop.use hw (fun st => ∀ (ls : Array Slot) (H : Heap) (locs : List Loc) (cells slots : Nat), lv_has ls 7 [(0, .ref r0), (6, .int x6)] → fx_F D h0 st H locs cells slots → W p l e R s m args below meth c H locs cells slots (fx_Z D below s h0 (fx_oV Q fx_no)) (F0 m 269 ls [])) (fun X269 h hX269 hw => ?_)
  replace hw : m_M_body_269_b Q X269 r0 x6 h := hw
  unfold m_M_body_269_b at hw
  intro ls H locs cells slots hv F
  refine lv_aload_n C.ex C.by d_M_body_269 rfl (lv_at hv 0 rfl) ?_
  obtain ⟨hk1, hw⟩ := hw
  refine fx_getI C F lf_M_124 hk1 rfl d_M_body_270 ?_
  refine lv_if_ne C.ex C.by d_M_body_273 rfl (fun hc => ?_) (fun hc => ?_)
  · replace hw := hw.1 hc
    exact b_M_body_294 C hl _ hw _ _ _ _ _ (lv_sub hv [] rfl) F
  · replace hw := hw.2 hc
    refine lv_aload_n C.ex C.by d_M_body_276 rfl (lv_at hv 0 rfl) ?_
    refine fx_getI C F lf_M_128 hk1 rfl d_M_body_277 ?_
    refine lv_iload C.ex C.by d_M_body_280 (lv_at hv 1 rfl) ?_
    refine lv_icmp_ge C.ex C.by d_M_body_282 rfl (fun hc => ?_) (fun hc => ?_)
    · replace hw := hw.1 hc
      exact b_M_body_294 C hl _ hw _ _ _ _ _ (lv_sub hv [] rfl) F
    · replace hw := hw.2 hc
      refine lv_aload_n C.ex C.by d_M_body_285 rfl (lv_at hv 0 rfl) ?_
      refine lv_iload C.ex C.by d_M_body_286 (lv_at hv 1 rfl) ?_
      refine fx_callV C F (c_M_extension hl hw) hm_M_extension hi_M_extension hv.1 (by decide) (Nat.le_of_ble_eq_true rfl) (iv_M_extension C F lm_M_274 hk1 d_M_body_288) (fx_out0 _) fx_eno (fun h1 H locs cells slots hw hx1 F => ?_)
      replace hw := hw hx1
      have hk1 := (hx1).k hk1
      refine lv_goto C.ex C.by d_M_body_291 rfl ?_
      exact hX269 _ hw _ _ _ _ _ hv F
theorem b_M_body_266 {p : Program} {l : Launch} {e : Env} {R : Room} {s : State} {m : MethodId} {args : Array Value} {below : List Frame} {meth : Method} {c : Code} {D : DD} {h0 : AH} {Q : AH → Prop} (C : fx_CX D y_M_body prog_15_method_37_code 7 5 81 (none) [] h0 p R s m meth c) (hl : l.flags = flags0) (r0 : Nat) (x6 : Int32) (sr0 : Nat) (sx1 : Int32) (h : AH) (hw : m_M_body_266 Q r0 x6 sr0 sx1 h) : ∀ (ls : Array Slot) (H : Heap) (locs : List Loc) (cells slots : Nat), lv_has ls 7 [(0, .ref r0), (6, .int x6)] → fx_F D h0 h H locs cells slots → W p l e R s m args below meth c H locs cells slots (fx_Z D below s h0 (fx_oV Q fx_no)) (F0 m 266 ls [.int sx1, .ref sr0]) := by
  unfold m_M_body_266 at hw
  intro ls H locs cells slots hv F
  obtain ⟨hk1, hw⟩ := hw
  refine fx_callV C F (c_M_need hl hw) hm_M_need hi_M_need hv.1 (by decide) (Nat.le_of_ble_eq_true rfl) (iv_M_need C F lm_M_143 hk1 d_M_body_266) (fx_out0 _) fx_eno (fun h1 H locs cells slots hw hx1 F => ?_)
  replace hw := hw hx1
  have hk1 := (hx1).k hk1
  exact b_M_body_269 C hl _ _ _ hw _ _ _ _ _ hv F
theorem b_M_body_265 {p : Program} {l : Launch} {e : Env} {R : Room} {s : State} {m : MethodId} {args : Array Value} {below : List Frame} {meth : Method} {c : Code} {D : DD} {h0 : AH} {Q : AH → Prop} (C : fx_CX D y_M_body prog_15_method_37_code 7 5 81 (none) [] h0 p R s m meth c) (hl : l.flags = flags0) (r0 : Nat) (x6 : Int32) (sr0 : Nat) (h : AH) (hw : m_M_body_265 Q r0 x6 sr0 h) : ∀ (ls : Array Slot) (H : Heap) (locs : List Loc) (cells slots : Nat), lv_has ls 7 [(0, .ref r0), (6, .int x6)] → fx_F D h0 h H locs cells slots → W p l e R s m args below meth c H locs cells slots (fx_Z D below s h0 (fx_oV Q fx_no)) (F0 m 265 ls [.ref sr0]) := by
  unfold m_M_body_265 at hw
  intro ls H locs cells slots hv F
  refine lv_iconst (v := (0 : Int32)) C.ex C.by d_M_body_265 (by decide) ?_
  exact b_M_body_266 C hl _ _ _ _ _ hw _ _ _ _ _ hv F
theorem b_M_body_164 {p : Program} {l : Launch} {e : Env} {R : Room} {s : State} {m : MethodId} {args : Array Value} {below : List Frame} {meth : Method} {c : Code} {D : DD} {h0 : AH} {Q : AH → Prop} (C : fx_CX D y_M_body prog_15_method_37_code 7 5 81 (none) [] h0 p R s m meth c) (hl : l.flags = flags0) (r0 : Nat) (x1 : Int32) (h : AH) (hw : m_M_body_164 Q r0 x1 h) : ∀ (ls : Array Slot) (H : Heap) (locs : List Loc) (cells slots : Nat), lv_has ls 7 [(0, .ref r0), (1, .int x1)] → fx_F D h0 h H locs cells slots → W p l e R s m args below meth c H locs cells slots (fx_Z D below s h0 (fx_oV Q fx_no)) (F0 m 164 ls []) := by
  unfold m_M_body_164 at hw
  intro ls H locs cells slots hv F
  refine lv_aload_n C.ex C.by d_M_body_164 rfl (lv_at hv 0 rfl) ?_
  refine lv_aload_n C.ex C.by d_M_body_165 rfl (lv_at hv 0 rfl) ?_
  obtain ⟨hk1, hw⟩ := hw
  refine fx_getI C F lf_M_128 hk1 rfl d_M_body_166 ?_
  let h1 : AH := up_I h r0 39 (hp_I h r0 20)
  replace hw := hw h1 rfl
  refine fx_putI C F lf_M_262 hk1 rfl rfl (fx_mayF.no rfl rfl) d_M_body_169 (fun H locs (F : fx_F D h0 h1 H locs _ _) => ?_)
  refine lv_aload_n C.ex C.by d_M_body_172 rfl (lv_at hv 0 rfl) ?_
  refine lv_aload_n C.ex C.by d_M_body_173 rfl (lv_at hv 0 rfl) ?_
  refine lv_iload_n C.ex C.by d_M_body_174 rfl (lv_at hv 1 rfl) ?_
  refine fx_callI C F (c_M_name hl hw) hm_M_name hi_M_name hv.1 (by decide) (Nat.le_of_ble_eq_true rfl) (iv_M_name C F lm_M_246 hk1 d_M_body_175) (fx_out0 _) fx_eno (fun v1 h2 H locs cells slots hw hx1 F => ?_)
  replace hw := hw hx1
  have hk1 := (hx1).k hk1
  let h3 : AH := up_I h2 r0 31 v1
  replace hw := hw h3 rfl
  refine fx_putI C F lf_M_265 hk1 rfl rfl (fx_mayF.no rfl rfl) d_M_body_178 (fun H locs (F : fx_F D h0 h3 H locs _ _) => ?_)
  refine lv_aload_n C.ex C.by d_M_body_181 rfl (lv_at hv 0 rfl) ?_
  refine lv_aload_n C.ex C.by d_M_body_182 rfl (lv_at hv 0 rfl) ?_
  refine fx_getI C F lf_M_128 hk1 rfl d_M_body_183 ?_
  let h4 : AH := up_I h3 r0 40 (hp_I h3 r0 20)
  replace hw := hw h4 rfl
  refine fx_putI C F lf_M_268 hk1 rfl rfl (fx_mayF.no rfl rfl) d_M_body_186 (fun H locs (F : fx_F D h0 h4 H locs _ _) => ?_)
  refine lv_aload_n C.ex C.by d_M_body_189 rfl (lv_at hv 0 rfl) ?_
  refine lv_iload_n C.ex C.by d_M_body_190 rfl (lv_at hv 1 rfl) ?_
  refine fx_callV C F (c_M_key_I hl hw) hm_M_key_I hi_M_key_I hv.1 (by decide) (Nat.le_of_ble_eq_true rfl) (iv_M_key_I C F lm_M_271 hk1 d_M_body_191) (fx_out0 _) fx_eno (fun h5 H locs cells slots hw hx2 F => ?_)
  replace hw := hw hx2
  have hk1 := (hx2).k hk1
  refine lv_aload_n C.ex C.by d_M_body_194 rfl (lv_at hv 0 rfl) ?_
  refine fx_getI C F lf_M_124 hk1 rfl d_M_body_195 ?_
  refine lv_if_ne C.ex C.by d_M_body_198 rfl (fun hc => ?_) (fun hc => ?_)
  · replace hw := hw.1 hc
    exact b_M_body_209 C hl _ hw _ _ _ _ _ (lv_sub hv [] rfl) F
  · replace hw := hw.2 hc
    refine lv_aload_n C.ex C.by d_M_body_201 rfl (lv_at hv 0 rfl) ?_
    refine fx_getI C F lf_M_128 hk1 rfl d_M_body_202 ?_
    refine lv_iload_n C.ex C.by d_M_body_205 rfl (lv_at hv 1 rfl) ?_
    refine lv_icmp_ne C.ex C.by d_M_body_206 rfl (fun hc => ?_) (fun hc => ?_)
    · replace hw := hw.1 hc
      refine lv_aload_n C.ex C.by d_M_body_210 rfl (lv_at hv 0 rfl) ?_
      refine lv_sipush (v := (163 : Int32)) C.ex C.by d_M_body_211 (by decide) ?_
      refine lv_iload_n C.ex C.by d_M_body_214 rfl (lv_at hv 1 rfl) ?_
      refine fx_callI C F (c_M_open hl hw) hm_M_open hi_M_open hv.1 (by decide) (Nat.le_of_ble_eq_true rfl) (iv_M_open C F lm_M_140 hk1 d_M_body_215) (fx_out0 _) fx_eno (fun v2 h6 H locs cells slots hw hx3 F => ?_)
      replace hw := hw hx3
      have hk1 := (hx3).k hk1
      refine lv_istore (lv' := [(5, .int v2), (0, .ref r0), (1, .int x1)]) C.ex C.by d_M_body_218 hv (by decide) rfl (fun ls hv => ?_)
      refine lv_aload_n C.ex C.by d_M_body_220 rfl (lv_at hv 1 rfl) ?_
      refine lv_bipush (v := (48 : Int32)) C.ex C.by d_M_body_221 (by decide) ?_
      refine lv_iload C.ex C.by d_M_body_223 (lv_at hv 0 rfl) ?_
      refine fx_callI C F (c_M_open hl hw) hm_M_open hi_M_open hv.1 (by decide) (Nat.le_of_ble_eq_true rfl) (iv_M_open C F lm_M_140 hk1 d_M_body_225) (fx_out0 _) fx_eno (fun v3 h7 H locs cells slots hw hx4 F => ?_)
      replace hw := hw hx4
      have hk1 := (hx4).k hk1
      refine lv_istore (lv' := [(6, .int v3), (5, .int v2), (0, .ref r0), (1, .int x1)]) C.ex C.by d_M_body_228 hv (by decide) rfl (fun ls hv => ?_)
      refine lv_aload_n C.ex C.by d_M_body_230 rfl (lv_at hv 2 rfl) ?_
      refine fx_getI C F lf_M_124 hk1 rfl d_M_body_231 ?_
      refine lv_if_eq C.ex C.by d_M_body_234 rfl (fun hc => ?_) (fun hc => ?_)
      · replace hw := hw.1 hc
        refine lv_aload_n C.ex C.by d_M_body_238 rfl (lv_at hv 2 rfl) ?_
        refine lv_iload C.ex C.by d_M_body_239 (lv_at hv 1 rfl) ?_
        refine lv_iload_n C.ex C.by d_M_body_241 rfl (lv_at hv 3 rfl) ?_
        refine lv_icmp_ne C.ex C.by d_M_body_242 rfl (fun hc => ?_) (fun hc => ?_)
        · replace hw := hw.1 hc
          exact b_M_body_265 C hl _ _ _ _ hw _ _ _ _ _ (lv_sub hv [2, 0] rfl) F
        · replace hw := hw.2 hc
          refine lv_iload C.ex C.by d_M_body_245 (lv_at hv 0 rfl) ?_
          refine lv_iload C.ex C.by d_M_body_247 (lv_at hv 1 rfl) ?_
          refine lv_icmp_ne C.ex C.by d_M_body_249 rfl (fun hc => ?_) (fun hc => ?_)
          · replace hw := hw.1 hc
            exact b_M_body_265 C hl _ _ _ _ hw _ _ _ _ _ (lv_sub hv [2, 0] rfl) F
          · replace hw := hw.2 hc
            refine lv_aload_n C.ex C.by d_M_body_252 rfl (lv_at hv 2 rfl) ?_
            refine fx_getI C F lf_M_128 hk1 rfl d_M_body_253 ?_
            refine lv_iload C.ex C.by d_M_body_256 (lv_at hv 0 rfl) ?_
            refine lv_icmp_ge C.ex C.by d_M_body_258 rfl (fun hc => ?_) (fun hc => ?_)
            · replace hw := hw.1 hc
              exact b_M_body_265 C hl _ _ _ _ hw _ _ _ _ _ (lv_sub hv [2, 0] rfl) F
            · replace hw := hw.2 hc
              refine lv_iconst (v := (1 : Int32)) C.ex C.by d_M_body_261 (by decide) ?_
              refine lv_goto C.ex C.by d_M_body_262 rfl ?_
              exact b_M_body_266 C hl _ _ _ _ _ hw _ _ _ _ _ (lv_sub hv [2, 0] rfl) F
      · replace hw := hw.2 hc
        exact fx_vret C F d_M_body_237 (Or.inl ⟨rfl, hw⟩)
    · replace hw := hw.2 hc
      exact b_M_body_209 C hl _ hw _ _ _ _ _ (lv_sub hv [] rfl) F
theorem b_M_body_161 {p : Program} {l : Launch} {e : Env} {R : Room} {s : State} {m : MethodId} {args : Array Value} {below : List Frame} {meth : Method} {c : Code} {D : DD} {h0 : AH} {Q : AH → Prop} (C : fx_CX D y_M_body prog_15_method_37_code 7 5 81 (none) [] h0 p R s m meth c) (hl : l.flags = flags0) (r0 : Nat) (x1 : Int32) (sr0 : Nat) (sx1 : Int32) (h : AH) (hw : m_M_body_161 Q r0 x1 sr0 sx1 h) : ∀ (ls : Array Slot) (H : Heap) (locs : List Loc) (cells slots : Nat), lv_has ls 7 [(0, .ref r0), (1, .int x1)] → fx_F D h0 h H locs cells slots → W p l e R s m args below meth c H locs cells slots (fx_Z D below s h0 (fx_oV Q fx_no)) (F0 m 161 ls [.int sx1, .ref sr0]) := by
  unfold m_M_body_161 at hw
  intro ls H locs cells slots hv F
  obtain ⟨hk1, hw⟩ := hw
  refine fx_callV C F (c_M_need hl hw) hm_M_need hi_M_need hv.1 (by decide) (Nat.le_of_ble_eq_true rfl) (iv_M_need C F lm_M_143 hk1 d_M_body_161) (fx_out0 _) fx_eno (fun h1 H locs cells slots hw hx1 F => ?_)
  replace hw := hw hx1
  have hk1 := (hx1).k hk1
  exact b_M_body_164 C hl _ _ _ hw _ _ _ _ _ hv F
theorem b_M_body_75 {p : Program} {l : Launch} {e : Env} {R : Room} {s : State} {m : MethodId} {args : Array Value} {below : List Frame} {meth : Method} {c : Code} {D : DD} {h0 : AH} {Q : AH → Prop} (C : fx_CX D y_M_body prog_15_method_37_code 7 5 81 (none) [] h0 p R s m meth c) (hl : l.flags = flags0) (r0 : Nat) (x1 : Int32) (sr0 : Nat) (sx1 : Int32) (h : AH) (hw : m_M_body_75 Q r0 x1 sr0 sx1 h) : ∀ (ls : Array Slot) (H : Heap) (locs : List Loc) (cells slots : Nat), lv_has ls 7 [(0, .ref r0), (1, .int x1)] → fx_F D h0 h H locs cells slots → W p l e R s m args below meth c H locs cells slots (fx_Z D below s h0 (fx_oV Q fx_no)) (F0 m 75 ls [.int sx1, .ref sr0]) := by
  unfold m_M_body_75 at hw
  intro ls H locs cells slots hv F
  obtain ⟨hk1, hw⟩ := hw
  let h1 : AH := up_I h sr0 20 sx1
  replace hw := hw h1 rfl
  refine fx_putI C F lf_M_128 hk1 rfl rfl (fx_mayF.no rfl rfl) d_M_body_75 (fun H locs (F : fx_F D h0 h1 H locs _ _) => ?_)
  refine lv_aload_n C.ex C.by d_M_body_78 rfl (lv_at hv 0 rfl) ?_
  refine lv_iload_n C.ex C.by d_M_body_79 rfl (lv_at hv 1 rfl) ?_
  obtain ⟨hk2, hw⟩ := hw
  refine fx_callV C F (c_M_serial hl hw) hm_M_serial hi_M_serial hv.1 (by decide) (Nat.le_of_ble_eq_true rfl) (iv_M_serial C F lm_M_241 hk2 d_M_body_80) (fx_out0 _) fx_eno (fun h2 H locs cells slots hw hx1 F => ?_)
  replace hw := hw hx1
  have hk2 := (hx1).k hk2
  have hk1 := (hx1).k hk1
  refine lv_aload_n C.ex C.by d_M_body_83 rfl (lv_at hv 0 rfl) ?_
  refine lv_iload_n C.ex C.by d_M_body_84 rfl (lv_at hv 1 rfl) ?_
  refine fx_callV C F (c_M_algorithm hl hw) hm_M_algorithm hi_M_algorithm hv.1 (by decide) (Nat.le_of_ble_eq_true rfl) (iv_M_algorithm C F lm_M_232 hk2 d_M_body_85) (fx_out0 _) fx_eno (fun h3 H locs cells slots hw hx2 F => ?_)
  replace hw := hw hx2
  have hk2 := (hx2).k hk2
  have hk1 := (hx2).k hk1
  refine lv_aload_n C.ex C.by d_M_body_88 rfl (lv_at hv 0 rfl) ?_
  refine lv_aload_n C.ex C.by d_M_body_89 rfl (lv_at hv 0 rfl) ?_
  refine fx_getI C F lf_M_128 hk2 rfl d_M_body_90 ?_
  let h4 : AH := up_I h3 r0 37 (hp_I h3 r0 20)
  replace hw := hw h4 rfl
  refine fx_putI C F lf_M_243 hk2 rfl rfl (fx_mayF.no rfl rfl) d_M_body_93 (fun H locs (F : fx_F D h0 h4 H locs _ _) => ?_)
  refine lv_aload_n C.ex C.by d_M_body_96 rfl (lv_at hv 0 rfl) ?_
  refine lv_iload_n C.ex C.by d_M_body_97 rfl (lv_at hv 1 rfl) ?_
  refine fx_callI C F (c_M_name hl hw) hm_M_name hi_M_name hv.1 (by decide) (Nat.le_of_ble_eq_true rfl) (iv_M_name C F lm_M_246 hk2 d_M_body_98) (fx_out0 _) fx_eno (fun v1 h5 H locs cells slots hw hx3 F => ?_)
  replace hw := hw hx3
  have hk2 := (hx3).k hk2
  have hk1 := (hx3).k hk1
  refine lv_pop C.ex C.by d_M_body_101 rfl ?_
  refine lv_aload_n C.ex C.by d_M_body_102 rfl (lv_at hv 0 rfl) ?_
  refine lv_aload_n C.ex C.by d_M_body_103 rfl (lv_at hv 0 rfl) ?_
  refine fx_getI C F lf_M_128 hk2 rfl d_M_body_104 ?_
  let h6 : AH := up_I h5 r0 38 (hp_I h5 r0 20)
  replace hw := hw h6 rfl
  refine fx_putI C F lf_M_249 hk2 rfl rfl (fx_mayF.no rfl rfl) d_M_body_107 (fun H locs (F : fx_F D h0 h6 H locs _ _) => ?_)
  refine lv_aload_n C.ex C.by d_M_body_110 rfl (lv_at hv 0 rfl) ?_
  refine lv_bipush (v := (48 : Int32)) C.ex C.by d_M_body_111 (by decide) ?_
  refine lv_iload_n C.ex C.by d_M_body_113 rfl (lv_at hv 1 rfl) ?_
  refine fx_callI C F (c_M_open hl hw) hm_M_open hi_M_open hv.1 (by decide) (Nat.le_of_ble_eq_true rfl) (iv_M_open C F lm_M_140 hk2 d_M_body_114) (fx_out0 _) fx_eno (fun v2 h7 H locs cells slots hw hx4 F => ?_)
  replace hw := hw hx4
  have hk2 := (hx4).k hk2
  have hk1 := (hx4).k hk1
  refine lv_istore (lv' := [(4, .int v2), (0, .ref r0), (1, .int x1)]) C.ex C.by d_M_body_117 hv (by decide) rfl (fun ls hv => ?_)
  refine lv_aload_n C.ex C.by d_M_body_119 rfl (lv_at hv 1 rfl) ?_
  refine lv_aload_n C.ex C.by d_M_body_120 rfl (lv_at hv 1 rfl) ?_
  refine lv_iload C.ex C.by d_M_body_121 (lv_at hv 0 rfl) ?_
  refine fx_callL C F (c_M_time hl hw) hm_M_time hi_M_time hv.1 (by decide) (Nat.le_of_ble_eq_true rfl) (iv_M_time C F lm_M_252 hk2 d_M_body_123) (fx_out0 _) fx_eno (fun u1 h8 H locs cells slots hw hx5 F => ?_)
  replace hw := hw hx5
  have hk2 := (hx5).k hk2
  have hk1 := (hx5).k hk1
  let h9 : AH := up_L h8 r0 23 u1
  replace hw := hw h9 rfl
  refine fx_putL C F lf_M_255 hk2 rfl rfl (fx_mayF.no rfl rfl) d_M_body_126 (fun H locs (F : fx_F D h0 h9 H locs _ _) => ?_)
  refine lv_aload_n C.ex C.by d_M_body_129 rfl (lv_at hv 1 rfl) ?_
  refine lv_aload_n C.ex C.by d_M_body_130 rfl (lv_at hv 1 rfl) ?_
  refine lv_iload C.ex C.by d_M_body_131 (lv_at hv 0 rfl) ?_
  refine fx_callL C F (c_M_time hl hw) hm_M_time hi_M_time hv.1 (by decide) (Nat.le_of_ble_eq_true rfl) (iv_M_time C F lm_M_252 hk2 d_M_body_133) (fx_out0 _) fx_eno (fun u2 h10 H locs cells slots hw hx6 F => ?_)
  replace hw := hw hx6
  have hk2 := (hx6).k hk2
  have hk1 := (hx6).k hk1
  let h11 : AH := up_L h10 r0 24 u2
  replace hw := hw h11 rfl
  refine fx_putL C F lf_M_259 hk2 rfl rfl (fx_mayF.no rfl rfl) d_M_body_136 (fun H locs (F : fx_F D h0 h11 H locs _ _) => ?_)
  refine lv_aload_n C.ex C.by d_M_body_139 rfl (lv_at hv 1 rfl) ?_
  refine fx_getI C F lf_M_124 hk2 rfl d_M_body_140 ?_
  refine lv_if_ne C.ex C.by d_M_body_143 rfl (fun hc => ?_) (fun hc => ?_)
  · replace hw := hw.1 hc
    exact b_M_body_164 C hl _ _ _ hw _ _ _ _ _ (lv_sub hv [1, 2] rfl) F
  · replace hw := hw.2 hc
    refine lv_aload_n C.ex C.by d_M_body_146 rfl (lv_at hv 1 rfl) ?_
    refine lv_aload_n C.ex C.by d_M_body_147 rfl (lv_at hv 1 rfl) ?_
    refine fx_getI C F lf_M_128 hk2 rfl d_M_body_148 ?_
    refine lv_iload C.ex C.by d_M_body_151 (lv_at hv 0 rfl) ?_
    refine lv_icmp_ne C.ex C.by d_M_body_153 rfl (fun hc => ?_) (fun hc => ?_)
    · replace hw := hw.1 hc
      refine lv_iconst (v := (0 : Int32)) C.ex C.by d_M_body_160 (by decide) ?_
      exact b_M_body_161 C hl _ _ _ _ _ hw _ _ _ _ _ (lv_sub hv [1, 2] rfl) F
    · replace hw := hw.2 hc
      refine lv_iconst (v := (1 : Int32)) C.ex C.by d_M_body_156 (by decide) ?_
      refine lv_goto C.ex C.by d_M_body_157 rfl ?_
      exact b_M_body_161 C hl _ _ _ _ _ hw _ _ _ _ _ (lv_sub hv [1, 2] rfl) F
theorem b_M_body_59 {p : Program} {l : Launch} {e : Env} {R : Room} {s : State} {m : MethodId} {args : Array Value} {below : List Frame} {meth : Method} {c : Code} {D : DD} {h0 : AH} {Q : AH → Prop} (C : fx_CX D y_M_body prog_15_method_37_code 7 5 81 (none) [] h0 p R s m meth c) (hl : l.flags = flags0) (r0 : Nat) (x1 : Int32) (x2 : Int32) (h : AH) (hw : m_M_body_59 Q r0 x1 x2 h) : ∀ (ls : Array Slot) (H : Heap) (locs : List Loc) (cells slots : Nat), lv_has ls 7 [(0, .ref r0), (1, .int x1), (2, .int x2)] → fx_F D h0 h H locs cells slots → W p l e R s m args below meth c H locs cells slots (fx_Z D below s h0 (fx_oV Q fx_no)) (F0 m 59 ls []) := by
  unfold m_M_body_59 at hw
  intro ls H locs cells slots hv F
  refine lv_aload_n C.ex C.by d_M_body_59 rfl (lv_at hv 0 rfl) ?_
  refine lv_aload_n C.ex C.by d_M_body_60 rfl (lv_at hv 0 rfl) ?_
  obtain ⟨hk1, hw⟩ := hw
  refine fx_getI C F lf_M_124 hk1 rfl d_M_body_61 ?_
  refine lv_if_eq C.ex C.by d_M_body_64 rfl (fun hc => ?_) (fun hc => ?_)
  · replace hw := hw.1 hc
    refine lv_iload_n C.ex C.by d_M_body_74 rfl (lv_at hv 2 rfl) ?_
    exact b_M_body_75 C hl _ _ _ _ _ hw _ _ _ _ _ (lv_sub hv [0, 1] rfl) F
  · replace hw := hw.2 hc
    refine lv_aload_n C.ex C.by d_M_body_67 rfl (lv_at hv 0 rfl) ?_
    refine fx_getI C F lf_M_128 hk1 rfl d_M_body_68 ?_
    refine lv_goto C.ex C.by d_M_body_71 rfl ?_
    exact b_M_body_75 C hl _ _ _ _ _ hw _ _ _ _ _ (lv_sub hv [0, 1] rfl) F
theorem b_M_body_56 {p : Program} {l : Launch} {e : Env} {R : Room} {s : State} {m : MethodId} {args : Array Value} {below : List Frame} {meth : Method} {c : Code} {D : DD} {h0 : AH} {Q : AH → Prop} (C : fx_CX D y_M_body prog_15_method_37_code 7 5 81 (none) [] h0 p R s m meth c) (hl : l.flags = flags0) (r0 : Nat) (x1 : Int32) (x2 : Int32) (sr0 : Nat) (sx1 : Int32) (h : AH) (hw : m_M_body_56 Q r0 x1 x2 sr0 sx1 h) : ∀ (ls : Array Slot) (H : Heap) (locs : List Loc) (cells slots : Nat), lv_has ls 7 [(0, .ref r0), (1, .int x1), (2, .int x2)] → fx_F D h0 h H locs cells slots → W p l e R s m args below meth c H locs cells slots (fx_Z D below s h0 (fx_oV Q fx_no)) (F0 m 56 ls [.int sx1, .ref sr0]) := by
  unfold m_M_body_56 at hw
  intro ls H locs cells slots hv F
  obtain ⟨hk1, hw⟩ := hw
  refine fx_callV C F (c_M_need hl hw) hm_M_need hi_M_need hv.1 (by decide) (Nat.le_of_ble_eq_true rfl) (iv_M_need C F lm_M_143 hk1 d_M_body_56) (fx_out0 _) fx_eno (fun h1 H locs cells slots hw hx1 F => ?_)
  replace hw := hw hx1
  have hk1 := (hx1).k hk1
  exact b_M_body_59 C hl _ _ _ _ hw _ _ _ _ _ hv F
theorem b_M_body_55 {p : Program} {l : Launch} {e : Env} {R : Room} {s : State} {m : MethodId} {args : Array Value} {below : List Frame} {meth : Method} {c : Code} {D : DD} {h0 : AH} {Q : AH → Prop} (C : fx_CX D y_M_body prog_15_method_37_code 7 5 81 (none) [] h0 p R s m meth c) (hl : l.flags = flags0) (r0 : Nat) (x1 : Int32) (x2 : Int32) (sr0 : Nat) (h : AH) (hw : m_M_body_55 Q r0 x1 x2 sr0 h) : ∀ (ls : Array Slot) (H : Heap) (locs : List Loc) (cells slots : Nat), lv_has ls 7 [(0, .ref r0), (1, .int x1), (2, .int x2)] → fx_F D h0 h H locs cells slots → W p l e R s m args below meth c H locs cells slots (fx_Z D below s h0 (fx_oV Q fx_no)) (F0 m 55 ls [.ref sr0]) := by
  unfold m_M_body_55 at hw
  intro ls H locs cells slots hv F
  refine lv_iconst (v := (0 : Int32)) C.ex C.by d_M_body_55 (by decide) ?_
  exact b_M_body_56 C hl _ _ _ _ _ _ hw _ _ _ _ _ hv F
theorem b_M_body_0 {p : Program} {l : Launch} {e : Env} {R : Room} {s : State} {m : MethodId} {args : Array Value} {below : List Frame} {meth : Method} {c : Code} {D : DD} {h0 : AH} {Q : AH → Prop} (C : fx_CX D y_M_body prog_15_method_37_code 7 5 81 (none) [] h0 p R s m meth c) (hl : l.flags = flags0) (r0 : Nat) (x1 : Int32) (h : AH) (hw : m_M_body Q r0 x1 h) : ∀ (ls : Array Slot) (H : Heap) (locs : List Loc) (cells slots : Nat), lv_has ls 7 [(0, .ref r0), (1, .int x1)] → fx_F D h0 h H locs cells slots → W p l e R s m args below meth c H locs cells slots (fx_Z D below s h0 (fx_oV Q fx_no)) (F0 m 0 ls []) := by
  unfold m_M_body at hw
  intro ls H locs cells slots hv F
  refine lv_aload_n C.ex C.by d_M_body_0 rfl (lv_at hv 0 rfl) ?_
  refine lv_sipush (v := (160 : Int32)) C.ex C.by d_M_body_1 (by decide) ?_
  refine lv_iload_n C.ex C.by d_M_body_4 rfl (lv_at hv 1 rfl) ?_
  obtain ⟨hk1, hw⟩ := hw
  refine fx_callI C F (c_M_open hl hw) hm_M_open hi_M_open hv.1 (by decide) (Nat.le_of_ble_eq_true rfl) (iv_M_open C F lm_M_140 hk1 d_M_body_5) (fx_out0 _) fx_eno (fun v1 h1 H locs cells slots hw hx1 F => ?_)
  replace hw := hw hx1
  have hk1 := (hx1).k hk1
  refine lv_istore_n (lv' := [(2, .int v1), (0, .ref r0), (1, .int x1)]) C.ex C.by d_M_body_8 rfl hv (by decide) rfl (fun ls hv => ?_)
  refine lv_aload_n C.ex C.by d_M_body_9 rfl (lv_at hv 1 rfl) ?_
  refine lv_iconst (v := (2 : Int32)) C.ex C.by d_M_body_10 (by decide) ?_
  refine lv_iload_n C.ex C.by d_M_body_11 rfl (lv_at hv 0 rfl) ?_
  refine fx_callI C F (c_M_open hl hw) hm_M_open hi_M_open hv.1 (by decide) (Nat.le_of_ble_eq_true rfl) (iv_M_open C F lm_M_140 hk1 d_M_body_12) (fx_out0 _) fx_eno (fun v2 h2 H locs cells slots hw hx2 F => ?_)
  replace hw := hw hx2
  have hk1 := (hx2).k hk1
  refine lv_istore_n (lv' := [(3, .int v2), (2, .int v1), (0, .ref r0), (1, .int x1)]) C.ex C.by d_M_body_15 rfl hv (by decide) rfl (fun ls hv => ?_)
  refine lv_aload_n C.ex C.by d_M_body_16 rfl (lv_at hv 2 rfl) ?_
  refine fx_getI C F lf_M_124 hk1 rfl d_M_body_17 ?_
  refine lv_if_ne C.ex C.by d_M_body_20 rfl (fun hc => ?_) (fun hc => ?_)
  · replace hw := hw.1 hc
    exact b_M_body_59 C hl _ _ _ _ hw _ _ _ _ _ (lv_sub hv [2, 3, 1] rfl) F
  · replace hw := hw.2 hc
    refine lv_aload_n C.ex C.by d_M_body_23 rfl (lv_at hv 2 rfl) ?_
    refine lv_iload_n C.ex C.by d_M_body_24 rfl (lv_at hv 0 rfl) ?_
    refine lv_iload_n C.ex C.by d_M_body_25 rfl (lv_at hv 1 rfl) ?_
    refine lv_icmp_ne C.ex C.by d_M_body_26 rfl (fun hc => ?_) (fun hc => ?_)
    · replace hw := hw.1 hc
      exact b_M_body_55 C hl _ _ _ _ _ hw _ _ _ _ _ (lv_sub hv [2, 3, 1] rfl) F
    · replace hw := hw.2 hc
      refine lv_iload_n C.ex C.by d_M_body_29 rfl (lv_at hv 0 rfl) ?_
      refine lv_aload_n C.ex C.by d_M_body_30 rfl (lv_at hv 2 rfl) ?_
      refine fx_getI C F lf_M_128 hk1 rfl d_M_body_31 ?_
      refine lv_isub C.ex C.by d_M_body_34 ?_
      refine lv_iconst (v := (1 : Int32)) C.ex C.by d_M_body_35 (by decide) ?_
      refine lv_icmp_ne C.ex C.by d_M_body_36 rfl (fun hc => ?_) (fun hc => ?_)
      · replace hw := hw.1 hc
        exact b_M_body_55 C hl _ _ _ _ _ hw _ _ _ _ _ (lv_sub hv [2, 3, 1] rfl) F
      · replace hw := hw.2 hc
        refine lv_aload_n C.ex C.by d_M_body_39 rfl (lv_at hv 2 rfl) ?_
        refine lv_aload_n C.ex C.by d_M_body_40 rfl (lv_at hv 2 rfl) ?_
        refine fx_getI C F lf_M_128 hk1 rfl d_M_body_41 ?_
        refine fx_callI C F (c_M_here hl hw) hm_M_here hi_M_here hv.1 (by decide) (Nat.le_of_ble_eq_true rfl) (iv_M_here C F lm_M_131 hk1 d_M_body_44) (fx_out0 _) fx_eno (fun v3 h3 H locs cells slots hw hx3 F => ?_)
        replace hw := hw hx3
        have hk1 := (hx3).k hk1
        refine lv_iconst (v := (2 : Int32)) C.ex C.by d_M_body_47 (by decide) ?_
        refine lv_icmp_ne C.ex C.by d_M_body_48 rfl (fun hc => ?_) (fun hc => ?_)
        · replace hw := hw.1 hc
          exact b_M_body_55 C hl _ _ _ _ _ hw _ _ _ _ _ (lv_sub hv [2, 3, 1] rfl) F
        · replace hw := hw.2 hc
          refine lv_iconst (v := (1 : Int32)) C.ex C.by d_M_body_51 (by decide) ?_
          refine lv_goto C.ex C.by d_M_body_52 rfl ?_
          exact b_M_body_56 C hl _ _ _ _ _ _ hw _ _ _ _ _ (lv_sub hv [2, 3, 1] rfl) F
theorem hm_M_body : fx_hd y_M_body prog_15_method_37_code 7 (none) [] ∈ tables_1 := (fx_m6 (List.mem_of_getElem? (i := 226) rfl))
theorem hi_M_body : Cond.initialized y_M_body.cls ∈ tables_1 := (fx_m1 (List.mem_of_getElem? (i := 15) rfl))
theorem c_M_body {l : Launch} (hl : l.flags = flags0) {D : DD} {Q : AH → Prop} {r0 : Nat} {x1 : Int32} {h : AH} (hw : m_M_body Q r0 x1 h) : fx_Mt l D y_M_body (fx_hd y_M_body prog_15_method_37_code 7 (none) []) 5 81 [.ref r0, .int x1] h (fx_oV Q fx_no) := by
  refine fx_ofW (plainFor_of_name (by decide)) (fun p e s m below meth c C F => ?_)
  have hv := lv_entry ([.ref r0, .int x1]) (n := 7) (Nat.le_of_ble_eq_true rfl)
  rw [lg_entry_eq]
  generalize (lg_sl ([.ref r0, .int x1]) ++ List.replicate (7 - (lg_sl ([.ref r0, .int x1])).length) Slot.unset).toArray = ls at hv ⊢
  have hv : lv_has ls 7 [(0, .ref r0), (1, .int x1)] := hv
  exact b_M_body_0 C hl _ _ _ hw _ _ _ _ _ hv F
