set_option maxRecDepth 10000
/-! ChainJudgeModel.putExtensions(II)V: frames 3, words 50 -/
abbrev y_M_putExtensions : MethodName := ⟨"ChainJudgeModel", "putExtensions", "(II)V"⟩
theorem lm_M_318 : Cond.methodLink "ChainJudgeModel" 318 y_M_extended ∈ tables_1 ∨ ∃ host, Cond.methodLinkNest "ChainJudgeModel" 318 y_M_extended host ∈ tables_1 := Or.inl (fx_m7 (List.mem_of_getElem? (i := 107) rfl))
theorem lm_M_339 : Cond.methodLink "ChainJudgeModel" 339 y_M_unknown ∈ tables_1 ∨ ∃ host, Cond.methodLinkNest "ChainJudgeModel" 339 y_M_unknown host ∈ tables_1 := Or.inl (fx_m7 (List.mem_of_getElem? (i := 118) rfl))
section
variable {p : Program} {l : Launch} {e : Env} {R : Room} {s : State} {m : MethodId} {args : Array Value} {below : List Frame} {meth : Method} {c : Code} {H : Heap} {locs : List Loc} {cells slots : Nat}
variable {D : DD} {y : MethodName} {cc : ByteArray} {nL kf kw : Nat} {ret : Option FieldType} {hh : List (Nat × Nat × Nat × Nat)} {h0 h : AH} {pc : Nat} {ls : Array Slot} {rest : List Value} {b idx : Nat}
theorem iv_M_extended {x1 : Int32} {x2 : Int32} {w3 : Int64} {x5 : Int32} (C : fx_CX D y cc nL kf kw ret hh h0 p R s m meth c) (F : fx_F D h0 h H locs cells slots) (hw1 : Cond.methodLink y.cls idx y_M_extended ∈ tables_1 ∨ ∃ host, Cond.methodLinkNest y.cls idx y_M_extended host ∈ tables_1) (hk : hp_k h b = 13) (hd : decode cc pc = .ok (.invokevirtual idx, 3)) : fx_IV p l e R s m args below meth c H locs cells slots (F0 m pc ls (.int x5 :: .long w3 :: .int x2 :: .int x1 :: .ref b :: rest)) rest y_M_extended [.ref b, .int x1, .int x2, .long w3, .int x5] 3 := fun T hT X => fx_invV (As := [.int x1, .int x2, .long w3, .int x5]) (Cn := "ChainJudgeModel") C X hw1 (fx_m7 (List.mem_of_getElem? (i := 109) rfl)) (fx_selP C ⟨by decide, by decide⟩ (fx_m5 (List.mem_of_getElem? (i := 217) rfl)) (fx_m7 (List.mem_of_getElem? (i := 108) rfl)) (fx_m7 (List.mem_of_getElem? (i := 109) rfl))) hm_M_extended ⟨by decide, by decide⟩ (by rw [hT]; exact fx_clsO (ci := 12) (r := ("ChainJudgeModel", fx_T12, 57)) C F rfl (by decide) hk) rfl (n := 4) (by decide +kernel) rfl rfl hd
theorem iv_M_unknown {x1 : Int32} (C : fx_CX D y cc nL kf kw ret hh h0 p R s m meth c) (F : fx_F D h0 h H locs cells slots) (hw1 : Cond.methodLink y.cls idx y_M_unknown ∈ tables_1 ∨ ∃ host, Cond.methodLinkNest y.cls idx y_M_unknown host ∈ tables_1) (hk : hp_k h b = 13) (hd : decode cc pc = .ok (.invokevirtual idx, 3)) : fx_IV p l e R s m args below meth c H locs cells slots (F0 m pc ls (.int x1 :: .ref b :: rest)) rest y_M_unknown [.ref b, .int x1] 3 := fun T hT X => fx_invV (As := [.int x1]) (Cn := "ChainJudgeModel") C X hw1 (fx_m7 (List.mem_of_getElem? (i := 120) rfl)) (fx_selP C ⟨by decide, by decide⟩ (fx_m5 (List.mem_of_getElem? (i := 217) rfl)) (fx_m7 (List.mem_of_getElem? (i := 119) rfl)) (fx_m7 (List.mem_of_getElem? (i := 120) rfl))) hm_M_unknown ⟨by decide, by decide⟩ (by rw [hT]; exact fx_clsO (ci := 12) (r := ("ChainJudgeModel", fx_T12, 57)) C F rfl (by decide) hk) rfl (n := 1) (by decide +kernel) rfl rfl hd
end
def dl_M_putExtensions : List (Nat × Instr × Nat) := [(0, .aload_n 0, 1), (1, .getfield 292, 3), (4, .istore_n 3, 1), (5, .iload_n 1, 1), (6, .iconst 1, 1), (7, .iand, 1), (8, .iconst 1, 1), (9, .if_icmp .ne 7, 3), (12, .iconst 1, 1), (13, .goto 4, 3), (16, .iconst 0, 1), (17, .istore 4, 2), (19, .iload_n 1, 1), (20, .iconst 1, 1), (21, .ishr, 1), (22, .bipush 127, 2), (24, .iand, 1), (25, .istore 5, 2), (27, .aload_n 0, 1), (28, .getfield 292, 3), (31, .istore 6, 2), (33, .iload 4, 2), (35, .ifCond .eq 11, 3), (38, .aload_n 0, 1), (39, .iconst 3, 1), (40, .ldc2_w 312, 3), (43, .invokevirtual 300, 3), (46, .iload 5, 2), (48, .ifCond .le 17, 3), (51, .aload_n 0, 1), (52, .iconst 3, 1), (53, .ldc2_w 314, 3), (56, .iload 5, 2), (58, .iconst 1, 1), (59, .isub, 1), (60, .i2l, 1), (61, .lor, 1), (62, .invokevirtual 300, 3), (65, .aload_n 0, 1), (66, .bipush 48, 2), (68, .iload 6, 2), (70, .invokevirtual 305, 3), (73, .aload_n 0, 1), (74, .iload 6, 2), (76, .iconst 3, 1), (77, .ldc2_w 316, 3), (80, .iconst 1, 1), (81, .invokevirtual 318, 3), (84, .aload_n 0, 1), (85, .getfield 292, 3), (88, .istore 6, 2), (90, .aload_n 0, 1), (91, .iconst 4, 1), (92, .iload 4, 2), (94, .ifCond .eq 9, 3), (97, .ldc2_w 322, 3), (100, .goto 6, 3), (103, .ldc2_w 324, 3), (106, .invokevirtual 300, 3), (109, .aload_n 0, 1), (110, .iload 6, 2), (112, .iconst 3, 1), (113, .ldc2_w 326, 3), (116, .iconst 1, 1), (117, .invokevirtual 318, 3), (120, .iload_n 2, 1), (121, .aload_n 0, 1), (122, .getfield 328, 3), (125, .if_icmp .ge 99, 3), (128, .aload_n 0, 1), (129, .getfield 292, 3), (132, .istore 6, 2), (134, .iload_n 2, 1), (135, .istore 7, 2), (137, .iload 7, 2), (139, .aload_n 0, 1), (140, .getfield 328, 3), (143, .if_icmp .ge 62, 3), (146, .iinc 7 1, 3), (149, .aload_n 0, 1), (150, .getfield 292, 3), (153, .istore 8, 2), (155, .iload 7, 2), (157, .aload_n 0, 1), (158, .getfield 328, 3), (161, .if_icmp .ge 32, 3), (164, .aload_n 0, 1), (165, .getfield 8, 3), (168, .iload 7, 2), (170, .baload, 1), (171, .bipush 44, 2), (173, .if_icmp .eq 20, 3), (176, .aload_n 0, 1), (177, .aload_n 0, 1), (178, .getfield 8, 3), (181, .iload 7, 2), (183, .baload, 1), (184, .invokevirtual 295, 3), (187, .iinc 7 1, 3), (190, .goto (-35), 3), (193, .aload_n 0, 1), (194, .sipush 130, 3), (197, .iload 8, 2), (199, .invokevirtual 305, 3), (202, .goto (-65), 3), (205, .aload_n 0, 1), (206, .bipush 48, 2), (208, .iload 6, 2), (210, .invokevirtual 305, 3), (213, .aload_n 0, 1), (214, .iload 6, 2), (216, .iconst 3, 1), (217, .ldc2_w 331, 3), (220, .iconst 0, 1), (221, .invokevirtual 318, 3), (224, .iload_n 1, 1), (225, .sipush 768, 3), (228, .iand, 1), (229, .ifCond .eq 79, 3), (232, .aload_n 0, 1), (233, .getfield 292, 3), (236, .istore 6, 2), (238, .iconst 0, 1), (239, .istore 7, 2), (241, .iload 7, 2), (243, .iconst 2, 1), (244, .if_icmp .ge 45, 3), (247, .iload_n 1, 1), (248, .bipush 8, 2), (250, .iload 7, 2), (252, .iadd, 1), (253, .ishr, 1), (254, .iconst 1, 1), (255, .iand, 1), (256, .ifCond .ne 6, 3), (259, .goto 24, 3), (262, .aload_n 0, 1), (263, .iconst 2, 1), (264, .ldc2_w 147, 3), (267, .invokevirtual 300, 3), (270, .aload_n 0, 1), (271, .bipush 8, 2), (273, .ldc2_w 333, 3), (276, .iload 7, 2), (278, .i2l, 1), (279, .ladd, 1), (280, .invokevirtual 300, 3), (283, .iinc 7 1, 3), (286, .goto (-45), 3), (289, .aload_n 0, 1), (290, .bipush 48, 2), (292, .iload 6, 2), (294, .invokevirtual 305, 3), (297, .aload_n 0, 1), (298, .iload 6, 2), (300, .iconst 3, 1), (301, .ldc2_w 335, 3), (304, .iconst 0, 1), (305, .invokevirtual 318, 3), (308, .iload_n 1, 1), (309, .sipush 1024, 3), (312, .iand, 1), (313, .ifCond .eq 23, 3), (316, .aload_n 0, 1), (317, .getfield 292, 3), (320, .istore 6, 2), (322, .aload_n 0, 1), (323, .iconst 2, 1), (324, .ldc2_w 337, 3), (327, .invokevirtual 300, 3), (330, .aload_n 0, 1), (331, .iload 6, 2), (333, .invokevirtual 339, 3), (336, .aload_n 0, 1), (337, .bipush 48, 2), (339, .iload_n 3, 1), (340, .invokevirtual 305, 3), (343, .aload_n 0, 1), (344, .sipush 163, 3), (347, .iload_n 3, 1), (348, .invokevirtual 305, 3), (351, .return_, 1)]
theorem dk_M_putExtensions : fx_dec prog_15_method_47_code dl_M_putExtensions = true := by decide +kernel
theorem d_M_putExtensions_0 : decode prog_15_method_47_code 0 = .ok (.aload_n 0, 1) := fx_dat dk_M_putExtensions 0 rfl
theorem d_M_putExtensions_1 : decode prog_15_method_47_code 1 = .ok (.getfield 292, 3) := fx_dat dk_M_putExtensions 1 rfl
theorem d_M_putExtensions_4 : decode prog_15_method_47_code 4 = .ok (.istore_n 3, 1) := fx_dat dk_M_putExtensions 2 rfl
theorem d_M_putExtensions_5 : decode prog_15_method_47_code 5 = .ok (.iload_n 1, 1) := fx_dat dk_M_putExtensions 3 rfl
theorem d_M_putExtensions_6 : decode prog_15_method_47_code 6 = .ok (.iconst 1, 1) := fx_dat dk_M_putExtensions 4 rfl
theorem d_M_putExtensions_7 : decode prog_15_method_47_code 7 = .ok (.iand, 1) := fx_dat dk_M_putExtensions 5 rfl
theorem d_M_putExtensions_8 : decode prog_15_method_47_code 8 = .ok (.iconst 1, 1) := fx_dat dk_M_putExtensions 6 rfl
theorem d_M_putExtensions_9 : decode prog_15_method_47_code 9 = .ok (.if_icmp .ne 7, 3) := fx_dat dk_M_putExtensions 7 rfl
theorem d_M_putExtensions_12 : decode prog_15_method_47_code 12 = .ok (.iconst 1, 1) := fx_dat dk_M_putExtensions 8 rfl
theorem d_M_putExtensions_13 : decode prog_15_method_47_code 13 = .ok (.goto 4, 3) := fx_dat dk_M_putExtensions 9 rfl
theorem d_M_putExtensions_16 : decode prog_15_method_47_code 16 = .ok (.iconst 0, 1) := fx_dat dk_M_putExtensions 10 rfl
theorem d_M_putExtensions_17 : decode prog_15_method_47_code 17 = .ok (.istore 4, 2) := fx_dat dk_M_putExtensions 11 rfl
theorem d_M_putExtensions_19 : decode prog_15_method_47_code 19 = .ok (.iload_n 1, 1) := fx_dat dk_M_putExtensions 12 rfl
theorem d_M_putExtensions_20 : decode prog_15_method_47_code 20 = .ok (.iconst 1, 1) := fx_dat dk_M_putExtensions 13 rfl
theorem d_M_putExtensions_21 : decode prog_15_method_47_code 21 = .ok (.ishr, 1) := fx_dat dk_M_putExtensions 14 rfl
theorem d_M_putExtensions_22 : decode prog_15_method_47_code 22 = .ok (.bipush 127, 2) := fx_dat dk_M_putExtensions 15 rfl
theorem d_M_putExtensions_24 : decode prog_15_method_47_code 24 = .ok (.iand, 1) := fx_dat dk_M_putExtensions 16 rfl
theorem d_M_putExtensions_25 : decode prog_15_method_47_code 25 = .ok (.istore 5, 2) := fx_dat dk_M_putExtensions 17 rfl
theorem d_M_putExtensions_27 : decode prog_15_method_47_code 27 = .ok (.aload_n 0, 1) := fx_dat dk_M_putExtensions 18 rfl
theorem d_M_putExtensions_28 : decode prog_15_method_47_code 28 = .ok (.getfield 292, 3) := fx_dat dk_M_putExtensions 19 rfl
theorem d_M_putExtensions_31 : decode prog_15_method_47_code 31 = .ok (.istore 6, 2) := fx_dat dk_M_putExtensions 20 rfl
theorem d_M_putExtensions_33 : decode prog_15_method_47_code 33 = .ok (.iload 4, 2) := fx_dat dk_M_putExtensions 21 rfl
theorem d_M_putExtensions_35 : decode prog_15_method_47_code 35 = .ok (.ifCond .eq 11, 3) := fx_dat dk_M_putExtensions 22 rfl
theorem d_M_putExtensions_38 : decode prog_15_method_47_code 38 = .ok (.aload_n 0, 1) := fx_dat dk_M_putExtensions 23 rfl
theorem d_M_putExtensions_39 : decode prog_15_method_47_code 39 = .ok (.iconst 3, 1) := fx_dat dk_M_putExtensions 24 rfl
theorem d_M_putExtensions_40 : decode prog_15_method_47_code 40 = .ok (.ldc2_w 312, 3) := fx_dat dk_M_putExtensions 25 rfl
theorem d_M_putExtensions_43 : decode prog_15_method_47_code 43 = .ok (.invokevirtual 300, 3) := fx_dat dk_M_putExtensions 26 rfl
theorem d_M_putExtensions_46 : decode prog_15_method_47_code 46 = .ok (.iload 5, 2) := fx_dat dk_M_putExtensions 27 rfl
theorem d_M_putExtensions_48 : decode prog_15_method_47_code 48 = .ok (.ifCond .le 17, 3) := fx_dat dk_M_putExtensions 28 rfl
theorem d_M_putExtensions_51 : decode prog_15_method_47_code 51 = .ok (.aload_n 0, 1) := fx_dat dk_M_putExtensions 29 rfl
theorem d_M_putExtensions_52 : decode prog_15_method_47_code 52 = .ok (.iconst 3, 1) := fx_dat dk_M_putExtensions 30 rfl
theorem d_M_putExtensions_53 : decode prog_15_method_47_code 53 = .ok (.ldc2_w 314, 3) := fx_dat dk_M_putExtensions 31 rfl
theorem d_M_putExtensions_56 : decode prog_15_method_47_code 56 = .ok (.iload 5, 2) := fx_dat dk_M_putExtensions 32 rfl
theorem d_M_putExtensions_58 : decode prog_15_method_47_code 58 = .ok (.iconst 1, 1) := fx_dat dk_M_putExtensions 33 rfl
theorem d_M_putExtensions_59 : decode prog_15_method_47_code 59 = .ok (.isub, 1) := fx_dat dk_M_putExtensions 34 rfl
theorem d_M_putExtensions_60 : decode prog_15_method_47_code 60 = .ok (.i2l, 1) := fx_dat dk_M_putExtensions 35 rfl
theorem d_M_putExtensions_61 : decode prog_15_method_47_code 61 = .ok (.lor, 1) := fx_dat dk_M_putExtensions 36 rfl
theorem d_M_putExtensions_62 : decode prog_15_method_47_code 62 = .ok (.invokevirtual 300, 3) := fx_dat dk_M_putExtensions 37 rfl
theorem d_M_putExtensions_65 : decode prog_15_method_47_code 65 = .ok (.aload_n 0, 1) := fx_dat dk_M_putExtensions 38 rfl
theorem d_M_putExtensions_66 : decode prog_15_method_47_code 66 = .ok (.bipush 48, 2) := fx_dat dk_M_putExtensions 39 rfl
theorem d_M_putExtensions_68 : decode prog_15_method_47_code 68 = .ok (.iload 6, 2) := fx_dat dk_M_putExtensions 40 rfl
theorem d_M_putExtensions_70 : decode prog_15_method_47_code 70 = .ok (.invokevirtual 305, 3) := fx_dat dk_M_putExtensions 41 rfl
theorem d_M_putExtensions_73 : decode prog_15_method_47_code 73 = .ok (.aload_n 0, 1) := fx_dat dk_M_putExtensions 42 rfl
theorem d_M_putExtensions_74 : decode prog_15_method_47_code 74 = .ok (.iload 6, 2) := fx_dat dk_M_putExtensions 43 rfl
theorem d_M_putExtensions_76 : decode prog_15_method_47_code 76 = .ok (.iconst 3, 1) := fx_dat dk_M_putExtensions 44 rfl
theorem d_M_putExtensions_77 : decode prog_15_method_47_code 77 = .ok (.ldc2_w 316, 3) := fx_dat dk_M_putExtensions 45 rfl
theorem d_M_putExtensions_80 : decode prog_15_method_47_code 80 = .ok (.iconst 1, 1) := fx_dat dk_M_putExtensions 46 rfl
theorem d_M_putExtensions_81 : decode prog_15_method_47_code 81 = .ok (.invokevirtual 318, 3) := fx_dat dk_M_putExtensions 47 rfl
theorem d_M_putExtensions_84 : decode prog_15_method_47_code 84 = .ok (.aload_n 0, 1) := fx_dat dk_M_putExtensions 48 rfl
theorem d_M_putExtensions_85 : decode prog_15_method_47_code 85 = .ok (.getfield 292, 3) := fx_dat dk_M_putExtensions 49 rfl
theorem d_M_putExtensions_88 : decode prog_15_method_47_code 88 = .ok (.istore 6, 2) := fx_dat dk_M_putExtensions 50 rfl
theorem d_M_putExtensions_90 : decode prog_15_method_47_code 90 = .ok (.aload_n 0, 1) := fx_dat dk_M_putExtensions 51 rfl
theorem d_M_putExtensions_91 : decode prog_15_method_47_code 91 = .ok (.iconst 4, 1) := fx_dat dk_M_putExtensions 52 rfl
theorem d_M_putExtensions_92 : decode prog_15_method_47_code 92 = .ok (.iload 4, 2) := fx_dat dk_M_putExtensions 53 rfl
theorem d_M_putExtensions_94 : decode prog_15_method_47_code 94 = .ok (.ifCond .eq 9, 3) := fx_dat dk_M_putExtensions 54 rfl
theorem d_M_putExtensions_97 : decode prog_15_method_47_code 97 = .ok (.ldc2_w 322, 3) := fx_dat dk_M_putExtensions 55 rfl
theorem d_M_putExtensions_100 : decode prog_15_method_47_code 100 = .ok (.goto 6, 3) := fx_dat dk_M_putExtensions 56 rfl
theorem d_M_putExtensions_103 : decode prog_15_method_47_code 103 = .ok (.ldc2_w 324, 3) := fx_dat dk_M_putExtensions 57 rfl
theorem d_M_putExtensions_106 : decode prog_15_method_47_code 106 = .ok (.invokevirtual 300, 3) := fx_dat dk_M_putExtensions 58 rfl
theorem d_M_putExtensions_109 : decode prog_15_method_47_code 109 = .ok (.aload_n 0, 1) := fx_dat dk_M_putExtensions 59 rfl
theorem d_M_putExtensions_110 : decode prog_15_method_47_code 110 = .ok (.iload 6, 2) := fx_dat dk_M_putExtensions 60 rfl
theorem d_M_putExtensions_112 : decode prog_15_method_47_code 112 = .ok (.iconst 3, 1) := fx_dat dk_M_putExtensions 61 rfl
theorem d_M_putExtensions_113 : decode prog_15_method_47_code 113 = .ok (.ldc2_w 326, 3) := fx_dat dk_M_putExtensions 62 rfl
theorem d_M_putExtensions_116 : decode prog_15_method_47_code 116 = .ok (.iconst 1, 1) := fx_dat dk_M_putExtensions 63 rfl
theorem d_M_putExtensions_117 : decode prog_15_method_47_code 117 = .ok (.invokevirtual 318, 3) := fx_dat dk_M_putExtensions 64 rfl
theorem d_M_putExtensions_120 : decode prog_15_method_47_code 120 = .ok (.iload_n 2, 1) := fx_dat dk_M_putExtensions 65 rfl
theorem d_M_putExtensions_121 : decode prog_15_method_47_code 121 = .ok (.aload_n 0, 1) := fx_dat dk_M_putExtensions 66 rfl
theorem d_M_putExtensions_122 : decode prog_15_method_47_code 122 = .ok (.getfield 328, 3) := fx_dat dk_M_putExtensions 67 rfl
theorem d_M_putExtensions_125 : decode prog_15_method_47_code 125 = .ok (.if_icmp .ge 99, 3) := fx_dat dk_M_putExtensions 68 rfl
theorem d_M_putExtensions_128 : decode prog_15_method_47_code 128 = .ok (.aload_n 0, 1) := fx_dat dk_M_putExtensions 69 rfl
theorem d_M_putExtensions_129 : decode prog_15_method_47_code 129 = .ok (.getfield 292, 3) := fx_dat dk_M_putExtensions 70 rfl
theorem d_M_putExtensions_132 : decode prog_15_method_47_code 132 = .ok (.istore 6, 2) := fx_dat dk_M_putExtensions 71 rfl
theorem d_M_putExtensions_134 : decode prog_15_method_47_code 134 = .ok (.iload_n 2, 1) := fx_dat dk_M_putExtensions 72 rfl
theorem d_M_putExtensions_135 : decode prog_15_method_47_code 135 = .ok (.istore 7, 2) := fx_dat dk_M_putExtensions 73 rfl
theorem d_M_putExtensions_137 : decode prog_15_method_47_code 137 = .ok (.iload 7, 2) := fx_dat dk_M_putExtensions 74 rfl
theorem d_M_putExtensions_139 : decode prog_15_method_47_code 139 = .ok (.aload_n 0, 1) := fx_dat dk_M_putExtensions 75 rfl
theorem d_M_putExtensions_140 : decode prog_15_method_47_code 140 = .ok (.getfield 328, 3) := fx_dat dk_M_putExtensions 76 rfl
theorem d_M_putExtensions_143 : decode prog_15_method_47_code 143 = .ok (.if_icmp .ge 62, 3) := fx_dat dk_M_putExtensions 77 rfl
theorem d_M_putExtensions_146 : decode prog_15_method_47_code 146 = .ok (.iinc 7 1, 3) := fx_dat dk_M_putExtensions 78 rfl
theorem d_M_putExtensions_149 : decode prog_15_method_47_code 149 = .ok (.aload_n 0, 1) := fx_dat dk_M_putExtensions 79 rfl
theorem d_M_putExtensions_150 : decode prog_15_method_47_code 150 = .ok (.getfield 292, 3) := fx_dat dk_M_putExtensions 80 rfl
theorem d_M_putExtensions_153 : decode prog_15_method_47_code 153 = .ok (.istore 8, 2) := fx_dat dk_M_putExtensions 81 rfl
theorem d_M_putExtensions_155 : decode prog_15_method_47_code 155 = .ok (.iload 7, 2) := fx_dat dk_M_putExtensions 82 rfl
theorem d_M_putExtensions_157 : decode prog_15_method_47_code 157 = .ok (.aload_n 0, 1) := fx_dat dk_M_putExtensions 83 rfl
theorem d_M_putExtensions_158 : decode prog_15_method_47_code 158 = .ok (.getfield 328, 3) := fx_dat dk_M_putExtensions 84 rfl
theorem d_M_putExtensions_161 : decode prog_15_method_47_code 161 = .ok (.if_icmp .ge 32, 3) := fx_dat dk_M_putExtensions 85 rfl
theorem d_M_putExtensions_164 : decode prog_15_method_47_code 164 = .ok (.aload_n 0, 1) := fx_dat dk_M_putExtensions 86 rfl
theorem d_M_putExtensions_165 : decode prog_15_method_47_code 165 = .ok (.getfield 8, 3) := fx_dat dk_M_putExtensions 87 rfl
theorem d_M_putExtensions_168 : decode prog_15_method_47_code 168 = .ok (.iload 7, 2) := fx_dat dk_M_putExtensions 88 rfl
theorem d_M_putExtensions_170 : decode prog_15_method_47_code 170 = .ok (.baload, 1) := fx_dat dk_M_putExtensions 89 rfl
theorem d_M_putExtensions_171 : decode prog_15_method_47_code 171 = .ok (.bipush 44, 2) := fx_dat dk_M_putExtensions 90 rfl
theorem d_M_putExtensions_173 : decode prog_15_method_47_code 173 = .ok (.if_icmp .eq 20, 3) := fx_dat dk_M_putExtensions 91 rfl
theorem d_M_putExtensions_176 : decode prog_15_method_47_code 176 = .ok (.aload_n 0, 1) := fx_dat dk_M_putExtensions 92 rfl
theorem d_M_putExtensions_177 : decode prog_15_method_47_code 177 = .ok (.aload_n 0, 1) := fx_dat dk_M_putExtensions 93 rfl
theorem d_M_putExtensions_178 : decode prog_15_method_47_code 178 = .ok (.getfield 8, 3) := fx_dat dk_M_putExtensions 94 rfl
theorem d_M_putExtensions_181 : decode prog_15_method_47_code 181 = .ok (.iload 7, 2) := fx_dat dk_M_putExtensions 95 rfl
theorem d_M_putExtensions_183 : decode prog_15_method_47_code 183 = .ok (.baload, 1) := fx_dat dk_M_putExtensions 96 rfl
theorem d_M_putExtensions_184 : decode prog_15_method_47_code 184 = .ok (.invokevirtual 295, 3) := fx_dat dk_M_putExtensions 97 rfl
theorem d_M_putExtensions_187 : decode prog_15_method_47_code 187 = .ok (.iinc 7 1, 3) := fx_dat dk_M_putExtensions 98 rfl
theorem d_M_putExtensions_190 : decode prog_15_method_47_code 190 = .ok (.goto (-35), 3) := fx_dat dk_M_putExtensions 99 rfl
theorem d_M_putExtensions_193 : decode prog_15_method_47_code 193 = .ok (.aload_n 0, 1) := fx_dat dk_M_putExtensions 100 rfl
theorem d_M_putExtensions_194 : decode prog_15_method_47_code 194 = .ok (.sipush 130, 3) := fx_dat dk_M_putExtensions 101 rfl
theorem d_M_putExtensions_197 : decode prog_15_method_47_code 197 = .ok (.iload 8, 2) := fx_dat dk_M_putExtensions 102 rfl
theorem d_M_putExtensions_199 : decode prog_15_method_47_code 199 = .ok (.invokevirtual 305, 3) := fx_dat dk_M_putExtensions 103 rfl
theorem d_M_putExtensions_202 : decode prog_15_method_47_code 202 = .ok (.goto (-65), 3) := fx_dat dk_M_putExtensions 104 rfl
theorem d_M_putExtensions_205 : decode prog_15_method_47_code 205 = .ok (.aload_n 0, 1) := fx_dat dk_M_putExtensions 105 rfl
theorem d_M_putExtensions_206 : decode prog_15_method_47_code 206 = .ok (.bipush 48, 2) := fx_dat dk_M_putExtensions 106 rfl
theorem d_M_putExtensions_208 : decode prog_15_method_47_code 208 = .ok (.iload 6, 2) := fx_dat dk_M_putExtensions 107 rfl
theorem d_M_putExtensions_210 : decode prog_15_method_47_code 210 = .ok (.invokevirtual 305, 3) := fx_dat dk_M_putExtensions 108 rfl
theorem d_M_putExtensions_213 : decode prog_15_method_47_code 213 = .ok (.aload_n 0, 1) := fx_dat dk_M_putExtensions 109 rfl
theorem d_M_putExtensions_214 : decode prog_15_method_47_code 214 = .ok (.iload 6, 2) := fx_dat dk_M_putExtensions 110 rfl
theorem d_M_putExtensions_216 : decode prog_15_method_47_code 216 = .ok (.iconst 3, 1) := fx_dat dk_M_putExtensions 111 rfl
theorem d_M_putExtensions_217 : decode prog_15_method_47_code 217 = .ok (.ldc2_w 331, 3) := fx_dat dk_M_putExtensions 112 rfl
theorem d_M_putExtensions_220 : decode prog_15_method_47_code 220 = .ok (.iconst 0, 1) := fx_dat dk_M_putExtensions 113 rfl
theorem d_M_putExtensions_221 : decode prog_15_method_47_code 221 = .ok (.invokevirtual 318, 3) := fx_dat dk_M_putExtensions 114 rfl
theorem d_M_putExtensions_224 : decode prog_15_method_47_code 224 = .ok (.iload_n 1, 1) := fx_dat dk_M_putExtensions 115 rfl
theorem d_M_putExtensions_225 : decode prog_15_method_47_code 225 = .ok (.sipush 768, 3) := fx_dat dk_M_putExtensions 116 rfl
theorem d_M_putExtensions_228 : decode prog_15_method_47_code 228 = .ok (.iand, 1) := fx_dat dk_M_putExtensions 117 rfl
theorem d_M_putExtensions_229 : decode prog_15_method_47_code 229 = .ok (.ifCond .eq 79, 3) := fx_dat dk_M_putExtensions 118 rfl
theorem d_M_putExtensions_232 : decode prog_15_method_47_code 232 = .ok (.aload_n 0, 1) := fx_dat dk_M_putExtensions 119 rfl
theorem d_M_putExtensions_233 : decode prog_15_method_47_code 233 = .ok (.getfield 292, 3) := fx_dat dk_M_putExtensions 120 rfl
theorem d_M_putExtensions_236 : decode prog_15_method_47_code 236 = .ok (.istore 6, 2) := fx_dat dk_M_putExtensions 121 rfl
theorem d_M_putExtensions_238 : decode prog_15_method_47_code 238 = .ok (.iconst 0, 1) := fx_dat dk_M_putExtensions 122 rfl
theorem d_M_putExtensions_239 : decode prog_15_method_47_code 239 = .ok (.istore 7, 2) := fx_dat dk_M_putExtensions 123 rfl
theorem d_M_putExtensions_241 : decode prog_15_method_47_code 241 = .ok (.iload 7, 2) := fx_dat dk_M_putExtensions 124 rfl
theorem d_M_putExtensions_243 : decode prog_15_method_47_code 243 = .ok (.iconst 2, 1) := fx_dat dk_M_putExtensions 125 rfl
theorem d_M_putExtensions_244 : decode prog_15_method_47_code 244 = .ok (.if_icmp .ge 45, 3) := fx_dat dk_M_putExtensions 126 rfl
theorem d_M_putExtensions_247 : decode prog_15_method_47_code 247 = .ok (.iload_n 1, 1) := fx_dat dk_M_putExtensions 127 rfl
theorem d_M_putExtensions_248 : decode prog_15_method_47_code 248 = .ok (.bipush 8, 2) := fx_dat dk_M_putExtensions 128 rfl
theorem d_M_putExtensions_250 : decode prog_15_method_47_code 250 = .ok (.iload 7, 2) := fx_dat dk_M_putExtensions 129 rfl
theorem d_M_putExtensions_252 : decode prog_15_method_47_code 252 = .ok (.iadd, 1) := fx_dat dk_M_putExtensions 130 rfl
theorem d_M_putExtensions_253 : decode prog_15_method_47_code 253 = .ok (.ishr, 1) := fx_dat dk_M_putExtensions 131 rfl
theorem d_M_putExtensions_254 : decode prog_15_method_47_code 254 = .ok (.iconst 1, 1) := fx_dat dk_M_putExtensions 132 rfl
theorem d_M_putExtensions_255 : decode prog_15_method_47_code 255 = .ok (.iand, 1) := fx_dat dk_M_putExtensions 133 rfl
theorem d_M_putExtensions_256 : decode prog_15_method_47_code 256 = .ok (.ifCond .ne 6, 3) := fx_dat dk_M_putExtensions 134 rfl
theorem d_M_putExtensions_259 : decode prog_15_method_47_code 259 = .ok (.goto 24, 3) := fx_dat dk_M_putExtensions 135 rfl
theorem d_M_putExtensions_262 : decode prog_15_method_47_code 262 = .ok (.aload_n 0, 1) := fx_dat dk_M_putExtensions 136 rfl
theorem d_M_putExtensions_263 : decode prog_15_method_47_code 263 = .ok (.iconst 2, 1) := fx_dat dk_M_putExtensions 137 rfl
theorem d_M_putExtensions_264 : decode prog_15_method_47_code 264 = .ok (.ldc2_w 147, 3) := fx_dat dk_M_putExtensions 138 rfl
theorem d_M_putExtensions_267 : decode prog_15_method_47_code 267 = .ok (.invokevirtual 300, 3) := fx_dat dk_M_putExtensions 139 rfl
theorem d_M_putExtensions_270 : decode prog_15_method_47_code 270 = .ok (.aload_n 0, 1) := fx_dat dk_M_putExtensions 140 rfl
theorem d_M_putExtensions_271 : decode prog_15_method_47_code 271 = .ok (.bipush 8, 2) := fx_dat dk_M_putExtensions 141 rfl
theorem d_M_putExtensions_273 : decode prog_15_method_47_code 273 = .ok (.ldc2_w 333, 3) := fx_dat dk_M_putExtensions 142 rfl
theorem d_M_putExtensions_276 : decode prog_15_method_47_code 276 = .ok (.iload 7, 2) := fx_dat dk_M_putExtensions 143 rfl
theorem d_M_putExtensions_278 : decode prog_15_method_47_code 278 = .ok (.i2l, 1) := fx_dat dk_M_putExtensions 144 rfl
theorem d_M_putExtensions_279 : decode prog_15_method_47_code 279 = .ok (.ladd, 1) := fx_dat dk_M_putExtensions 145 rfl
theorem d_M_putExtensions_280 : decode prog_15_method_47_code 280 = .ok (.invokevirtual 300, 3) := fx_dat dk_M_putExtensions 146 rfl
theorem d_M_putExtensions_283 : decode prog_15_method_47_code 283 = .ok (.iinc 7 1, 3) := fx_dat dk_M_putExtensions 147 rfl
theorem d_M_putExtensions_286 : decode prog_15_method_47_code 286 = .ok (.goto (-45), 3) := fx_dat dk_M_putExtensions 148 rfl
theorem d_M_putExtensions_289 : decode prog_15_method_47_code 289 = .ok (.aload_n 0, 1) := fx_dat dk_M_putExtensions 149 rfl
theorem d_M_putExtensions_290 : decode prog_15_method_47_code 290 = .ok (.bipush 48, 2) := fx_dat dk_M_putExtensions 150 rfl
theorem d_M_putExtensions_292 : decode prog_15_method_47_code 292 = .ok (.iload 6, 2) := fx_dat dk_M_putExtensions 151 rfl
theorem d_M_putExtensions_294 : decode prog_15_method_47_code 294 = .ok (.invokevirtual 305, 3) := fx_dat dk_M_putExtensions 152 rfl
theorem d_M_putExtensions_297 : decode prog_15_method_47_code 297 = .ok (.aload_n 0, 1) := fx_dat dk_M_putExtensions 153 rfl
theorem d_M_putExtensions_298 : decode prog_15_method_47_code 298 = .ok (.iload 6, 2) := fx_dat dk_M_putExtensions 154 rfl
theorem d_M_putExtensions_300 : decode prog_15_method_47_code 300 = .ok (.iconst 3, 1) := fx_dat dk_M_putExtensions 155 rfl
theorem d_M_putExtensions_301 : decode prog_15_method_47_code 301 = .ok (.ldc2_w 335, 3) := fx_dat dk_M_putExtensions 156 rfl
theorem d_M_putExtensions_304 : decode prog_15_method_47_code 304 = .ok (.iconst 0, 1) := fx_dat dk_M_putExtensions 157 rfl
theorem d_M_putExtensions_305 : decode prog_15_method_47_code 305 = .ok (.invokevirtual 318, 3) := fx_dat dk_M_putExtensions 158 rfl
theorem d_M_putExtensions_308 : decode prog_15_method_47_code 308 = .ok (.iload_n 1, 1) := fx_dat dk_M_putExtensions 159 rfl
theorem d_M_putExtensions_309 : decode prog_15_method_47_code 309 = .ok (.sipush 1024, 3) := fx_dat dk_M_putExtensions 160 rfl
theorem d_M_putExtensions_312 : decode prog_15_method_47_code 312 = .ok (.iand, 1) := fx_dat dk_M_putExtensions 161 rfl
theorem d_M_putExtensions_313 : decode prog_15_method_47_code 313 = .ok (.ifCond .eq 23, 3) := fx_dat dk_M_putExtensions 162 rfl
theorem d_M_putExtensions_316 : decode prog_15_method_47_code 316 = .ok (.aload_n 0, 1) := fx_dat dk_M_putExtensions 163 rfl
theorem d_M_putExtensions_317 : decode prog_15_method_47_code 317 = .ok (.getfield 292, 3) := fx_dat dk_M_putExtensions 164 rfl
theorem d_M_putExtensions_320 : decode prog_15_method_47_code 320 = .ok (.istore 6, 2) := fx_dat dk_M_putExtensions 165 rfl
theorem d_M_putExtensions_322 : decode prog_15_method_47_code 322 = .ok (.aload_n 0, 1) := fx_dat dk_M_putExtensions 166 rfl
theorem d_M_putExtensions_323 : decode prog_15_method_47_code 323 = .ok (.iconst 2, 1) := fx_dat dk_M_putExtensions 167 rfl
theorem d_M_putExtensions_324 : decode prog_15_method_47_code 324 = .ok (.ldc2_w 337, 3) := fx_dat dk_M_putExtensions 168 rfl
theorem d_M_putExtensions_327 : decode prog_15_method_47_code 327 = .ok (.invokevirtual 300, 3) := fx_dat dk_M_putExtensions 169 rfl
theorem d_M_putExtensions_330 : decode prog_15_method_47_code 330 = .ok (.aload_n 0, 1) := fx_dat dk_M_putExtensions 170 rfl
theorem d_M_putExtensions_331 : decode prog_15_method_47_code 331 = .ok (.iload 6, 2) := fx_dat dk_M_putExtensions 171 rfl
theorem d_M_putExtensions_333 : decode prog_15_method_47_code 333 = .ok (.invokevirtual 339, 3) := fx_dat dk_M_putExtensions 172 rfl
theorem d_M_putExtensions_336 : decode prog_15_method_47_code 336 = .ok (.aload_n 0, 1) := fx_dat dk_M_putExtensions 173 rfl
theorem d_M_putExtensions_337 : decode prog_15_method_47_code 337 = .ok (.bipush 48, 2) := fx_dat dk_M_putExtensions 174 rfl
theorem d_M_putExtensions_339 : decode prog_15_method_47_code 339 = .ok (.iload_n 3, 1) := fx_dat dk_M_putExtensions 175 rfl
theorem d_M_putExtensions_340 : decode prog_15_method_47_code 340 = .ok (.invokevirtual 305, 3) := fx_dat dk_M_putExtensions 176 rfl
theorem d_M_putExtensions_343 : decode prog_15_method_47_code 343 = .ok (.aload_n 0, 1) := fx_dat dk_M_putExtensions 177 rfl
theorem d_M_putExtensions_344 : decode prog_15_method_47_code 344 = .ok (.sipush 163, 3) := fx_dat dk_M_putExtensions 178 rfl
theorem d_M_putExtensions_347 : decode prog_15_method_47_code 347 = .ok (.iload_n 3, 1) := fx_dat dk_M_putExtensions 179 rfl
theorem d_M_putExtensions_348 : decode prog_15_method_47_code 348 = .ok (.invokevirtual 305, 3) := fx_dat dk_M_putExtensions 180 rfl
theorem d_M_putExtensions_351 : decode prog_15_method_47_code 351 = .ok (.return_, 1) := fx_dat dk_M_putExtensions 181 rfl
def m_M_putExtensions_336 (Q : AH → Prop) (r0 : Nat) (x3 : Int32) (h : AH) : Prop := hp_k h r0 = 13 ∧ m_M_wrap (fun h1 => fx_ext h h1 → m_M_wrap (fun h2 => fx_ext h1 h2 → Q h2) r0 (163 : Int32) x3 h1) r0 (48 : Int32) x3 h
def m_M_putExtensions_308 (Q : AH → Prop) (r0 : Nat) (x1 : Int32) (x3 : Int32) (h : AH) : Prop := ((x1 &&& (1024 : Int32)) = 0 → m_M_putExtensions_336 Q r0 x3 h) ∧ (¬ (x1 &&& (1024 : Int32)) = 0 → hp_k h r0 = 13 ∧ ∀ v1 : Int32, v1 = (hp_I h r0 47) → m_M_put_IJ (fun h1 => fx_ext h h1 → m_M_unknown (fun h2 => fx_ext h1 h2 → m_M_putExtensions_336 Q r0 x3 h2) r0 v1 h1) r0 (2 : Int32) (1280 : Int64) h)
def m_M_putExtensions_283 (Q : AH → Prop) (X241 : Int32 × AH → Prop) (r0 : Nat) (x1 : Int32) (x3 : Int32) (x6 : Int32) (x7 : Int32) (h : AH) : Prop := ∀ v1 : Int32, v1 = (x7 + (1 : Int32)) → X241 (v1, h)
def m_M_putExtensions_241_b (Q : AH → Prop) (X241 : Int32 × AH → Prop) (r0 : Nat) (x1 : Int32) (x3 : Int32) (x6 : Int32) (x7 : Int32) (h : AH) : Prop := ((2 : Int32) ≤ x7 → hp_k h r0 = 13 ∧ m_M_wrap (fun h1 => fx_ext h h1 → m_M_extended (fun h2 => fx_ext h1 h2 → m_M_putExtensions_308 Q r0 x1 x3 h2) r0 x6 (3 : Int32) (5578021 : Int64) (0 : Int32) h1) r0 (48 : Int32) x6 h) ∧ (¬ (2 : Int32) ≤ x7 → (¬ ((x1 >>> (((8 : Int32) + x7) &&& 31)) &&& (1 : Int32)) = 0 → hp_k h r0 = 13 ∧ m_M_put_IJ (fun h3 => fx_ext h h3 → m_M_put_IJ (fun h4 => fx_ext h3 h4 → m_M_putExtensions_283 Q X241 r0 x1 x3 x6 x7 h4) r0 (8 : Int32) ((3100166514561975041 : Int64) + ((x7).toInt64)) h3) r0 (2 : Int32) (1544 : Int64) h) ∧ (((x1 >>> (((8 : Int32) + x7) &&& 31)) &&& (1 : Int32)) = 0 → m_M_putExtensions_283 Q X241 r0 x1 x3 x6 x7 h))
def m_M_putExtensions_241 (Q : AH → Prop) (r0 : Nat) (x1 : Int32) (x3 : Int32) (x6 : Int32) (x7 : Int32) (h : AH) : Prop := fx_loop (fun (X241 : Int32 × AH → Prop) (st : Int32 × AH) => m_M_putExtensions_241_b Q X241 r0 x1 x3 x6 st.1 st.2) (x7, h)
def m_M_putExtensions_224 (Q : AH → Prop) (r0 : Nat) (x1 : Int32) (x3 : Int32) (h : AH) : Prop := ((x1 &&& (768 : Int32)) = 0 → m_M_putExtensions_308 Q r0 x1 x3 h) ∧ (¬ (x1 &&& (768 : Int32)) = 0 → hp_k h r0 = 13 ∧ ∀ v1 : Int32, v1 = (hp_I h r0 47) → m_M_putExtensions_241 Q r0 x1 x3 v1 (0 : Int32) h)
def m_M_putExtensions_193 (Q : AH → Prop) (X137 : Int32 × AH → Prop) (r0 : Nat) (x1 : Int32) (x3 : Int32) (x6 : Int32) (x7 : Int32) (x8 : Int32) (h : AH) : Prop := hp_k h r0 = 13 ∧ m_M_wrap (fun h1 => fx_ext h h1 → X137 (x7, h1)) r0 (130 : Int32) x8 h
def m_M_putExtensions_155_b (Q : AH → Prop) (X137 : Int32 × AH → Prop) (X155 : Int32 × AH → Prop) (r0 : Nat) (x1 : Int32) (x3 : Int32) (x6 : Int32) (x8 : Int32) (x7 : Int32) (h : AH) : Prop := hp_k h r0 = 13 ∧ ((hp_I h r0 4) ≤ x7 → m_M_putExtensions_193 Q X137 r0 x1 x3 x6 x7 x8 h) ∧ (¬ (hp_I h r0 4) ≤ x7 → ∃ b1, hp_R h r0 1 = some b1 ∧ bk (hp_k h b1) ∧ vp_in x7 (hp_n h b1) ∧ (by8 (hp_I h b1 x7.toNatClampNeg) → ((hp_I h b1 x7.toNatClampNeg) = (44 : Int32) → m_M_putExtensions_193 Q X137 r0 x1 x3 x6 x7 x8 h) ∧ (¬ (hp_I h b1 x7.toNatClampNeg) = (44 : Int32) → vp_in x7 (hp_n h b1) ∧ (by8 (hp_I h b1 x7.toNatClampNeg) → m_M_put_I (fun h1 => fx_ext h h1 → ∀ v1 : Int32, v1 = (x7 + (1 : Int32)) → X155 (v1, h1)) r0 (hp_I h b1 x7.toNatClampNeg) h))))
def m_M_putExtensions_155 (Q : AH → Prop) (X137 : Int32 × AH → Prop) (r0 : Nat) (x1 : Int32) (x3 : Int32) (x6 : Int32) (x8 : Int32) (x7 : Int32) (h : AH) : Prop := fx_loop (fun (X155 : Int32 × AH → Prop) (st : Int32 × AH) => m_M_putExtensions_155_b Q X137 X155 r0 x1 x3 x6 x8 st.1 st.2) (x7, h)
def m_M_putExtensions_137_b (Q : AH → Prop) (X137 : Int32 × AH → Prop) (r0 : Nat) (x1 : Int32) (x3 : Int32) (x6 : Int32) (x7 : Int32) (h : AH) : Prop := hp_k h r0 = 13 ∧ ((hp_I h r0 4) ≤ x7 → m_M_wrap (fun h1 => fx_ext h h1 → m_M_extended (fun h2 => fx_ext h1 h2 → m_M_putExtensions_224 Q r0 x1 x3 h2) r0 x6 (3 : Int32) (5578001 : Int64) (0 : Int32) h1) r0 (48 : Int32) x6 h) ∧ (¬ (hp_I h r0 4) ≤ x7 → ∀ v1 : Int32, v1 = (x7 + (1 : Int32)) → ∀ v2 : Int32, v2 = (hp_I h r0 47) → m_M_putExtensions_155 Q X137 r0 x1 x3 x6 v2 v1 h)
def m_M_putExtensions_137 (Q : AH → Prop) (r0 : Nat) (x1 : Int32) (x3 : Int32) (x6 : Int32) (x7 : Int32) (h : AH) : Prop := fx_loop (fun (X137 : Int32 × AH → Prop) (st : Int32 × AH) => m_M_putExtensions_137_b Q X137 r0 x1 x3 x6 st.1 st.2) (x7, h)
def m_M_putExtensions_106 (Q : AH → Prop) (r0 : Nat) (x1 : Int32) (x2 : Int32) (x3 : Int32) (x6 : Int32) (sr0 : Nat) (sx1 : Int32) (sw2 : Int64) (h : AH) : Prop := hp_k h sr0 = 13 ∧ m_M_put_IJ (fun h1 => fx_ext h h1 → hp_k h1 r0 = 13 ∧ m_M_extended (fun h2 => fx_ext h1 h2 → ((hp_I h2 r0 4) ≤ x2 → m_M_putExtensions_224 Q r0 x1 x3 h2) ∧ (¬ (hp_I h2 r0 4) ≤ x2 → ∀ v1 : Int32, v1 = (hp_I h2 r0 47) → m_M_putExtensions_137 Q r0 x1 x3 v1 x2 h2)) r0 x6 (3 : Int32) (5577999 : Int64) (1 : Int32) h1) sr0 sx1 sw2 h
def m_M_putExtensions_65 (Q : AH → Prop) (r0 : Nat) (x1 : Int32) (x2 : Int32) (x3 : Int32) (x4 : Int32) (x6 : Int32) (h : AH) : Prop := hp_k h r0 = 13 ∧ m_M_wrap (fun h1 => fx_ext h h1 → m_M_extended (fun h2 => fx_ext h1 h2 → ∀ v1 : Int32, v1 = (hp_I h2 r0 47) → (x4 = 0 → m_M_putExtensions_106 Q r0 x1 x2 x3 v1 r0 (4 : Int32) (50464640 : Int64) h2) ∧ (¬ x4 = 0 → m_M_putExtensions_106 Q r0 x1 x2 x3 v1 r0 (4 : Int32) (50462982 : Int64) h2)) r0 x6 (3 : Int32) (5578003 : Int64) (1 : Int32) h1) r0 (48 : Int32) x6 h
def m_M_putExtensions_46 (Q : AH → Prop) (r0 : Nat) (x1 : Int32) (x2 : Int32) (x3 : Int32) (x4 : Int32) (x5 : Int32) (x6 : Int32) (h : AH) : Prop := (x5 ≤ 0 → m_M_putExtensions_65 Q r0 x1 x2 x3 x4 x6 h) ∧ (¬ x5 ≤ 0 → hp_k h r0 = 13 ∧ m_M_put_IJ (fun h1 => fx_ext h h1 → m_M_putExtensions_65 Q r0 x1 x2 x3 x4 x6 h1) r0 (3 : Int32) ((131328 : Int64) ||| (((x5 - (1 : Int32))).toInt64)) h)
def m_M_putExtensions_17 (Q : AH → Prop) (r0 : Nat) (x1 : Int32) (x2 : Int32) (x3 : Int32) (sx0 : Int32) (h : AH) : Prop := ∀ v1 : Int32, v1 = ((x1 >>> ((1 : Int32) &&& 31)) &&& (127 : Int32)) → hp_k h r0 = 13 ∧ ∀ v2 : Int32, v2 = (hp_I h r0 47) → (sx0 = 0 → m_M_putExtensions_46 Q r0 x1 x2 x3 sx0 v1 v2 h) ∧ (¬ sx0 = 0 → m_M_put_IJ (fun h1 => fx_ext h h1 → m_M_putExtensions_46 Q r0 x1 x2 x3 sx0 v1 v2 h1) r0 (3 : Int32) (66047 : Int64) h)
def m_M_putExtensions (Q : AH → Prop) (r0 : Nat) (x1 : Int32) (x2 : Int32) (h : AH) : Prop := hp_k h r0 = 13 ∧ ∀ v1 : Int32, v1 = (hp_I h r0 47) → (¬ (x1 &&& (1 : Int32)) = (1 : Int32) → m_M_putExtensions_17 Q r0 x1 x2 v1 (0 : Int32) h) ∧ ((x1 &&& (1 : Int32)) = (1 : Int32) → m_M_putExtensions_17 Q r0 x1 x2 v1 (1 : Int32) h)
theorem b_M_putExtensions_336 {p : Program} {l : Launch} {e : Env} {R : Room} {s : State} {m : MethodId} {args : Array Value} {below : List Frame} {meth : Method} {c : Code} {D : DD} {h0 : AH} {Q : AH → Prop} (C : fx_CX D y_M_putExtensions prog_15_method_47_code 9 3 50 (none) [] h0 p R s m meth c) (hl : l.flags = flags0) (r0 : Nat) (x3 : Int32) (h : AH) (hw : m_M_putExtensions_336 Q r0 x3 h) : ∀ (ls : Array Slot) (H : Heap) (locs : List Loc) (cells slots : Nat), lv_has ls 9 [(0, .ref r0), (3, .int x3)] → fx_F D h0 h H locs cells slots → W p l e R s m args below meth c H locs cells slots (fx_Z D below s h0 (fx_oV Q fx_no)) (F0 m 336 ls []) := by
  unfold m_M_putExtensions_336 at hw
  intro ls H locs cells slots hv F
  refine lv_aload_n C.ex C.by d_M_putExtensions_336 rfl (lv_at hv 0 rfl) ?_
  refine lv_bipush (v := (48 : Int32)) C.ex C.by d_M_putExtensions_337 (by decide) ?_
  refine lv_iload_n C.ex C.by d_M_putExtensions_339 rfl (lv_at hv 1 rfl) ?_
  obtain ⟨hk1, hw⟩ := hw
  refine fx_callV C F (c_M_wrap hl hw) hm_M_wrap hi_M_wrap hv.1 (by decide) (Nat.le_of_ble_eq_true rfl) (iv_M_wrap C F lm_M_305 hk1 d_M_putExtensions_340) (fx_out0 _) fx_eno (fun h1 H locs cells slots hw hx1 F => ?_)
  replace hw := hw hx1
  have hk1 := (hx1).k hk1
  refine lv_aload_n C.ex C.by d_M_putExtensions_343 rfl (lv_at hv 0 rfl) ?_
  refine lv_sipush (v := (163 : Int32)) C.ex C.by d_M_putExtensions_344 (by decide) ?_
  refine lv_iload_n C.ex C.by d_M_putExtensions_347 rfl (lv_at hv 1 rfl) ?_
  refine fx_callV C F (c_M_wrap hl hw) hm_M_wrap hi_M_wrap hv.1 (by decide) (Nat.le_of_ble_eq_true rfl) (iv_M_wrap C F lm_M_305 hk1 d_M_putExtensions_348) (fx_out0 _) fx_eno (fun h2 H locs cells slots hw hx2 F => ?_)
  replace hw := hw hx2
  have hk1 := (hx2).k hk1
  exact fx_vret C F d_M_putExtensions_351 (Or.inl ⟨rfl, hw⟩)
theorem b_M_putExtensions_308 {p : Program} {l : Launch} {e : Env} {R : Room} {s : State} {m : MethodId} {args : Array Value} {below : List Frame} {meth : Method} {c : Code} {D : DD} {h0 : AH} {Q : AH → Prop} (C : fx_CX D y_M_putExtensions prog_15_method_47_code 9 3 50 (none) [] h0 p R s m meth c) (hl : l.flags = flags0) (r0 : Nat) (x1 : Int32) (x3 : Int32) (h : AH) (hw : m_M_putExtensions_308 Q r0 x1 x3 h) : ∀ (ls : Array Slot) (H : Heap) (locs : List Loc) (cells slots : Nat), lv_has ls 9 [(0, .ref r0), (1, .int x1), (3, .int x3)] → fx_F D h0 h H locs cells slots → W p l e R s m args below meth c H locs cells slots (fx_Z D below s h0 (fx_oV Q fx_no)) (F0 m 308 ls []) := by
  unfold m_M_putExtensions_308 at hw
  intro ls H locs cells slots hv F
  refine lv_iload_n C.ex C.by d_M_putExtensions_308 rfl (lv_at hv 1 rfl) ?_
  refine lv_sipush (v := (1024 : Int32)) C.ex C.by d_M_putExtensions_309 (by decide) ?_
  refine lv_iand C.ex C.by d_M_putExtensions_312 ?_
  refine lv_if_eq C.ex C.by d_M_putExtensions_313 rfl (fun hc => ?_) (fun hc => ?_)
  · replace hw := hw.1 hc
    exact b_M_putExtensions_336 C hl _ _ _ hw _ _ _ _ _ (lv_sub hv [0, 2] rfl) F
  · replace hw := hw.2 hc
    refine lv_aload_n C.ex C.by d_M_putExtensions_316 rfl (lv_at hv 0 rfl) ?_
    obtain ⟨hk1, hw⟩ := hw
    refine fx_getI C F lf_M_292 hk1 rfl d_M_putExtensions_317 ?_
    let v1 : Int32 := (hp_I h r0 47)
    replace hw := hw v1 rfl
    refine lv_istore (lv' := [(6, .int v1), (0, .ref r0), (1, .int x1), (3, .int x3)]) C.ex C.by d_M_putExtensions_320 hv (by decide) rfl (fun ls hv => ?_)
    refine lv_aload_n C.ex C.by d_M_putExtensions_322 rfl (lv_at hv 1 rfl) ?_
    refine lv_iconst (v := (2 : Int32)) C.ex C.by d_M_putExtensions_323 (by decide) ?_
    refine lv_ldc2 (v := (1280 : Int64)) C.ex C.by C.ow (C.tw.at (fx_m7 (List.mem_of_getElem? (i := 117) rfl)) rfl rfl) d_M_putExtensions_324 ?_
    refine fx_callV C F (c_M_put_IJ hl hw) hm_M_put_IJ hi_M_put_IJ hv.1 (by decide) (Nat.le_of_ble_eq_true rfl) (iv_M_put_IJ C F lm_M_300 hk1 d_M_putExtensions_327) (fx_out0 _) fx_eno (fun h1 H locs cells slots hw hx1 F => ?_)
    replace hw := hw hx1
    have hk1 := (hx1).k hk1
    refine lv_aload_n C.ex C.by d_M_putExtensions_330 rfl (lv_at hv 1 rfl) ?_
    refine lv_iload C.ex C.by d_M_putExtensions_331 (lv_at hv 0 rfl) ?_
    refine fx_callV C F (c_M_unknown hl hw) hm_M_unknown hi_M_unknown hv.1 (by decide) (Nat.le_of_ble_eq_true rfl) (iv_M_unknown C F lm_M_339 hk1 d_M_putExtensions_333) (fx_out0 _) fx_eno (fun h2 H locs cells slots hw hx2 F => ?_)
    replace hw := hw hx2
    have hk1 := (hx2).k hk1
    exact b_M_putExtensions_336 C hl _ _ _ hw _ _ _ _ _ (lv_sub hv [1, 3] rfl) F
theorem b_M_putExtensions_283 {p : Program} {l : Launch} {e : Env} {R : Room} {s : State} {m : MethodId} {args : Array Value} {below : List Frame} {meth : Method} {c : Code} {D : DD} {h0 : AH} {Q : AH → Prop} {X241 : Int32 × AH → Prop} (C : fx_CX D y_M_putExtensions prog_15_method_47_code 9 3 50 (none) [] h0 p R s m meth c) (hl : l.flags = flags0) (r0 : Nat) (x1 : Int32) (x3 : Int32) (x6 : Int32) (x7 : Int32) (h : AH) (hX241 : ∀ st, X241 st → ∀ (ls : Array Slot) (H : Heap) (locs : List Loc) (cells slots : Nat), lv_has ls 9 [(0, .ref r0), (1, .int x1), (3, .int x3), (6, .int x6), (7, .int st.1)] → fx_F D h0 st.2 H locs cells slots → W p l e R s m args below meth c H locs cells slots (fx_Z D below s h0 (fx_oV Q fx_no)) (F0 m 241 ls [])) (hw : m_M_putExtensions_283 Q X241 r0 x1 x3 x6 x7 h) : ∀ (ls : Array Slot) (H : Heap) (locs : List Loc) (cells slots : Nat), lv_has ls 9 [(0, .ref r0), (1, .int x1), (3, .int x3), (6, .int x6), (7, .int x7)] → fx_F D h0 h H locs cells slots → W p l e R s m args below meth c H locs cells slots (fx_Z D below s h0 (fx_oV Q fx_no)) (F0 m 283 ls []) := by
  unfold m_M_putExtensions_283 at hw
  intro ls H locs cells slots hv F
  let v1 : Int32 := (x7 + (1 : Int32))
  replace hw := hw v1 rfl
  refine lv_iinc (v := v1) (k := 4) (lv' := [(7, .int v1), (0, .ref r0), (1, .int x1), (3, .int x3), (6, .int x6)]) C.ex C.by d_M_putExtensions_283 hv rfl (congrArg (fun z => x7 + z) (by decide)) (by decide) rfl (fun ls hv => ?_)
  refine lv_goto C.ex C.by d_M_putExtensions_286 rfl ?_
  exact hX241 _ hw _ _ _ _ _ (lv_sub hv [1, 2, 3, 4, 0] rfl) F
theorem b_M_putExtensions_241 {p : Program} {l : Launch} {e : Env} {R : Room} {s : State} {m : MethodId} {args : Array Value} {below : List Frame} {meth : Method} {c : Code} {D : DD} {h0 : AH} {Q : AH → Prop} (C : fx_CX D y_M_putExtensions prog_15_method_47_code 9 3 50 (none) [] h0 p R s m meth c) (hl : l.flags = flags0) (r0 : Nat) (x1 : Int32) (x3 : Int32) (x6 : Int32) (x7 : Int32) (h : AH) (hw : m_M_putExtensions_241 Q r0 x1 x3 x6 x7 h) : ∀ (ls : Array Slot) (H : Heap) (locs : List Loc) (cells slots : Nat), lv_has ls 9 [(0, .ref r0), (1, .int x1), (3, .int x3), (6, .int x6), (7, .int x7)] → fx_F D h0 h H locs cells slots → W p l e R s m args below meth c H locs cells slots (fx_Z D below s h0 (fx_oV Q fx_no)) (F0 m 241 ls []) := by
  refine fx_loop.use hw (fun st => ∀ (ls : Array Slot) (H : Heap) (locs : List Loc) (cells slots : Nat), lv_has ls 9 [(0, .ref r0), (1, .int x1), (3, .int x3), (6, .int x6), (7, .int st.1)] → fx_F D h0 st.2 H locs cells slots → W p l e R s m args below meth c H locs cells slots (fx_Z D below s h0 (fx_oV Q fx_no)) (F0 m 241 ls [])) (fun X241 st hX241 hw => ?_)
  obtain ⟨x7, h⟩ := st
  replace hw : m_M_putExtensions_241_b Q X241 r0 x1 x3 x6 x7 h := hw
  unfold m_M_putExtensions_241_b at hw
  intro ls H locs cells slots hv F
  refine lv_iload C.ex C.by d_M_putExtensions_241 (lv_at hv 4 rfl) ?_
  refine lv_iconst (v := (2 : Int32)) C.ex C.by d_M_putExtensions_243 (by decide) ?_
  refine lv_icmp_ge C.ex C.by d_M_putExtensions_244 rfl (fun hc => ?_) (fun hc => ?_)
  · replace hw := hw.1 hc
    refine lv_aload_n C.ex C.by d_M_putExtensions_289 rfl (lv_at hv 0 rfl) ?_
    refine lv_bipush (v := (48 : Int32)) C.ex C.by d_M_putExtensions_290 (by decide) ?_
    refine lv_iload C.ex C.by d_M_putExtensions_292 (lv_at hv 3 rfl) ?_
    obtain ⟨hk1, hw⟩ := hw
    refine fx_callV C F (c_M_wrap hl hw) hm_M_wrap hi_M_wrap hv.1 (by decide) (Nat.le_of_ble_eq_true rfl) (iv_M_wrap C F lm_M_305 hk1 d_M_putExtensions_294) (fx_out0 _) fx_eno (fun h1 H locs cells slots hw hx1 F => ?_)
    replace hw := hw hx1
    have hk1 := (hx1).k hk1
    refine lv_aload_n C.ex C.by d_M_putExtensions_297 rfl (lv_at hv 0 rfl) ?_
    refine lv_iload C.ex C.by d_M_putExtensions_298 (lv_at hv 3 rfl) ?_
    refine lv_iconst (v := (3 : Int32)) C.ex C.by d_M_putExtensions_300 (by decide) ?_
    refine lv_ldc2 (v := (5578021 : Int64)) C.ex C.by C.ow (C.tw.at (fx_m7 (List.mem_of_getElem? (i := 116) rfl)) rfl rfl) d_M_putExtensions_301 ?_
    refine lv_iconst (v := (0 : Int32)) C.ex C.by d_M_putExtensions_304 (by decide) ?_
    refine fx_callV C F (c_M_extended hl hw) hm_M_extended hi_M_extended hv.1 (by decide) (Nat.le_of_ble_eq_true rfl) (iv_M_extended C F lm_M_318 hk1 d_M_putExtensions_305) (fx_out0 _) fx_eno (fun h2 H locs cells slots hw hx2 F => ?_)
    replace hw := hw hx2
    have hk1 := (hx2).k hk1
    exact b_M_putExtensions_308 C hl _ _ _ _ hw _ _ _ _ _ (lv_sub hv [0, 1, 2] rfl) F
  · replace hw := hw.2 hc
    refine lv_iload_n C.ex C.by d_M_putExtensions_247 rfl (lv_at hv 1 rfl) ?_
    refine lv_bipush (v := (8 : Int32)) C.ex C.by d_M_putExtensions_248 (by decide) ?_
    refine lv_iload C.ex C.by d_M_putExtensions_250 (lv_at hv 4 rfl) ?_
    refine lv_iadd C.ex C.by d_M_putExtensions_252 ?_
    refine lv_ishr C.ex C.by d_M_putExtensions_253 ?_
    refine lv_iconst (v := (1 : Int32)) C.ex C.by d_M_putExtensions_254 (by decide) ?_
    refine lv_iand C.ex C.by d_M_putExtensions_255 ?_
    refine lv_if_ne C.ex C.by d_M_putExtensions_256 rfl (fun hc => ?_) (fun hc => ?_)
    · replace hw := hw.1 hc
      refine lv_aload_n C.ex C.by d_M_putExtensions_262 rfl (lv_at hv 0 rfl) ?_
      refine lv_iconst (v := (2 : Int32)) C.ex C.by d_M_putExtensions_263 (by decide) ?_
      refine lv_ldc2 (v := (1544 : Int64)) C.ex C.by C.ow (C.tw.at (fx_m6 (List.mem_of_getElem? (i := 235) rfl)) rfl rfl) d_M_putExtensions_264 ?_
      obtain ⟨hk2, hw⟩ := hw
      refine fx_callV C F (c_M_put_IJ hl hw) hm_M_put_IJ hi_M_put_IJ hv.1 (by decide) (Nat.le_of_ble_eq_true rfl) (iv_M_put_IJ C F lm_M_300 hk2 d_M_putExtensions_267) (fx_out0 _) fx_eno (fun h3 H locs cells slots hw hx3 F => ?_)
      replace hw := hw hx3
      have hk2 := (hx3).k hk2
      refine lv_aload_n C.ex C.by d_M_putExtensions_270 rfl (lv_at hv 0 rfl) ?_
      refine lv_bipush (v := (8 : Int32)) C.ex C.by d_M_putExtensions_271 (by decide) ?_
      refine lv_ldc2 (v := (3100166514561975041 : Int64)) C.ex C.by C.ow (C.tw.at (fx_m7 (List.mem_of_getElem? (i := 115) rfl)) rfl rfl) d_M_putExtensions_273 ?_
      refine lv_iload C.ex C.by d_M_putExtensions_276 (lv_at hv 4 rfl) ?_
      refine lv_i2l (v := ((x7).toInt64)) C.ex C.by d_M_putExtensions_278 rfl ?_
      refine lv_ladd C.ex C.by d_M_putExtensions_279 ?_
      refine fx_callV C F (c_M_put_IJ hl hw) hm_M_put_IJ hi_M_put_IJ hv.1 (by decide) (Nat.le_of_ble_eq_true rfl) (iv_M_put_IJ C F lm_M_300 hk2 d_M_putExtensions_280) (fx_out0 _) fx_eno (fun h4 H locs cells slots hw hx4 F => ?_)
      replace hw := hw hx4
      have hk2 := (hx4).k hk2
      exact b_M_putExtensions_283 C hl _ _ _ _ _ _ hX241 hw _ _ _ _ _ hv F
    · replace hw := hw.2 hc
      refine lv_goto C.ex C.by d_M_putExtensions_259 rfl ?_
      exact b_M_putExtensions_283 C hl _ _ _ _ _ _ hX241 hw _ _ _ _ _ hv F
theorem b_M_putExtensions_224 {p : Program} {l : Launch} {e : Env} {R : Room} {s : State} {m : MethodId} {args : Array Value} {below : List Frame} {meth : Method} {c : Code} {D : DD} {h0 : AH} {Q : AH → Prop} (C : fx_CX D y_M_putExtensions prog_15_method_47_code 9 3 50 (none) [] h0 p R s m meth c) (hl : l.flags = flags0) (r0 : Nat) (x1 : Int32) (x3 : Int32) (h : AH) (hw : m_M_putExtensions_224 Q r0 x1 x3 h) : ∀ (ls : Array Slot) (H : Heap) (locs : List Loc) (cells slots : Nat), lv_has ls 9 [(0, .ref r0), (1, .int x1), (3, .int x3)] → fx_F D h0 h H locs cells slots → W p l e R s m args below meth c H locs cells slots (fx_Z D below s h0 (fx_oV Q fx_no)) (F0 m 224 ls []) := by
  unfold m_M_putExtensions_224 at hw
  intro ls H locs cells slots hv F
  refine lv_iload_n C.ex C.by d_M_putExtensions_224 rfl (lv_at hv 1 rfl) ?_
  refine lv_sipush (v := (768 : Int32)) C.ex C.by d_M_putExtensions_225 (by decide) ?_
  refine lv_iand C.ex C.by d_M_putExtensions_228 ?_
  refine lv_if_eq C.ex C.by d_M_putExtensions_229 rfl (fun hc => ?_) (fun hc => ?_)
  · replace hw := hw.1 hc
    exact b_M_putExtensions_308 C hl _ _ _ _ hw _ _ _ _ _ hv F
  · replace hw := hw.2 hc
    refine lv_aload_n C.ex C.by d_M_putExtensions_232 rfl (lv_at hv 0 rfl) ?_
    obtain ⟨hk1, hw⟩ := hw
    refine fx_getI C F lf_M_292 hk1 rfl d_M_putExtensions_233 ?_
    let v1 : Int32 := (hp_I h r0 47)
    replace hw := hw v1 rfl
    refine lv_istore (lv' := [(6, .int v1), (0, .ref r0), (1, .int x1), (3, .int x3)]) C.ex C.by d_M_putExtensions_236 hv (by decide) rfl (fun ls hv => ?_)
    refine lv_iconst (v := (0 : Int32)) C.ex C.by d_M_putExtensions_238 (by decide) ?_
    refine lv_istore (lv' := [(7, .int (0 : Int32)), (6, .int v1), (0, .ref r0), (1, .int x1), (3, .int x3)]) C.ex C.by d_M_putExtensions_239 hv (by decide) rfl (fun ls hv => ?_)
    exact b_M_putExtensions_241 C hl _ _ _ _ _ _ hw _ _ _ _ _ (lv_sub hv [2, 3, 4, 1, 0] rfl) F
theorem b_M_putExtensions_193 {p : Program} {l : Launch} {e : Env} {R : Room} {s : State} {m : MethodId} {args : Array Value} {below : List Frame} {meth : Method} {c : Code} {D : DD} {h0 : AH} {Q : AH → Prop} {X137 : Int32 × AH → Prop} (C : fx_CX D y_M_putExtensions prog_15_method_47_code 9 3 50 (none) [] h0 p R s m meth c) (hl : l.flags = flags0) (r0 : Nat) (x1 : Int32) (x3 : Int32) (x6 : Int32) (x7 : Int32) (x8 : Int32) (h : AH) (hX137 : ∀ st, X137 st → ∀ (ls : Array Slot) (H : Heap) (locs : List Loc) (cells slots : Nat), lv_has ls 9 [(0, .ref r0), (1, .int x1), (3, .int x3), (6, .int x6), (7, .int st.1)] → fx_F D h0 st.2 H locs cells slots → W p l e R s m args below meth c H locs cells slots (fx_Z D below s h0 (fx_oV Q fx_no)) (F0 m 137 ls [])) (hw : m_M_putExtensions_193 Q X137 r0 x1 x3 x6 x7 x8 h) : ∀ (ls : Array Slot) (H : Heap) (locs : List Loc) (cells slots : Nat), lv_has ls 9 [(0, .ref r0), (1, .int x1), (3, .int x3), (6, .int x6), (7, .int x7), (8, .int x8)] → fx_F D h0 h H locs cells slots → W p l e R s m args below meth c H locs cells slots (fx_Z D below s h0 (fx_oV Q fx_no)) (F0 m 193 ls []) := by
  unfold m_M_putExtensions_193 at hw
  intro ls H locs cells slots hv F
  refine lv_aload_n C.ex C.by d_M_putExtensions_193 rfl (lv_at hv 0 rfl) ?_
  refine lv_sipush (v := (130 : Int32)) C.ex C.by d_M_putExtensions_194 (by decide) ?_
  refine lv_iload C.ex C.by d_M_putExtensions_197 (lv_at hv 5 rfl) ?_
  obtain ⟨hk1, hw⟩ := hw
  refine fx_callV C F (c_M_wrap hl hw) hm_M_wrap hi_M_wrap hv.1 (by decide) (Nat.le_of_ble_eq_true rfl) (iv_M_wrap C F lm_M_305 hk1 d_M_putExtensions_199) (fx_out0 _) fx_eno (fun h1 H locs cells slots hw hx1 F => ?_)
  replace hw := hw hx1
  have hk1 := (hx1).k hk1
  refine lv_goto C.ex C.by d_M_putExtensions_202 rfl ?_
  exact hX137 _ hw _ _ _ _ _ (lv_sub hv [0, 1, 2, 3, 4] rfl) F
theorem b_M_putExtensions_155 {p : Program} {l : Launch} {e : Env} {R : Room} {s : State} {m : MethodId} {args : Array Value} {below : List Frame} {meth : Method} {c : Code} {D : DD} {h0 : AH} {Q : AH → Prop} {X137 : Int32 × AH → Prop} (C : fx_CX D y_M_putExtensions prog_15_method_47_code 9 3 50 (none) [] h0 p R s m meth c) (hl : l.flags = flags0) (r0 : Nat) (x1 : Int32) (x3 : Int32) (x6 : Int32) (x8 : Int32) (x7 : Int32) (h : AH) (hX137 : ∀ st, X137 st → ∀ (ls : Array Slot) (H : Heap) (locs : List Loc) (cells slots : Nat), lv_has ls 9 [(0, .ref r0), (1, .int x1), (3, .int x3), (6, .int x6), (7, .int st.1)] → fx_F D h0 st.2 H locs cells slots → W p l e R s m args below meth c H locs cells slots (fx_Z D below s h0 (fx_oV Q fx_no)) (F0 m 137 ls [])) (hw : m_M_putExtensions_155 Q X137 r0 x1 x3 x6 x8 x7 h) : ∀ (ls : Array Slot) (H : Heap) (locs : List Loc) (cells slots : Nat), lv_has ls 9 [(0, .ref r0), (1, .int x1), (3, .int x3), (6, .int x6), (7, .int x7), (8, .int x8)] → fx_F D h0 h H locs cells slots → W p l e R s m args below meth c H locs cells slots (fx_Z D below s h0 (fx_oV Q fx_no)) (F0 m 155 ls []) := by
  refine fx_loop.use hw (fun st => ∀ (ls : Array Slot) (H : Heap) (locs : List Loc) (cells slots : Nat), lv_has ls 9 [(0, .ref r0), (1, .int x1), (3, .int x3), (6, .int x6), (7, .int st.1), (8, .int x8)] → fx_F D h0 st.2 H locs cells slots → W p l e R s m args below meth c H locs cells slots (fx_Z D below s h0 (fx_oV Q fx_no)) (F0 m 155 ls [])) (fun X155 st hX155 hw => ?_)
  obtain ⟨x7, h⟩ := st
  replace hw : m_M_putExtensions_155_b Q X137 X155 r0 x1 x3 x6 x8 x7 h := hw
  unfold m_M_putExtensions_155_b at hw
  intro ls H locs cells slots hv F
  refine lv_iload C.ex C.by d_M_putExtensions_155 (lv_at hv 4 rfl) ?_
  refine lv_aload_n C.ex C.by d_M_putExtensions_157 rfl (lv_at hv 0 rfl) ?_
  obtain ⟨hk1, hw⟩ := hw
  refine fx_getI C F lf_M_328 hk1 rfl d_M_putExtensions_158 ?_
  refine lv_icmp_ge C.ex C.by d_M_putExtensions_161 rfl (fun hc => ?_) (fun hc => ?_)
  · replace hw := hw.1 hc
    exact b_M_putExtensions_193 C hl _ _ _ _ _ _ _ hX137 hw _ _ _ _ _ hv F
  · replace hw := hw.2 hc
    refine lv_aload_n C.ex C.by d_M_putExtensions_164 rfl (lv_at hv 0 rfl) ?_
    obtain ⟨b1, hb1, hw⟩ := hw
    refine fx_getR C F lf_M_8 hk1 rfl hb1 d_M_putExtensions_165 ?_
    refine lv_iload C.ex C.by d_M_putExtensions_168 (lv_at hv 4 rfl) ?_
    obtain ⟨hk2, hw⟩ := hw
    obtain ⟨hi1, hw⟩ := hw
    refine fx_bald C F hk2 hi1 d_M_putExtensions_170 (fun h8 => ?_)
    replace hw := hw h8
    refine lv_bipush (v := (44 : Int32)) C.ex C.by d_M_putExtensions_171 (by decide) ?_
    refine lv_icmp_eq C.ex C.by d_M_putExtensions_173 rfl (fun hc => ?_) (fun hc => ?_)
    · replace hw := hw.1 hc
      exact b_M_putExtensions_193 C hl _ _ _ _ _ _ _ hX137 hw _ _ _ _ _ hv F
    · replace hw := hw.2 hc
      refine lv_aload_n C.ex C.by d_M_putExtensions_176 rfl (lv_at hv 0 rfl) ?_
      refine lv_aload_n C.ex C.by d_M_putExtensions_177 rfl (lv_at hv 0 rfl) ?_
      refine fx_getR C F lf_M_8 hk1 rfl hb1 d_M_putExtensions_178 ?_
      refine lv_iload C.ex C.by d_M_putExtensions_181 (lv_at hv 4 rfl) ?_
      obtain ⟨hi2, hw⟩ := hw
      refine fx_bald C F hk2 hi2 d_M_putExtensions_183 (fun h8 => ?_)
      replace hw := hw h8
      refine fx_callV C F (c_M_put_I hl hw) hm_M_put_I hi_M_put_I hv.1 (by decide) (Nat.le_of_ble_eq_true rfl) (iv_M_put_I C F lm_M_295 hk1 d_M_putExtensions_184) (fx_out0 _) fx_eno (fun h1 H locs cells slots hw hx1 F => ?_)
      replace hw := hw hx1
      have hk2 := (hx1).gb hk2
      have hk1 := (hx1).k hk1
      let v1 : Int32 := (x7 + (1 : Int32))
      replace hw := hw v1 rfl
      refine lv_iinc (v := v1) (k := 4) (lv' := [(7, .int v1), (0, .ref r0), (1, .int x1), (3, .int x3), (6, .int x6), (8, .int x8)]) C.ex C.by d_M_putExtensions_187 hv rfl (congrArg (fun z => x7 + z) (by decide)) (by decide) rfl (fun ls hv => ?_)
      refine lv_goto C.ex C.by d_M_putExtensions_190 rfl ?_
      exact hX155 _ hw _ _ _ _ _ (lv_sub hv [1, 2, 3, 4, 0, 5] rfl) F
theorem b_M_putExtensions_137 {p : Program} {l : Launch} {e : Env} {R : Room} {s : State} {m : MethodId} {args : Array Value} {below : List Frame} {meth : Method} {c : Code} {D : DD} {h0 : AH} {Q : AH → Prop} (C : fx_CX D y_M_putExtensions prog_15_method_47_code 9 3 50 (none) [] h0 p R s m meth c) (hl : l.flags = flags0) (r0 : Nat) (x1 : Int32) (x3 : Int32) (x6 : Int32) (x7 : Int32) (h : AH) (hw : m_M_putExtensions_137 Q r0 x1 x3 x6 x7 h) : ∀ (ls : Array Slot) (H : Heap) (locs : List Loc) (cells slots : Nat), lv_has ls 9 [(0, .ref r0), (1, .int x1), (3, .int x3), (6, .int x6), (7, .int x7)] → fx_F D h0 h H locs cells slots → W p l e R s m args below meth c H locs cells slots (fx_Z D below s h0 (fx_oV Q fx_no)) (F0 m 137 ls []) := by
  refine fx_loop.use hw (fun st => ∀ (ls : Array Slot) (H : Heap) (locs : List Loc) (cells slots : Nat), lv_has ls 9 [(0, .ref r0), (1, .int x1), (3, .int x3), (6, .int x6), (7, .int st.1)] → fx_F D h0 st.2 H locs cells slots → W p l e R s m args below meth c H locs cells slots (fx_Z D below s h0 (fx_oV Q fx_no)) (F0 m 137 ls [])) (fun X137 st hX137 hw => ?_)
  obtain ⟨x7, h⟩ := st
  replace hw : m_M_putExtensions_137_b Q X137 r0 x1 x3 x6 x7 h := hw
  unfold m_M_putExtensions_137_b at hw
  intro ls H locs cells slots hv F
  refine lv_iload C.ex C.by d_M_putExtensions_137 (lv_at hv 4 rfl) ?_
  refine lv_aload_n C.ex C.by d_M_putExtensions_139 rfl (lv_at hv 0 rfl) ?_
  obtain ⟨hk1, hw⟩ := hw
  refine fx_getI C F lf_M_328 hk1 rfl d_M_putExtensions_140 ?_
  refine lv_icmp_ge C.ex C.by d_M_putExtensions_143 rfl (fun hc => ?_) (fun hc => ?_)
  · replace hw := hw.1 hc
    refine lv_aload_n C.ex C.by d_M_putExtensions_205 rfl (lv_at hv 0 rfl) ?_
    refine lv_bipush (v := (48 : Int32)) C.ex C.by d_M_putExtensions_206 (by decide) ?_
    refine lv_iload C.ex C.by d_M_putExtensions_208 (lv_at hv 3 rfl) ?_
    refine fx_callV C F (c_M_wrap hl hw) hm_M_wrap hi_M_wrap hv.1 (by decide) (Nat.le_of_ble_eq_true rfl) (iv_M_wrap C F lm_M_305 hk1 d_M_putExtensions_210) (fx_out0 _) fx_eno (fun h1 H locs cells slots hw hx1 F => ?_)
    replace hw := hw hx1
    have hk1 := (hx1).k hk1
    refine lv_aload_n C.ex C.by d_M_putExtensions_213 rfl (lv_at hv 0 rfl) ?_
    refine lv_iload C.ex C.by d_M_putExtensions_214 (lv_at hv 3 rfl) ?_
    refine lv_iconst (v := (3 : Int32)) C.ex C.by d_M_putExtensions_216 (by decide) ?_
    refine lv_ldc2 (v := (5578001 : Int64)) C.ex C.by C.ow (C.tw.at (fx_m7 (List.mem_of_getElem? (i := 114) rfl)) rfl rfl) d_M_putExtensions_217 ?_
    refine lv_iconst (v := (0 : Int32)) C.ex C.by d_M_putExtensions_220 (by decide) ?_
    refine fx_callV C F (c_M_extended hl hw) hm_M_extended hi_M_extended hv.1 (by decide) (Nat.le_of_ble_eq_true rfl) (iv_M_extended C F lm_M_318 hk1 d_M_putExtensions_221) (fx_out0 _) fx_eno (fun h2 H locs cells slots hw hx2 F => ?_)
    replace hw := hw hx2
    have hk1 := (hx2).k hk1
    exact b_M_putExtensions_224 C hl _ _ _ _ hw _ _ _ _ _ (lv_sub hv [0, 1, 2] rfl) F
  · replace hw := hw.2 hc
    let v1 : Int32 := (x7 + (1 : Int32))
    replace hw := hw v1 rfl
    refine lv_iinc (v := v1) (k := 4) (lv' := [(7, .int v1), (0, .ref r0), (1, .int x1), (3, .int x3), (6, .int x6)]) C.ex C.by d_M_putExtensions_146 hv rfl (congrArg (fun z => x7 + z) (by decide)) (by decide) rfl (fun ls hv => ?_)
    refine lv_aload_n C.ex C.by d_M_putExtensions_149 rfl (lv_at hv 1 rfl) ?_
    refine fx_getI C F lf_M_292 hk1 rfl d_M_putExtensions_150 ?_
    let v2 : Int32 := (hp_I h r0 47)
    replace hw := hw v2 rfl
    refine lv_istore (lv' := [(8, .int v2), (7, .int v1), (0, .ref r0), (1, .int x1), (3, .int x3), (6, .int x6)]) C.ex C.by d_M_putExtensions_153 hv (by decide) rfl (fun ls hv => ?_)
    exact b_M_putExtensions_155 C hl _ _ _ _ _ _ _ hX137 hw _ _ _ _ _ (lv_sub hv [2, 3, 4, 5, 1, 0] rfl) F
theorem b_M_putExtensions_106 {p : Program} {l : Launch} {e : Env} {R : Room} {s : State} {m : MethodId} {args : Array Value} {below : List Frame} {meth : Method} {c : Code} {D : DD} {h0 : AH} {Q : AH → Prop} (C : fx_CX D y_M_putExtensions prog_15_method_47_code 9 3 50 (none) [] h0 p R s m meth c) (hl : l.flags = flags0) (r0 : Nat) (x1 : Int32) (x2 : Int32) (x3 : Int32) (x6 : Int32) (sr0 : Nat) (sx1 : Int32) (sw2 : Int64) (h : AH) (hw : m_M_putExtensions_106 Q r0 x1 x2 x3 x6 sr0 sx1 sw2 h) : ∀ (ls : Array Slot) (H : Heap) (locs : List Loc) (cells slots : Nat), lv_has ls 9 [(0, .ref r0), (1, .int x1), (2, .int x2), (3, .int x3), (6, .int x6)] → fx_F D h0 h H locs cells slots → W p l e R s m args below meth c H locs cells slots (fx_Z D below s h0 (fx_oV Q fx_no)) (F0 m 106 ls [.long sw2, .int sx1, .ref sr0]) := by
  unfold m_M_putExtensions_106 at hw
  intro ls H locs cells slots hv F
  obtain ⟨hk1, hw⟩ := hw
  refine fx_callV C F (c_M_put_IJ hl hw) hm_M_put_IJ hi_M_put_IJ hv.1 (by decide) (Nat.le_of_ble_eq_true rfl) (iv_M_put_IJ C F lm_M_300 hk1 d_M_putExtensions_106) (fx_out0 _) fx_eno (fun h1 H locs cells slots hw hx1 F => ?_)
  replace hw := hw hx1
  have hk1 := (hx1).k hk1
  refine lv_aload_n C.ex C.by d_M_putExtensions_109 rfl (lv_at hv 0 rfl) ?_
  refine lv_iload C.ex C.by d_M_putExtensions_110 (lv_at hv 4 rfl) ?_
  refine lv_iconst (v := (3 : Int32)) C.ex C.by d_M_putExtensions_112 (by decide) ?_
  refine lv_ldc2 (v := (5577999 : Int64)) C.ex C.by C.ow (C.tw.at (fx_m7 (List.mem_of_getElem? (i := 113) rfl)) rfl rfl) d_M_putExtensions_113 ?_
  refine lv_iconst (v := (1 : Int32)) C.ex C.by d_M_putExtensions_116 (by decide) ?_
  obtain ⟨hk2, hw⟩ := hw
  refine fx_callV C F (c_M_extended hl hw) hm_M_extended hi_M_extended hv.1 (by decide) (Nat.le_of_ble_eq_true rfl) (iv_M_extended C F lm_M_318 hk2 d_M_putExtensions_117) (fx_out0 _) fx_eno (fun h2 H locs cells slots hw hx2 F => ?_)
  replace hw := hw hx2
  have hk2 := (hx2).k hk2
  have hk1 := (hx2).k hk1
  refine lv_iload_n C.ex C.by d_M_putExtensions_120 rfl (lv_at hv 2 rfl) ?_
  refine lv_aload_n C.ex C.by d_M_putExtensions_121 rfl (lv_at hv 0 rfl) ?_
  refine fx_getI C F lf_M_328 hk2 rfl d_M_putExtensions_122 ?_
  refine lv_icmp_ge C.ex C.by d_M_putExtensions_125 rfl (fun hc => ?_) (fun hc => ?_)
  · replace hw := hw.1 hc
    exact b_M_putExtensions_224 C hl _ _ _ _ hw _ _ _ _ _ (lv_sub hv [0, 1, 3] rfl) F
  · replace hw := hw.2 hc
    refine lv_aload_n C.ex C.by d_M_putExtensions_128 rfl (lv_at hv 0 rfl) ?_
    refine fx_getI C F lf_M_292 hk2 rfl d_M_putExtensions_129 ?_
    let v1 : Int32 := (hp_I h2 r0 47)
    replace hw := hw v1 rfl
    refine lv_istore (lv' := [(6, .int v1), (0, .ref r0), (1, .int x1), (2, .int x2), (3, .int x3)]) C.ex C.by d_M_putExtensions_132 hv (by decide) rfl (fun ls hv => ?_)
    refine lv_iload_n C.ex C.by d_M_putExtensions_134 rfl (lv_at hv 3 rfl) ?_
    refine lv_istore (lv' := [(7, .int x2), (6, .int v1), (0, .ref r0), (1, .int x1), (2, .int x2), (3, .int x3)]) C.ex C.by d_M_putExtensions_135 hv (by decide) rfl (fun ls hv => ?_)
    exact b_M_putExtensions_137 C hl _ _ _ _ _ _ hw _ _ _ _ _ (lv_sub hv [2, 3, 5, 1, 0] rfl) F
theorem b_M_putExtensions_65 {p : Program} {l : Launch} {e : Env} {R : Room} {s : State} {m : MethodId} {args : Array Value} {below : List Frame} {meth : Method} {c : Code} {D : DD} {h0 : AH} {Q : AH → Prop} (C : fx_CX D y_M_putExtensions prog_15_method_47_code 9 3 50 (none) [] h0 p R s m meth c) (hl : l.flags = flags0) (r0 : Nat) (x1 : Int32) (x2 : Int32) (x3 : Int32) (x4 : Int32) (x6 : Int32) (h : AH) (hw : m_M_putExtensions_65 Q r0 x1 x2 x3 x4 x6 h) : ∀ (ls : Array Slot) (H : Heap) (locs : List Loc) (cells slots : Nat), lv_has ls 9 [(0, .ref r0), (1, .int x1), (2, .int x2), (3, .int x3), (4, .int x4), (6, .int x6)] → fx_F D h0 h H locs cells slots → W p l e R s m args below meth c H locs cells slots (fx_Z D below s h0 (fx_oV Q fx_no)) (F0 m 65 ls []) := by
  unfold m_M_putExtensions_65 at hw
  intro ls H locs cells slots hv F
  refine lv_aload_n C.ex C.by d_M_putExtensions_65 rfl (lv_at hv 0 rfl) ?_
  refine lv_bipush (v := (48 : Int32)) C.ex C.by d_M_putExtensions_66 (by decide) ?_
  refine lv_iload C.ex C.by d_M_putExtensions_68 (lv_at hv 5 rfl) ?_
  obtain ⟨hk1, hw⟩ := hw
  refine fx_callV C F (c_M_wrap hl hw) hm_M_wrap hi_M_wrap hv.1 (by decide) (Nat.le_of_ble_eq_true rfl) (iv_M_wrap C F lm_M_305 hk1 d_M_putExtensions_70) (fx_out0 _) fx_eno (fun h1 H locs cells slots hw hx1 F => ?_)
  replace hw := hw hx1
  have hk1 := (hx1).k hk1
  refine lv_aload_n C.ex C.by d_M_putExtensions_73 rfl (lv_at hv 0 rfl) ?_
  refine lv_iload C.ex C.by d_M_putExtensions_74 (lv_at hv 5 rfl) ?_
  refine lv_iconst (v := (3 : Int32)) C.ex C.by d_M_putExtensions_76 (by decide) ?_
  refine lv_ldc2 (v := (5578003 : Int64)) C.ex C.by C.ow (C.tw.at (fx_m7 (List.mem_of_getElem? (i := 106) rfl)) rfl rfl) d_M_putExtensions_77 ?_
  refine lv_iconst (v := (1 : Int32)) C.ex C.by d_M_putExtensions_80 (by decide) ?_
  refine fx_callV C F (c_M_extended hl hw) hm_M_extended hi_M_extended hv.1 (by decide) (Nat.le_of_ble_eq_true rfl) (iv_M_extended C F lm_M_318 hk1 d_M_putExtensions_81) (fx_out0 _) fx_eno (fun h2 H locs cells slots hw hx2 F => ?_)
  replace hw := hw hx2
  have hk1 := (hx2).k hk1
  refine lv_aload_n C.ex C.by d_M_putExtensions_84 rfl (lv_at hv 0 rfl) ?_
  refine fx_getI C F lf_M_292 hk1 rfl d_M_putExtensions_85 ?_
  let v1 : Int32 := (hp_I h2 r0 47)
  replace hw := hw v1 rfl
  refine lv_istore (lv' := [(6, .int v1), (0, .ref r0), (1, .int x1), (2, .int x2), (3, .int x3), (4, .int x4)]) C.ex C.by d_M_putExtensions_88 hv (by decide) rfl (fun ls hv => ?_)
  refine lv_aload_n C.ex C.by d_M_putExtensions_90 rfl (lv_at hv 1 rfl) ?_
  refine lv_iconst (v := (4 : Int32)) C.ex C.by d_M_putExtensions_91 (by decide) ?_
  refine lv_iload C.ex C.by d_M_putExtensions_92 (lv_at hv 5 rfl) ?_
  refine lv_if_eq C.ex C.by d_M_putExtensions_94 rfl (fun hc => ?_) (fun hc => ?_)
  · replace hw := hw.1 hc
    refine lv_ldc2 (v := (50464640 : Int64)) C.ex C.by C.ow (C.tw.at (fx_m7 (List.mem_of_getElem? (i := 112) rfl)) rfl rfl) d_M_putExtensions_103 ?_
    exact b_M_putExtensions_106 C hl _ _ _ _ _ _ _ _ _ hw _ _ _ _ _ (lv_sub hv [1, 2, 3, 4, 0] rfl) F
  · replace hw := hw.2 hc
    refine lv_ldc2 (v := (50462982 : Int64)) C.ex C.by C.ow (C.tw.at (fx_m7 (List.mem_of_getElem? (i := 111) rfl)) rfl rfl) d_M_putExtensions_97 ?_
    refine lv_goto C.ex C.by d_M_putExtensions_100 rfl ?_
    exact b_M_putExtensions_106 C hl _ _ _ _ _ _ _ _ _ hw _ _ _ _ _ (lv_sub hv [1, 2, 3, 4, 0] rfl) F
theorem b_M_putExtensions_46 {p : Program} {l : Launch} {e : Env} {R : Room} {s : State} {m : MethodId} {args : Array Value} {below : List Frame} {meth : Method} {c : Code} {D : DD} {h0 : AH} {Q : AH → Prop} (C : fx_CX D y_M_putExtensions prog_15_method_47_code 9 3 50 (none) [] h0 p R s m meth c) (hl : l.flags = flags0) (r0 : Nat) (x1 : Int32) (x2 : Int32) (x3 : Int32) (x4 : Int32) (x5 : Int32) (x6 : Int32) (h : AH) (hw : m_M_putExtensions_46 Q r0 x1 x2 x3 x4 x5 x6 h) : ∀ (ls : Array Slot) (H : Heap) (locs : List Loc) (cells slots : Nat), lv_has ls 9 [(0, .ref r0), (1, .int x1), (2, .int x2), (3, .int x3), (4, .int x4), (5, .int x5), (6, .int x6)] → fx_F D h0 h H locs cells slots → W p l e R s m args below meth c H locs cells slots (fx_Z D below s h0 (fx_oV Q fx_no)) (F0 m 46 ls []) := by
  unfold m_M_putExtensions_46 at hw
  intro ls H locs cells slots hv F
  refine lv_iload C.ex C.by d_M_putExtensions_46 (lv_at hv 5 rfl) ?_
  refine lv_if_le C.ex C.by d_M_putExtensions_48 rfl (fun hc => ?_) (fun hc => ?_)
  · replace hw := hw.1 hc
    exact b_M_putExtensions_65 C hl _ _ _ _ _ _ _ hw _ _ _ _ _ (lv_sub hv [0, 1, 2, 3, 4, 6] rfl) F
  · replace hw := hw.2 hc
    refine lv_aload_n C.ex C.by d_M_putExtensions_51 rfl (lv_at hv 0 rfl) ?_
    refine lv_iconst (v := (3 : Int32)) C.ex C.by d_M_putExtensions_52 (by decide) ?_
    refine lv_ldc2 (v := (131328 : Int64)) C.ex C.by C.ow (C.tw.at (fx_m7 (List.mem_of_getElem? (i := 105) rfl)) rfl rfl) d_M_putExtensions_53 ?_
    refine lv_iload C.ex C.by d_M_putExtensions_56 (lv_at hv 5 rfl) ?_
    refine lv_iconst (v := (1 : Int32)) C.ex C.by d_M_putExtensions_58 (by decide) ?_
    refine lv_isub C.ex C.by d_M_putExtensions_59 ?_
    refine lv_i2l (v := (((x5 - (1 : Int32))).toInt64)) C.ex C.by d_M_putExtensions_60 rfl ?_
    refine lv_lor C.ex C.by d_M_putExtensions_61 ?_
    obtain ⟨hk1, hw⟩ := hw
    refine fx_callV C F (c_M_put_IJ hl hw) hm_M_put_IJ hi_M_put_IJ hv.1 (by decide) (Nat.le_of_ble_eq_true rfl) (iv_M_put_IJ C F lm_M_300 hk1 d_M_putExtensions_62) (fx_out0 _) fx_eno (fun h1 H locs cells slots hw hx1 F => ?_)
    replace hw := hw hx1
    have hk1 := (hx1).k hk1
    exact b_M_putExtensions_65 C hl _ _ _ _ _ _ _ hw _ _ _ _ _ (lv_sub hv [0, 1, 2, 3, 4, 6] rfl) F
theorem b_M_putExtensions_17 {p : Program} {l : Launch} {e : Env} {R : Room} {s : State} {m : MethodId} {args : Array Value} {below : List Frame} {meth : Method} {c : Code} {D : DD} {h0 : AH} {Q : AH → Prop} (C : fx_CX D y_M_putExtensions prog_15_method_47_code 9 3 50 (none) [] h0 p R s m meth c) (hl : l.flags = flags0) (r0 : Nat) (x1 : Int32) (x2 : Int32) (x3 : Int32) (sx0 : Int32) (h : AH) (hw : m_M_putExtensions_17 Q r0 x1 x2 x3 sx0 h) : ∀ (ls : Array Slot) (H : Heap) (locs : List Loc) (cells slots : Nat), lv_has ls 9 [(0, .ref r0), (1, .int x1), (2, .int x2), (3, .int x3)] → fx_F D h0 h H locs cells slots → W p l e R s m args below meth c H locs cells slots (fx_Z D below s h0 (fx_oV Q fx_no)) (F0 m 17 ls [.int sx0]) := by
  unfold m_M_putExtensions_17 at hw
  intro ls H locs cells slots hv F
  refine lv_istore (lv' := [(4, .int sx0), (0, .ref r0), (1, .int x1), (2, .int x2), (3, .int x3)]) C.ex C.by d_M_putExtensions_17 hv (by decide) rfl (fun ls hv => ?_)
  refine lv_iload_n C.ex C.by d_M_putExtensions_19 rfl (lv_at hv 2 rfl) ?_
  refine lv_iconst (v := (1 : Int32)) C.ex C.by d_M_putExtensions_20 (by decide) ?_
  refine lv_ishr C.ex C.by d_M_putExtensions_21 ?_
  refine lv_bipush (v := (127 : Int32)) C.ex C.by d_M_putExtensions_22 (by decide) ?_
  refine lv_iand C.ex C.by d_M_putExtensions_24 ?_
  let v1 : Int32 := ((x1 >>> ((1 : Int32) &&& 31)) &&& (127 : Int32))
  replace hw := hw v1 rfl
  refine lv_istore (lv' := [(5, .int v1), (4, .int sx0), (0, .ref r0), (1, .int x1), (2, .int x2), (3, .int x3)]) C.ex C.by d_M_putExtensions_25 hv (by decide) rfl (fun ls hv => ?_)
  refine lv_aload_n C.ex C.by d_M_putExtensions_27 rfl (lv_at hv 2 rfl) ?_
  obtain ⟨hk1, hw⟩ := hw
  refine fx_getI C F lf_M_292 hk1 rfl d_M_putExtensions_28 ?_
  let v2 : Int32 := (hp_I h r0 47)
  replace hw := hw v2 rfl
  refine lv_istore (lv' := [(6, .int v2), (5, .int v1), (4, .int sx0), (0, .ref r0), (1, .int x1), (2, .int x2), (3, .int x3)]) C.ex C.by d_M_putExtensions_31 hv (by decide) rfl (fun ls hv => ?_)
  refine lv_iload C.ex C.by d_M_putExtensions_33 (lv_at hv 2 rfl) ?_
  refine lv_if_eq C.ex C.by d_M_putExtensions_35 rfl (fun hc => ?_) (fun hc => ?_)
  · replace hw := hw.1 hc
    exact b_M_putExtensions_46 C hl _ _ _ _ _ _ _ _ hw _ _ _ _ _ (lv_sub hv [3, 4, 5, 6, 2, 1, 0] rfl) F
  · replace hw := hw.2 hc
    refine lv_aload_n C.ex C.by d_M_putExtensions_38 rfl (lv_at hv 3 rfl) ?_
    refine lv_iconst (v := (3 : Int32)) C.ex C.by d_M_putExtensions_39 (by decide) ?_
    refine lv_ldc2 (v := (66047 : Int64)) C.ex C.by C.ow (C.tw.at (fx_m7 (List.mem_of_getElem? (i := 104) rfl)) rfl rfl) d_M_putExtensions_40 ?_
    refine fx_callV C F (c_M_put_IJ hl hw) hm_M_put_IJ hi_M_put_IJ hv.1 (by decide) (Nat.le_of_ble_eq_true rfl) (iv_M_put_IJ C F lm_M_300 hk1 d_M_putExtensions_43) (fx_out0 _) fx_eno (fun h1 H locs cells slots hw hx1 F => ?_)
    replace hw := hw hx1
    have hk1 := (hx1).k hk1
    exact b_M_putExtensions_46 C hl _ _ _ _ _ _ _ _ hw _ _ _ _ _ (lv_sub hv [3, 4, 5, 6, 2, 1, 0] rfl) F
theorem b_M_putExtensions_0 {p : Program} {l : Launch} {e : Env} {R : Room} {s : State} {m : MethodId} {args : Array Value} {below : List Frame} {meth : Method} {c : Code} {D : DD} {h0 : AH} {Q : AH → Prop} (C : fx_CX D y_M_putExtensions prog_15_method_47_code 9 3 50 (none) [] h0 p R s m meth c) (hl : l.flags = flags0) (r0 : Nat) (x1 : Int32) (x2 : Int32) (h : AH) (hw : m_M_putExtensions Q r0 x1 x2 h) : ∀ (ls : Array Slot) (H : Heap) (locs : List Loc) (cells slots : Nat), lv_has ls 9 [(0, .ref r0), (1, .int x1), (2, .int x2)] → fx_F D h0 h H locs cells slots → W p l e R s m args below meth c H locs cells slots (fx_Z D below s h0 (fx_oV Q fx_no)) (F0 m 0 ls []) := by
  unfold m_M_putExtensions at hw
  intro ls H locs cells slots hv F
  refine lv_aload_n C.ex C.by d_M_putExtensions_0 rfl (lv_at hv 0 rfl) ?_
  obtain ⟨hk1, hw⟩ := hw
  refine fx_getI C F lf_M_292 hk1 rfl d_M_putExtensions_1 ?_
  let v1 : Int32 := (hp_I h r0 47)
  replace hw := hw v1 rfl
  refine lv_istore_n (lv' := [(3, .int v1), (0, .ref r0), (1, .int x1), (2, .int x2)]) C.ex C.by d_M_putExtensions_4 rfl hv (by decide) rfl (fun ls hv => ?_)
  refine lv_iload_n C.ex C.by d_M_putExtensions_5 rfl (lv_at hv 2 rfl) ?_
  refine lv_iconst (v := (1 : Int32)) C.ex C.by d_M_putExtensions_6 (by decide) ?_
  refine lv_iand C.ex C.by d_M_putExtensions_7 ?_
  refine lv_iconst (v := (1 : Int32)) C.ex C.by d_M_putExtensions_8 (by decide) ?_
  refine lv_icmp_ne C.ex C.by d_M_putExtensions_9 rfl (fun hc => ?_) (fun hc => ?_)
  · replace hw := hw.1 hc
    refine lv_iconst (v := (0 : Int32)) C.ex C.by d_M_putExtensions_16 (by decide) ?_
    exact b_M_putExtensions_17 C hl _ _ _ _ _ _ hw _ _ _ _ _ (lv_sub hv [1, 2, 3, 0] rfl) F
  · replace hw := hw.2 hc
    refine lv_iconst (v := (1 : Int32)) C.ex C.by d_M_putExtensions_12 (by decide) ?_
    refine lv_goto C.ex C.by d_M_putExtensions_13 rfl ?_
    exact b_M_putExtensions_17 C hl _ _ _ _ _ _ hw _ _ _ _ _ (lv_sub hv [1, 2, 3, 0] rfl) F
theorem hm_M_putExtensions : fx_hd y_M_putExtensions prog_15_method_47_code 9 (none) [] ∈ tables_1 := (fx_m7 (List.mem_of_getElem? (i := 103) rfl))
theorem hi_M_putExtensions : Cond.initialized y_M_putExtensions.cls ∈ tables_1 := (fx_m1 (List.mem_of_getElem? (i := 15) rfl))
theorem c_M_putExtensions {l : Launch} (hl : l.flags = flags0) {D : DD} {Q : AH → Prop} {r0 : Nat} {x1 : Int32} {x2 : Int32} {h : AH} (hw : m_M_putExtensions Q r0 x1 x2 h) : fx_Mt l D y_M_putExtensions (fx_hd y_M_putExtensions prog_15_method_47_code 9 (none) []) 3 50 [.ref r0, .int x1, .int x2] h (fx_oV Q fx_no) := by
  refine fx_ofW (plainFor_of_name (by decide)) (fun p e s m below meth c C F => ?_)
  have hv := lv_entry ([.ref r0, .int x1, .int x2]) (n := 9) (Nat.le_of_ble_eq_true rfl)
  rw [lg_entry_eq]
  generalize (lg_sl ([.ref r0, .int x1, .int x2]) ++ List.replicate (9 - (lg_sl ([.ref r0, .int x1, .int x2])).length) Slot.unset).toArray = ls at hv ⊢
  have hv : lv_has ls 9 [(0, .ref r0), (1, .int x1), (2, .int x2)] := hv
  exact b_M_putExtensions_0 C hl _ _ _ _ hw _ _ _ _ _ hv F
/-! ChainJudgeModel.padded([BIII)I: frames 0, words 0 -/
abbrev y_M_padded : MethodName := ⟨"ChainJudgeModel", "padded", "([BIII)I"⟩
def dl_M_padded : List (Nat × Instr × Nat) := [(0, .iload_n 2, 1), (1, .iload_n 1, 1), (2, .if_icmp .ge 11, 3), (5, .aload_n 0, 1), (6, .iload_n 2, 1), (7, .baload, 1), (8, .sipush 255, 3), (11, .iand, 1), (12, .ireturn, 1), (13, .iload_n 2, 1), (14, .iload_n 1, 1), (15, .if_icmp .ne 7, 3), (18, .sipush 128, 3), (21, .ireturn, 1), (22, .iload_n 2, 1), (23, .iload_n 3, 1), (24, .bipush 8, 2), (26, .isub, 1), (27, .if_icmp .ge 7, 3), (30, .iconst 0, 1), (31, .goto 23, 3), (34, .ldc2_w 104, 3), (37, .iload_n 1, 1), (38, .i2l, 1), (39, .lmul, 1), (40, .bipush 8, 2), (42, .iload_n 3, 1), (43, .iconst 1, 1), (44, .isub, 1), (45, .iload_n 2, 1), (46, .isub, 1), (47, .imul, 1), (48, .lushr, 1), (49, .l2i, 1), (50, .sipush 255, 3), (53, .iand, 1), (54, .ireturn, 1)]
theorem dk_M_padded : fx_dec prog_15_method_10_code dl_M_padded = true := by decide +kernel
theorem d_M_padded_0 : decode prog_15_method_10_code 0 = .ok (.iload_n 2, 1) := fx_dat dk_M_padded 0 rfl
theorem d_M_padded_1 : decode prog_15_method_10_code 1 = .ok (.iload_n 1, 1) := fx_dat dk_M_padded 1 rfl
theorem d_M_padded_2 : decode prog_15_method_10_code 2 = .ok (.if_icmp .ge 11, 3) := fx_dat dk_M_padded 2 rfl
theorem d_M_padded_5 : decode prog_15_method_10_code 5 = .ok (.aload_n 0, 1) := fx_dat dk_M_padded 3 rfl
theorem d_M_padded_6 : decode prog_15_method_10_code 6 = .ok (.iload_n 2, 1) := fx_dat dk_M_padded 4 rfl
theorem d_M_padded_7 : decode prog_15_method_10_code 7 = .ok (.baload, 1) := fx_dat dk_M_padded 5 rfl
theorem d_M_padded_8 : decode prog_15_method_10_code 8 = .ok (.sipush 255, 3) := fx_dat dk_M_padded 6 rfl
theorem d_M_padded_11 : decode prog_15_method_10_code 11 = .ok (.iand, 1) := fx_dat dk_M_padded 7 rfl
theorem d_M_padded_12 : decode prog_15_method_10_code 12 = .ok (.ireturn, 1) := fx_dat dk_M_padded 8 rfl
theorem d_M_padded_13 : decode prog_15_method_10_code 13 = .ok (.iload_n 2, 1) := fx_dat dk_M_padded 9 rfl
theorem d_M_padded_14 : decode prog_15_method_10_code 14 = .ok (.iload_n 1, 1) := fx_dat dk_M_padded 10 rfl
theorem d_M_padded_15 : decode prog_15_method_10_code 15 = .ok (.if_icmp .ne 7, 3) := fx_dat dk_M_padded 11 rfl
theorem d_M_padded_18 : decode prog_15_method_10_code 18 = .ok (.sipush 128, 3) := fx_dat dk_M_padded 12 rfl
theorem d_M_padded_21 : decode prog_15_method_10_code 21 = .ok (.ireturn, 1) := fx_dat dk_M_padded 13 rfl
theorem d_M_padded_22 : decode prog_15_method_10_code 22 = .ok (.iload_n 2, 1) := fx_dat dk_M_padded 14 rfl
theorem d_M_padded_23 : decode prog_15_method_10_code 23 = .ok (.iload_n 3, 1) := fx_dat dk_M_padded 15 rfl
theorem d_M_padded_24 : decode prog_15_method_10_code 24 = .ok (.bipush 8, 2) := fx_dat dk_M_padded 16 rfl
theorem d_M_padded_26 : decode prog_15_method_10_code 26 = .ok (.isub, 1) := fx_dat dk_M_padded 17 rfl
theorem d_M_padded_27 : decode prog_15_method_10_code 27 = .ok (.if_icmp .ge 7, 3) := fx_dat dk_M_padded 18 rfl
theorem d_M_padded_30 : decode prog_15_method_10_code 30 = .ok (.iconst 0, 1) := fx_dat dk_M_padded 19 rfl
theorem d_M_padded_31 : decode prog_15_method_10_code 31 = .ok (.goto 23, 3) := fx_dat dk_M_padded 20 rfl
theorem d_M_padded_34 : decode prog_15_method_10_code 34 = .ok (.ldc2_w 104, 3) := fx_dat dk_M_padded 21 rfl
theorem d_M_padded_37 : decode prog_15_method_10_code 37 = .ok (.iload_n 1, 1) := fx_dat dk_M_padded 22 rfl
theorem d_M_padded_38 : decode prog_15_method_10_code 38 = .ok (.i2l, 1) := fx_dat dk_M_padded 23 rfl
theorem d_M_padded_39 : decode prog_15_method_10_code 39 = .ok (.lmul, 1) := fx_dat dk_M_padded 24 rfl
theorem d_M_padded_40 : decode prog_15_method_10_code 40 = .ok (.bipush 8, 2) := fx_dat dk_M_padded 25 rfl
theorem d_M_padded_42 : decode prog_15_method_10_code 42 = .ok (.iload_n 3, 1) := fx_dat dk_M_padded 26 rfl
theorem d_M_padded_43 : decode prog_15_method_10_code 43 = .ok (.iconst 1, 1) := fx_dat dk_M_padded 27 rfl
theorem d_M_padded_44 : decode prog_15_method_10_code 44 = .ok (.isub, 1) := fx_dat dk_M_padded 28 rfl
theorem d_M_padded_45 : decode prog_15_method_10_code 45 = .ok (.iload_n 2, 1) := fx_dat dk_M_padded 29 rfl
theorem d_M_padded_46 : decode prog_15_method_10_code 46 = .ok (.isub, 1) := fx_dat dk_M_padded 30 rfl
theorem d_M_padded_47 : decode prog_15_method_10_code 47 = .ok (.imul, 1) := fx_dat dk_M_padded 31 rfl
theorem d_M_padded_48 : decode prog_15_method_10_code 48 = .ok (.lushr, 1) := fx_dat dk_M_padded 32 rfl
theorem d_M_padded_49 : decode prog_15_method_10_code 49 = .ok (.l2i, 1) := fx_dat dk_M_padded 33 rfl
theorem d_M_padded_50 : decode prog_15_method_10_code 50 = .ok (.sipush 255, 3) := fx_dat dk_M_padded 34 rfl
theorem d_M_padded_53 : decode prog_15_method_10_code 53 = .ok (.iand, 1) := fx_dat dk_M_padded 35 rfl
theorem d_M_padded_54 : decode prog_15_method_10_code 54 = .ok (.ireturn, 1) := fx_dat dk_M_padded 36 rfl
def m_M_padded_54 (Q : Int32 → AH → Prop) (sx0 : Int32) (h : AH) : Prop := Q sx0 h
def m_M_padded (Q : Int32 → AH → Prop) (r0 : Nat) (x1 : Int32) (x2 : Int32) (x3 : Int32) (h : AH) : Prop := (x1 ≤ x2 → (¬ x2 = x1 → ((x3 - (8 : Int32)) ≤ x2 → m_M_padded_54 Q ((((sh_lu ((8 : Int64) * ((x1).toInt64)) ((8 : Int32) * ((x3 - (1 : Int32)) - x2)))).toInt32) &&& (255 : Int32)) h) ∧ (¬ (x3 - (8 : Int32)) ≤ x2 → m_M_padded_54 Q (0 : Int32) h)) ∧ (x2 = x1 → Q (128 : Int32) h)) ∧ (¬ x1 ≤ x2 → bk (hp_k h r0) ∧ vp_in x2 (hp_n h r0) ∧ (by8 (hp_I h r0 x2.toNatClampNeg) → Q ((hp_I h r0 x2.toNatClampNeg) &&& (255 : Int32)) h))
theorem b_M_padded_54 {p : Program} {l : Launch} {e : Env} {R : Room} {s : State} {m : MethodId} {args : Array Value} {below : List Frame} {meth : Method} {c : Code} {D : DD} {h0 : AH} {Q : Int32 → AH → Prop} (C : fx_CX D y_M_padded prog_15_method_10_code 4 0 0 (Option.some FieldType.int) [] h0 p R s m meth c) (hl : l.flags = flags0) (sx0 : Int32) (h : AH) (hw : m_M_padded_54 Q sx0 h) : ∀ (ls : Array Slot) (H : Heap) (locs : List Loc) (cells slots : Nat), lv_has ls 4 [] → fx_F D h0 h H locs cells slots → W p l e R s m args below meth c H locs cells slots (fx_Z D below s h0 (fx_oI Q fx_no)) (F0 m 54 ls [.int sx0]) := by
  unfold m_M_padded_54 at hw
  intro ls H locs cells slots hv F
  exact fx_iret C F d_M_padded_54 (Or.inl ⟨_, rfl, hw⟩)
theorem b_M_padded_0 {p : Program} {l : Launch} {e : Env} {R : Room} {s : State} {m : MethodId} {args : Array Value} {below : List Frame} {meth : Method} {c : Code} {D : DD} {h0 : AH} {Q : Int32 → AH → Prop} (C : fx_CX D y_M_padded prog_15_method_10_code 4 0 0 (Option.some FieldType.int) [] h0 p R s m meth c) (hl : l.flags = flags0) (r0 : Nat) (x1 : Int32) (x2 : Int32) (x3 : Int32) (h : AH) (hw : m_M_padded Q r0 x1 x2 x3 h) : ∀ (ls : Array Slot) (H : Heap) (locs : List Loc) (cells slots : Nat), lv_has ls 4 [(0, .ref r0), (1, .int x1), (2, .int x2), (3, .int x3)] → fx_F D h0 h H locs cells slots → W p l e R s m args below meth c H locs cells slots (fx_Z D below s h0 (fx_oI Q fx_no)) (F0 m 0 ls []) := by
  unfold m_M_padded at hw
  intro ls H locs cells slots hv F
  refine lv_iload_n C.ex C.by d_M_padded_0 rfl (lv_at hv 2 rfl) ?_
  refine lv_iload_n C.ex C.by d_M_padded_1 rfl (lv_at hv 1 rfl) ?_
  refine lv_icmp_ge C.ex C.by d_M_padded_2 rfl (fun hc => ?_) (fun hc => ?_)
  · replace hw := hw.1 hc
    refine lv_iload_n C.ex C.by d_M_padded_13 rfl (lv_at hv 2 rfl) ?_
    refine lv_iload_n C.ex C.by d_M_padded_14 rfl (lv_at hv 1 rfl) ?_
    refine lv_icmp_ne C.ex C.by d_M_padded_15 rfl (fun hc => ?_) (fun hc => ?_)
    · replace hw := hw.1 hc
      refine lv_iload_n C.ex C.by d_M_padded_22 rfl (lv_at hv 2 rfl) ?_
      refine lv_iload_n C.ex C.by d_M_padded_23 rfl (lv_at hv 3 rfl) ?_
      refine lv_bipush (v := (8 : Int32)) C.ex C.by d_M_padded_24 (by decide) ?_
      refine lv_isub C.ex C.by d_M_padded_26 ?_
      refine lv_icmp_ge C.ex C.by d_M_padded_27 rfl (fun hc => ?_) (fun hc => ?_)
      · replace hw := hw.1 hc
        refine lv_ldc2 (v := (8 : Int64)) C.ex C.by C.ow (C.tw.at (fx_m7 (List.mem_of_getElem? (i := 137) rfl)) rfl rfl) d_M_padded_34 ?_
        refine lv_iload_n C.ex C.by d_M_padded_37 rfl (lv_at hv 1 rfl) ?_
        refine lv_i2l (v := ((x1).toInt64)) C.ex C.by d_M_padded_38 rfl ?_
        refine lv_lmul C.ex C.by d_M_padded_39 ?_
        refine lv_bipush (v := (8 : Int32)) C.ex C.by d_M_padded_40 (by decide) ?_
        refine lv_iload_n C.ex C.by d_M_padded_42 rfl (lv_at hv 3 rfl) ?_
        refine lv_iconst (v := (1 : Int32)) C.ex C.by d_M_padded_43 (by decide) ?_
        refine lv_isub C.ex C.by d_M_padded_44 ?_
        refine lv_iload_n C.ex C.by d_M_padded_45 rfl (lv_at hv 2 rfl) ?_
        refine lv_isub C.ex C.by d_M_padded_46 ?_
        refine lv_imul C.ex C.by d_M_padded_47 ?_
        refine lv_lushr (v := (sh_lu ((8 : Int64) * ((x1).toInt64)) ((8 : Int32) * ((x3 - (1 : Int32)) - x2)))) C.ex C.by d_M_padded_48 rfl ?_
        refine lv_l2i (v := (((sh_lu ((8 : Int64) * ((x1).toInt64)) ((8 : Int32) * ((x3 - (1 : Int32)) - x2)))).toInt32)) C.ex C.by d_M_padded_49 rfl ?_
        refine lv_sipush (v := (255 : Int32)) C.ex C.by d_M_padded_50 (by decide) ?_
        refine lv_iand C.ex C.by d_M_padded_53 ?_
        exact b_M_padded_54 C hl _ _ hw _ _ _ _ _ (lv_sub hv [] rfl) F
      · replace hw := hw.2 hc
        refine lv_iconst (v := (0 : Int32)) C.ex C.by d_M_padded_30 (by decide) ?_
        refine lv_goto C.ex C.by d_M_padded_31 rfl ?_
        exact b_M_padded_54 C hl _ _ hw _ _ _ _ _ (lv_sub hv [] rfl) F
    · replace hw := hw.2 hc
      refine lv_sipush (v := (128 : Int32)) C.ex C.by d_M_padded_18 (by decide) ?_
      exact fx_iret C F d_M_padded_21 (Or.inl ⟨_, rfl, hw⟩)
  · replace hw := hw.2 hc
    refine lv_aload_n C.ex C.by d_M_padded_5 rfl (lv_at hv 0 rfl) ?_
    refine lv_iload_n C.ex C.by d_M_padded_6 rfl (lv_at hv 2 rfl) ?_
    obtain ⟨hk1, hw⟩ := hw
    obtain ⟨hi1, hw⟩ := hw
    refine fx_bald C F hk1 hi1 d_M_padded_7 (fun h8 => ?_)
    replace hw := hw h8
    refine lv_sipush (v := (255 : Int32)) C.ex C.by d_M_padded_8 (by decide) ?_
    refine lv_iand C.ex C.by d_M_padded_11 ?_
    exact fx_iret C F d_M_padded_12 (Or.inl ⟨_, rfl, hw⟩)
theorem hm_M_padded : fx_hd y_M_padded prog_15_method_10_code 4 (Option.some FieldType.int) [] ∈ tables_1 := (fx_m7 (List.mem_of_getElem? (i := 136) rfl))
theorem hi_M_padded : Cond.initialized y_M_padded.cls ∈ tables_1 := (fx_m1 (List.mem_of_getElem? (i := 15) rfl))
theorem c_M_padded {l : Launch} (hl : l.flags = flags0) {D : DD} {Q : Int32 → AH → Prop} {r0 : Nat} {x1 : Int32} {x2 : Int32} {x3 : Int32} {h : AH} (hw : m_M_padded Q r0 x1 x2 x3 h) : fx_Mt l D y_M_padded (fx_hd y_M_padded prog_15_method_10_code 4 (Option.some FieldType.int) []) 0 0 [.ref r0, .int x1, .int x2, .int x3] h (fx_oI Q fx_no) := by
  refine fx_ofW (plainFor_of_name (by decide)) (fun p e s m below meth c C F => ?_)
  have hv := lv_entry ([.ref r0, .int x1, .int x2, .int x3]) (n := 4) (Nat.le_of_ble_eq_true rfl)
  rw [lg_entry_eq]
  generalize (lg_sl ([.ref r0, .int x1, .int x2, .int x3]) ++ List.replicate (4 - (lg_sl ([.ref r0, .int x1, .int x2, .int x3])).length) Slot.unset).toArray = ls at hv ⊢
  have hv : lv_has ls 4 [(0, .ref r0), (1, .int x1), (2, .int x2), (3, .int x3)] := hv
  exact b_M_padded_0 C hl _ _ _ _ _ hw _ _ _ _ _ hv F
/-! ChainJudgeModel.turned(II)I: frames 0, words 0 -/
abbrev y_M_turned : MethodName := ⟨"ChainJudgeModel", "turned", "(II)I"⟩
def dl_M_turned : List (Nat × Instr × Nat) := [(0, .iload_n 0, 1), (1, .iload_n 1, 1), (2, .iushr, 1), (3, .iload_n 0, 1), (4, .bipush 32, 2), (6, .iload_n 1, 1), (7, .isub, 1), (8, .ishl, 1), (9, .ior, 1), (10, .ireturn, 1)]
theorem dk_M_turned : fx_dec prog_15_method_9_code dl_M_turned = true := by decide +kernel
theorem d_M_turned_0 : decode prog_15_method_9_code 0 = .ok (.iload_n 0, 1) := fx_dat dk_M_turned 0 rfl
theorem d_M_turned_1 : decode prog_15_method_9_code 1 = .ok (.iload_n 1, 1) := fx_dat dk_M_turned 1 rfl
theorem d_M_turned_2 : decode prog_15_method_9_code 2 = .ok (.iushr, 1) := fx_dat dk_M_turned 2 rfl
theorem d_M_turned_3 : decode prog_15_method_9_code 3 = .ok (.iload_n 0, 1) := fx_dat dk_M_turned 3 rfl
theorem d_M_turned_4 : decode prog_15_method_9_code 4 = .ok (.bipush 32, 2) := fx_dat dk_M_turned 4 rfl
theorem d_M_turned_6 : decode prog_15_method_9_code 6 = .ok (.iload_n 1, 1) := fx_dat dk_M_turned 5 rfl
theorem d_M_turned_7 : decode prog_15_method_9_code 7 = .ok (.isub, 1) := fx_dat dk_M_turned 6 rfl
theorem d_M_turned_8 : decode prog_15_method_9_code 8 = .ok (.ishl, 1) := fx_dat dk_M_turned 7 rfl
theorem d_M_turned_9 : decode prog_15_method_9_code 9 = .ok (.ior, 1) := fx_dat dk_M_turned 8 rfl
theorem d_M_turned_10 : decode prog_15_method_9_code 10 = .ok (.ireturn, 1) := fx_dat dk_M_turned 9 rfl
def m_M_turned (Q : Int32 → AH → Prop) (x0 : Int32) (x1 : Int32) (h : AH) : Prop := Q ((sh_iu x0 x1) ||| (x0 <<< (((32 : Int32) - x1) &&& 31))) h
theorem b_M_turned_0 {p : Program} {l : Launch} {e : Env} {R : Room} {s : State} {m : MethodId} {args : Array Value} {below : List Frame} {meth : Method} {c : Code} {D : DD} {h0 : AH} {Q : Int32 → AH → Prop} (C : fx_CX D y_M_turned prog_15_method_9_code 2 0 0 (Option.some FieldType.int) [] h0 p R s m meth c) (hl : l.flags = flags0) (x0 : Int32) (x1 : Int32) (h : AH) (hw : m_M_turned Q x0 x1 h) : ∀ (ls : Array Slot) (H : Heap) (locs : List Loc) (cells slots : Nat), lv_has ls 2 [(0, .int x0), (1, .int x1)] → fx_F D h0 h H locs cells slots → W p l e R s m args below meth c H locs cells slots (fx_Z D below s h0 (fx_oI Q fx_no)) (F0 m 0 ls []) := by
  unfold m_M_turned at hw
  intro ls H locs cells slots hv F
  refine lv_iload_n C.ex C.by d_M_turned_0 rfl (lv_at hv 0 rfl) ?_
  refine lv_iload_n C.ex C.by d_M_turned_1 rfl (lv_at hv 1 rfl) ?_
  refine lv_iushr (v := (sh_iu x0 x1)) C.ex C.by d_M_turned_2 rfl ?_
  refine lv_iload_n C.ex C.by d_M_turned_3 rfl (lv_at hv 0 rfl) ?_
  refine lv_bipush (v := (32 : Int32)) C.ex C.by d_M_turned_4 (by decide) ?_
  refine lv_iload_n C.ex C.by d_M_turned_6 rfl (lv_at hv 1 rfl) ?_
  refine lv_isub C.ex C.by d_M_turned_7 ?_
  refine lv_ishl C.ex C.by d_M_turned_8 ?_
  refine lv_ior C.ex C.by d_M_turned_9 ?_
  exact fx_iret C F d_M_turned_10 (Or.inl ⟨_, rfl, hw⟩)
theorem hm_M_turned : fx_hd y_M_turned prog_15_method_9_code 2 (Option.some FieldType.int) [] ∈ tables_1 := (fx_m7 (List.mem_of_getElem? (i := 144) rfl))
theorem hi_M_turned : Cond.initialized y_M_turned.cls ∈ tables_1 := (fx_m1 (List.mem_of_getElem? (i := 15) rfl))
theorem c_M_turned {l : Launch} (hl : l.flags = flags0) {D : DD} {Q : Int32 → AH → Prop} {x0 : Int32} {x1 : Int32} {h : AH} (hw : m_M_turned Q x0 x1 h) : fx_Mt l D y_M_turned (fx_hd y_M_turned prog_15_method_9_code 2 (Option.some FieldType.int) []) 0 0 [.int x0, .int x1] h (fx_oI Q fx_no) := by
  refine fx_ofW (plainFor_of_name (by decide)) (fun p e s m below meth c C F => ?_)
  have hv := lv_entry ([.int x0, .int x1]) (n := 2) (Nat.le_of_ble_eq_true rfl)
  rw [lg_entry_eq]
  generalize (lg_sl ([.int x0, .int x1]) ++ List.replicate (2 - (lg_sl ([.int x0, .int x1])).length) Slot.unset).toArray = ls at hv ⊢
  have hv : lv_has ls 2 [(0, .int x0), (1, .int x1)] := hv
  exact b_M_turned_0 C hl _ _ _ hw _ _ _ _ _ hv F
