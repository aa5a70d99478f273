set_option maxRecDepth 10000
/-! ChainJudgeModel.over()V: frames 1, words 17 -/
abbrev y_M_over : MethodName := ⟨"ChainJudgeModel", "over", "()V"⟩
theorem lm_M_113 : Cond.methodLink "ChainJudgeModel" 113 y_M_turned ∈ tables_1 ∨ ∃ host, Cond.methodLinkNest "ChainJudgeModel" 113 y_M_turned host ∈ tables_1 := Or.inl (fx_m7 (List.mem_of_getElem? (i := 142) rfl))
section
variable {p : Program} {l : Launch} {e : Env} {R : Room} {s : State} {m : MethodId} {args : Array Value} {below : List Frame} {meth : Method} {c : Code} {H : Heap} {locs : List Loc} {cells slots : Nat}
variable {D : DD} {y : MethodName} {cc : ByteArray} {nL kf kw : Nat} {ret : Option FieldType} {hh : List (Nat × Nat × Nat × Nat)} {h0 h : AH} {pc : Nat} {ls : Array Slot} {rest : List Value} {b idx : Nat}
theorem iv_M_turned {x0 : Int32} {x1 : Int32} (C : fx_CX D y cc nL kf kw ret hh h0 p R s m meth c) (F : fx_F D h0 h H locs cells slots) (hw1 : Cond.methodLink y.cls idx y_M_turned ∈ tables_1 ∨ ∃ host, Cond.methodLinkNest y.cls idx y_M_turned host ∈ tables_1) (hd : decode cc pc = .ok (.invokestatic idx, 3)) : fx_IV p l e R s m args below meth c H locs cells slots (F0 m pc ls (.int x1 :: .int x0 :: rest)) rest y_M_turned [.int x0, .int x1] 3 := fun T hT X => fx_invS (As := [.int x0, .int x1]) C X hw1 (fx_m7 (List.mem_of_getElem? (i := 143) rfl)) hi_M_turned hm_M_turned ⟨by decide, by decide⟩ rfl (n := 2) (by decide +kernel) rfl rfl hd
end
def dl_M_over : List (Nat × Instr × Nat) := [(0, .bipush 16, 2), (2, .istore_n 1, 1), (3, .iload_n 1, 1), (4, .bipush 64, 2), (6, .if_icmp .ge 90, 3), (9, .aload_n 0, 1), (10, .getfield 65, 3), (13, .iload_n 1, 1), (14, .bipush 15, 2), (16, .isub, 1), (17, .iaload, 1), (18, .istore_n 2, 1), (19, .aload_n 0, 1), (20, .getfield 65, 3), (23, .iload_n 1, 1), (24, .iconst 2, 1), (25, .isub, 1), (26, .iaload, 1), (27, .istore_n 3, 1), (28, .aload_n 0, 1), (29, .getfield 65, 3), (32, .iload_n 1, 1), (33, .aload_n 0, 1), (34, .getfield 65, 3), (37, .iload_n 1, 1), (38, .bipush 16, 2), (40, .isub, 1), (41, .iaload, 1), (42, .iload_n 2, 1), (43, .bipush 7, 2), (45, .invokestatic 113, 3), (48, .iload_n 2, 1), (49, .bipush 18, 2), (51, .invokestatic 113, 3), (54, .ixor, 1), (55, .iload_n 2, 1), (56, .iconst 3, 1), (57, .iushr, 1), (58, .ixor, 1), (59, .iadd, 1), (60, .aload_n 0, 1), (61, .getfield 65, 3), (64, .iload_n 1, 1), (65, .bipush 7, 2), (67, .isub, 1), (68, .iaload, 1), (69, .iadd, 1), (70, .iload_n 3, 1), (71, .bipush 17, 2), (73, .invokestatic 113, 3), (76, .iload_n 3, 1), (77, .bipush 19, 2), (79, .invokestatic 113, 3), (82, .ixor, 1), (83, .iload_n 3, 1), (84, .bipush 10, 2), (86, .iushr, 1), (87, .ixor, 1), (88, .iadd, 1), (89, .iastore, 1), (90, .iinc 1 1, 3), (93, .goto (-90), 3), (96, .aload_n 0, 1), (97, .getfield 68, 3), (100, .iconst 0, 1), (101, .iaload, 1), (102, .istore_n 1, 1), (103, .aload_n 0, 1), (104, .getfield 68, 3), (107, .iconst 1, 1), (108, .iaload, 1), (109, .istore_n 2, 1), (110, .aload_n 0, 1), (111, .getfield 68, 3), (114, .iconst 2, 1), (115, .iaload, 1), (116, .istore_n 3, 1), (117, .aload_n 0, 1), (118, .getfield 68, 3), (121, .iconst 3, 1), (122, .iaload, 1), (123, .istore 4, 2), (125, .aload_n 0, 1), (126, .getfield 68, 3), (129, .iconst 4, 1), (130, .iaload, 1), (131, .istore 5, 2), (133, .aload_n 0, 1), (134, .getfield 68, 3), (137, .iconst 5, 1), (138, .iaload, 1), (139, .istore 6, 2), (141, .aload_n 0, 1), (142, .getfield 68, 3), (145, .bipush 6, 2), (147, .iaload, 1), (148, .istore 7, 2), (150, .aload_n 0, 1), (151, .getfield 68, 3), (154, .bipush 7, 2), (156, .iaload, 1), (157, .istore 8, 2), (159, .iconst 0, 1), (160, .istore 9, 2), (162, .iload 9, 2), (164, .bipush 64, 2), (166, .if_icmp .ge 136, 3), (169, .iload 8, 2), (171, .iload 5, 2), (173, .bipush 6, 2), (175, .invokestatic 113, 3), (178, .iload 5, 2), (180, .bipush 11, 2), (182, .invokestatic 113, 3), (185, .ixor, 1), (186, .iload 5, 2), (188, .bipush 25, 2), (190, .invokestatic 113, 3), (193, .ixor, 1), (194, .iadd, 1), (195, .iload 5, 2), (197, .iload 6, 2), (199, .iand, 1), (200, .iload 5, 2), (202, .iconst (-1), 1), (203, .ixor, 1), (204, .iload 7, 2), (206, .iand, 1), (207, .ixor, 1), (208, .iadd, 1), (209, .aload_n 0, 1), (210, .getfield 58, 3), (213, .iload 9, 2), (215, .laload, 1), (216, .bipush 32, 2), (218, .lushr, 1), (219, .l2i, 1), (220, .iadd, 1), (221, .aload_n 0, 1), (222, .getfield 65, 3), (225, .iload 9, 2), (227, .iaload, 1), (228, .iadd, 1), (229, .istore 10, 2), (231, .iload_n 1, 1), (232, .iconst 2, 1), (233, .invokestatic 113, 3), (236, .iload_n 1, 1), (237, .bipush 13, 2), (239, .invokestatic 113, 3), (242, .ixor, 1), (243, .iload_n 1, 1), (244, .bipush 22, 2), (246, .invokestatic 113, 3), (249, .ixor, 1), (250, .iload_n 1, 1), (251, .iload_n 2, 1), (252, .iand, 1), (253, .iload_n 1, 1), (254, .iload_n 3, 1), (255, .iand, 1), (256, .ixor, 1), (257, .iload_n 2, 1), (258, .iload_n 3, 1), (259, .iand, 1), (260, .ixor, 1), (261, .iadd, 1), (262, .istore 11, 2), (264, .iload 7, 2), (266, .istore 8, 2), (268, .iload 6, 2), (270, .istore 7, 2), (272, .iload 5, 2), (274, .istore 6, 2), (276, .iload 4, 2), (278, .iload 10, 2), (280, .iadd, 1), (281, .istore 5, 2), (283, .iload_n 3, 1), (284, .istore 4, 2), (286, .iload_n 2, 1), (287, .istore_n 3, 1), (288, .iload_n 1, 1), (289, .istore_n 2, 1), (290, .iload 10, 2), (292, .iload 11, 2), (294, .iadd, 1), (295, .istore_n 1, 1), (296, .iinc 9 1, 3), (299, .goto (-137), 3), (302, .aload_n 0, 1), (303, .getfield 68, 3), (306, .iconst 0, 1), (307, .dup2, 1), (308, .iaload, 1), (309, .iload_n 1, 1), (310, .iadd, 1), (311, .iastore, 1), (312, .aload_n 0, 1), (313, .getfield 68, 3), (316, .iconst 1, 1), (317, .dup2, 1), (318, .iaload, 1), (319, .iload_n 2, 1), (320, .iadd, 1), (321, .iastore, 1), (322, .aload_n 0, 1), (323, .getfield 68, 3), (326, .iconst 2, 1), (327, .dup2, 1), (328, .iaload, 1), (329, .iload_n 3, 1), (330, .iadd, 1), (331, .iastore, 1), (332, .aload_n 0, 1), (333, .getfield 68, 3), (336, .iconst 3, 1), (337, .dup2, 1), (338, .iaload, 1), (339, .iload 4, 2), (341, .iadd, 1), (342, .iastore, 1), (343, .aload_n 0, 1), (344, .getfield 68, 3), (347, .iconst 4, 1), (348, .dup2, 1), (349, .iaload, 1), (350, .iload 5, 2), (352, .iadd, 1), (353, .iastore, 1), (354, .aload_n 0, 1), (355, .getfield 68, 3), (358, .iconst 5, 1), (359, .dup2, 1), (360, .iaload, 1), (361, .iload 6, 2), (363, .iadd, 1), (364, .iastore, 1), (365, .aload_n 0, 1), (366, .getfield 68, 3), (369, .bipush 6, 2), (371, .dup2, 1), (372, .iaload, 1), (373, .iload 7, 2), (375, .iadd, 1), (376, .iastore, 1), (377, .aload_n 0, 1), (378, .getfield 68, 3), (381, .bipush 7, 2), (383, .dup2, 1), (384, .iaload, 1), (385, .iload 8, 2), (387, .iadd, 1), (388, .iastore, 1), (389, .return_, 1)]
theorem dk_M_over : fx_dec prog_15_method_12_code dl_M_over = true := by decide +kernel
theorem d_M_over_0 : decode prog_15_method_12_code 0 = .ok (.bipush 16, 2) := fx_dat dk_M_over 0 rfl
theorem d_M_over_2 : decode prog_15_method_12_code 2 = .ok (.istore_n 1, 1) := fx_dat dk_M_over 1 rfl
theorem d_M_over_3 : decode prog_15_method_12_code 3 = .ok (.iload_n 1, 1) := fx_dat dk_M_over 2 rfl
theorem d_M_over_4 : decode prog_15_method_12_code 4 = .ok (.bipush 64, 2) := fx_dat dk_M_over 3 rfl
theorem d_M_over_6 : decode prog_15_method_12_code 6 = .ok (.if_icmp .ge 90, 3) := fx_dat dk_M_over 4 rfl
theorem d_M_over_9 : decode prog_15_method_12_code 9 = .ok (.aload_n 0, 1) := fx_dat dk_M_over 5 rfl
theorem d_M_over_10 : decode prog_15_method_12_code 10 = .ok (.getfield 65, 3) := fx_dat dk_M_over 6 rfl
theorem d_M_over_13 : decode prog_15_method_12_code 13 = .ok (.iload_n 1, 1) := fx_dat dk_M_over 7 rfl
theorem d_M_over_14 : decode prog_15_method_12_code 14 = .ok (.bipush 15, 2) := fx_dat dk_M_over 8 rfl
theorem d_M_over_16 : decode prog_15_method_12_code 16 = .ok (.isub, 1) := fx_dat dk_M_over 9 rfl
theorem d_M_over_17 : decode prog_15_method_12_code 17 = .ok (.iaload, 1) := fx_dat dk_M_over 10 rfl
theorem d_M_over_18 : decode prog_15_method_12_code 18 = .ok (.istore_n 2, 1) := fx_dat dk_M_over 11 rfl
theorem d_M_over_19 : decode prog_15_method_12_code 19 = .ok (.aload_n 0, 1) := fx_dat dk_M_over 12 rfl
theorem d_M_over_20 : decode prog_15_method_12_code 20 = .ok (.getfield 65, 3) := fx_dat dk_M_over 13 rfl
theorem d_M_over_23 : decode prog_15_method_12_code 23 = .ok (.iload_n 1, 1) := fx_dat dk_M_over 14 rfl
theorem d_M_over_24 : decode prog_15_method_12_code 24 = .ok (.iconst 2, 1) := fx_dat dk_M_over 15 rfl
theorem d_M_over_25 : decode prog_15_method_12_code 25 = .ok (.isub, 1) := fx_dat dk_M_over 16 rfl
theorem d_M_over_26 : decode prog_15_method_12_code 26 = .ok (.iaload, 1) := fx_dat dk_M_over 17 rfl
theorem d_M_over_27 : decode prog_15_method_12_code 27 = .ok (.istore_n 3, 1) := fx_dat dk_M_over 18 rfl
theorem d_M_over_28 : decode prog_15_method_12_code 28 = .ok (.aload_n 0, 1) := fx_dat dk_M_over 19 rfl
theorem d_M_over_29 : decode prog_15_method_12_code 29 = .ok (.getfield 65, 3) := fx_dat dk_M_over 20 rfl
theorem d_M_over_32 : decode prog_15_method_12_code 32 = .ok (.iload_n 1, 1) := fx_dat dk_M_over 21 rfl
theorem d_M_over_33 : decode prog_15_method_12_code 33 = .ok (.aload_n 0, 1) := fx_dat dk_M_over 22 rfl
theorem d_M_over_34 : decode prog_15_method_12_code 34 = .ok (.getfield 65, 3) := fx_dat dk_M_over 23 rfl
theorem d_M_over_37 : decode prog_15_method_12_code 37 = .ok (.iload_n 1, 1) := fx_dat dk_M_over 24 rfl
theorem d_M_over_38 : decode prog_15_method_12_code 38 = .ok (.bipush 16, 2) := fx_dat dk_M_over 25 rfl
theorem d_M_over_40 : decode prog_15_method_12_code 40 = .ok (.isub, 1) := fx_dat dk_M_over 26 rfl
theorem d_M_over_41 : decode prog_15_method_12_code 41 = .ok (.iaload, 1) := fx_dat dk_M_over 27 rfl
theorem d_M_over_42 : decode prog_15_method_12_code 42 = .ok (.iload_n 2, 1) := fx_dat dk_M_over 28 rfl
theorem d_M_over_43 : decode prog_15_method_12_code 43 = .ok (.bipush 7, 2) := fx_dat dk_M_over 29 rfl
theorem d_M_over_45 : decode prog_15_method_12_code 45 = .ok (.invokestatic 113, 3) := fx_dat dk_M_over 30 rfl
theorem d_M_over_48 : decode prog_15_method_12_code 48 = .ok (.iload_n 2, 1) := fx_dat dk_M_over 31 rfl
theorem d_M_over_49 : decode prog_15_method_12_code 49 = .ok (.bipush 18, 2) := fx_dat dk_M_over 32 rfl
theorem d_M_over_51 : decode prog_15_method_12_code 51 = .ok (.invokestatic 113, 3) := fx_dat dk_M_over 33 rfl
theorem d_M_over_54 : decode prog_15_method_12_code 54 = .ok (.ixor, 1) := fx_dat dk_M_over 34 rfl
theorem d_M_over_55 : decode prog_15_method_12_code 55 = .ok (.iload_n 2, 1) := fx_dat dk_M_over 35 rfl
theorem d_M_over_56 : decode prog_15_method_12_code 56 = .ok (.iconst 3, 1) := fx_dat dk_M_over 36 rfl
theorem d_M_over_57 : decode prog_15_method_12_code 57 = .ok (.iushr, 1) := fx_dat dk_M_over 37 rfl
theorem d_M_over_58 : decode prog_15_method_12_code 58 = .ok (.ixor, 1) := fx_dat dk_M_over 38 rfl
theorem d_M_over_59 : decode prog_15_method_12_code 59 = .ok (.iadd, 1) := fx_dat dk_M_over 39 rfl
theorem d_M_over_60 : decode prog_15_method_12_code 60 = .ok (.aload_n 0, 1) := fx_dat dk_M_over 40 rfl
theorem d_M_over_61 : decode prog_15_method_12_code 61 = .ok (.getfield 65, 3) := fx_dat dk_M_over 41 rfl
theorem d_M_over_64 : decode prog_15_method_12_code 64 = .ok (.iload_n 1, 1) := fx_dat dk_M_over 42 rfl
theorem d_M_over_65 : decode prog_15_method_12_code 65 = .ok (.bipush 7, 2) := fx_dat dk_M_over 43 rfl
theorem d_M_over_67 : decode prog_15_method_12_code 67 = .ok (.isub, 1) := fx_dat dk_M_over 44 rfl
theorem d_M_over_68 : decode prog_15_method_12_code 68 = .ok (.iaload, 1) := fx_dat dk_M_over 45 rfl
theorem d_M_over_69 : decode prog_15_method_12_code 69 = .ok (.iadd, 1) := fx_dat dk_M_over 46 rfl
theorem d_M_over_70 : decode prog_15_method_12_code 70 = .ok (.iload_n 3, 1) := fx_dat dk_M_over 47 rfl
theorem d_M_over_71 : decode prog_15_method_12_code 71 = .ok (.bipush 17, 2) := fx_dat dk_M_over 48 rfl
theorem d_M_over_73 : decode prog_15_method_12_code 73 = .ok (.invokestatic 113, 3) := fx_dat dk_M_over 49 rfl
theorem d_M_over_76 : decode prog_15_method_12_code 76 = .ok (.iload_n 3, 1) := fx_dat dk_M_over 50 rfl
theorem d_M_over_77 : decode prog_15_method_12_code 77 = .ok (.bipush 19, 2) := fx_dat dk_M_over 51 rfl
theorem d_M_over_79 : decode prog_15_method_12_code 79 = .ok (.invokestatic 113, 3) := fx_dat dk_M_over 52 rfl
theorem d_M_over_82 : decode prog_15_method_12_code 82 = .ok (.ixor, 1) := fx_dat dk_M_over 53 rfl
theorem d_M_over_83 : decode prog_15_method_12_code 83 = .ok (.iload_n 3, 1) := fx_dat dk_M_over 54 rfl
theorem d_M_over_84 : decode prog_15_method_12_code 84 = .ok (.bipush 10, 2) := fx_dat dk_M_over 55 rfl
theorem d_M_over_86 : decode prog_15_method_12_code 86 = .ok (.iushr, 1) := fx_dat dk_M_over 56 rfl
theorem d_M_over_87 : decode prog_15_method_12_code 87 = .ok (.ixor, 1) := fx_dat dk_M_over 57 rfl
theorem d_M_over_88 : decode prog_15_method_12_code 88 = .ok (.iadd, 1) := fx_dat dk_M_over 58 rfl
theorem d_M_over_89 : decode prog_15_method_12_code 89 = .ok (.iastore, 1) := fx_dat dk_M_over 59 rfl
theorem d_M_over_90 : decode prog_15_method_12_code 90 = .ok (.iinc 1 1, 3) := fx_dat dk_M_over 60 rfl
theorem d_M_over_93 : decode prog_15_method_12_code 93 = .ok (.goto (-90), 3) := fx_dat dk_M_over 61 rfl
theorem d_M_over_96 : decode prog_15_method_12_code 96 = .ok (.aload_n 0, 1) := fx_dat dk_M_over 62 rfl
theorem d_M_over_97 : decode prog_15_method_12_code 97 = .ok (.getfield 68, 3) := fx_dat dk_M_over 63 rfl
theorem d_M_over_100 : decode prog_15_method_12_code 100 = .ok (.iconst 0, 1) := fx_dat dk_M_over 64 rfl
theorem d_M_over_101 : decode prog_15_method_12_code 101 = .ok (.iaload, 1) := fx_dat dk_M_over 65 rfl
theorem d_M_over_102 : decode prog_15_method_12_code 102 = .ok (.istore_n 1, 1) := fx_dat dk_M_over 66 rfl
theorem d_M_over_103 : decode prog_15_method_12_code 103 = .ok (.aload_n 0, 1) := fx_dat dk_M_over 67 rfl
theorem d_M_over_104 : decode prog_15_method_12_code 104 = .ok (.getfield 68, 3) := fx_dat dk_M_over 68 rfl
theorem d_M_over_107 : decode prog_15_method_12_code 107 = .ok (.iconst 1, 1) := fx_dat dk_M_over 69 rfl
theorem d_M_over_108 : decode prog_15_method_12_code 108 = .ok (.iaload, 1) := fx_dat dk_M_over 70 rfl
theorem d_M_over_109 : decode prog_15_method_12_code 109 = .ok (.istore_n 2, 1) := fx_dat dk_M_over 71 rfl
theorem d_M_over_110 : decode prog_15_method_12_code 110 = .ok (.aload_n 0, 1) := fx_dat dk_M_over 72 rfl
theorem d_M_over_111 : decode prog_15_method_12_code 111 = .ok (.getfield 68, 3) := fx_dat dk_M_over 73 rfl
theorem d_M_over_114 : decode prog_15_method_12_code 114 = .ok (.iconst 2, 1) := fx_dat dk_M_over 74 rfl
theorem d_M_over_115 : decode prog_15_method_12_code 115 = .ok (.iaload, 1) := fx_dat dk_M_over 75 rfl
theorem d_M_over_116 : decode prog_15_method_12_code 116 = .ok (.istore_n 3, 1) := fx_dat dk_M_over 76 rfl
theorem d_M_over_117 : decode prog_15_method_12_code 117 = .ok (.aload_n 0, 1) := fx_dat dk_M_over 77 rfl
theorem d_M_over_118 : decode prog_15_method_12_code 118 = .ok (.getfield 68, 3) := fx_dat dk_M_over 78 rfl
theorem d_M_over_121 : decode prog_15_method_12_code 121 = .ok (.iconst 3, 1) := fx_dat dk_M_over 79 rfl
theorem d_M_over_122 : decode prog_15_method_12_code 122 = .ok (.iaload, 1) := fx_dat dk_M_over 80 rfl
theorem d_M_over_123 : decode prog_15_method_12_code 123 = .ok (.istore 4, 2) := fx_dat dk_M_over 81 rfl
theorem d_M_over_125 : decode prog_15_method_12_code 125 = .ok (.aload_n 0, 1) := fx_dat dk_M_over 82 rfl
theorem d_M_over_126 : decode prog_15_method_12_code 126 = .ok (.getfield 68, 3) := fx_dat dk_M_over 83 rfl
theorem d_M_over_129 : decode prog_15_method_12_code 129 = .ok (.iconst 4, 1) := fx_dat dk_M_over 84 rfl
theorem d_M_over_130 : decode prog_15_method_12_code 130 = .ok (.iaload, 1) := fx_dat dk_M_over 85 rfl
theorem d_M_over_131 : decode prog_15_method_12_code 131 = .ok (.istore 5, 2) := fx_dat dk_M_over 86 rfl
theorem d_M_over_133 : decode prog_15_method_12_code 133 = .ok (.aload_n 0, 1) := fx_dat dk_M_over 87 rfl
theorem d_M_over_134 : decode prog_15_method_12_code 134 = .ok (.getfield 68, 3) := fx_dat dk_M_over 88 rfl
theorem d_M_over_137 : decode prog_15_method_12_code 137 = .ok (.iconst 5, 1) := fx_dat dk_M_over 89 rfl
theorem d_M_over_138 : decode prog_15_method_12_code 138 = .ok (.iaload, 1) := fx_dat dk_M_over 90 rfl
theorem d_M_over_139 : decode prog_15_method_12_code 139 = .ok (.istore 6, 2) := fx_dat dk_M_over 91 rfl
theorem d_M_over_141 : decode prog_15_method_12_code 141 = .ok (.aload_n 0, 1) := fx_dat dk_M_over 92 rfl
theorem d_M_over_142 : decode prog_15_method_12_code 142 = .ok (.getfield 68, 3) := fx_dat dk_M_over 93 rfl
theorem d_M_over_145 : decode prog_15_method_12_code 145 = .ok (.bipush 6, 2) := fx_dat dk_M_over 94 rfl
theorem d_M_over_147 : decode prog_15_method_12_code 147 = .ok (.iaload, 1) := fx_dat dk_M_over 95 rfl
theorem d_M_over_148 : decode prog_15_method_12_code 148 = .ok (.istore 7, 2) := fx_dat dk_M_over 96 rfl
theorem d_M_over_150 : decode prog_15_method_12_code 150 = .ok (.aload_n 0, 1) := fx_dat dk_M_over 97 rfl
theorem d_M_over_151 : decode prog_15_method_12_code 151 = .ok (.getfield 68, 3) := fx_dat dk_M_over 98 rfl
theorem d_M_over_154 : decode prog_15_method_12_code 154 = .ok (.bipush 7, 2) := fx_dat dk_M_over 99 rfl
theorem d_M_over_156 : decode prog_15_method_12_code 156 = .ok (.iaload, 1) := fx_dat dk_M_over 100 rfl
theorem d_M_over_157 : decode prog_15_method_12_code 157 = .ok (.istore 8, 2) := fx_dat dk_M_over 101 rfl
theorem d_M_over_159 : decode prog_15_method_12_code 159 = .ok (.iconst 0, 1) := fx_dat dk_M_over 102 rfl
theorem d_M_over_160 : decode prog_15_method_12_code 160 = .ok (.istore 9, 2) := fx_dat dk_M_over 103 rfl
theorem d_M_over_162 : decode prog_15_method_12_code 162 = .ok (.iload 9, 2) := fx_dat dk_M_over 104 rfl
theorem d_M_over_164 : decode prog_15_method_12_code 164 = .ok (.bipush 64, 2) := fx_dat dk_M_over 105 rfl
theorem d_M_over_166 : decode prog_15_method_12_code 166 = .ok (.if_icmp .ge 136, 3) := fx_dat dk_M_over 106 rfl
theorem d_M_over_169 : decode prog_15_method_12_code 169 = .ok (.iload 8, 2) := fx_dat dk_M_over 107 rfl
theorem d_M_over_171 : decode prog_15_method_12_code 171 = .ok (.iload 5, 2) := fx_dat dk_M_over 108 rfl
theorem d_M_over_173 : decode prog_15_method_12_code 173 = .ok (.bipush 6, 2) := fx_dat dk_M_over 109 rfl
theorem d_M_over_175 : decode prog_15_method_12_code 175 = .ok (.invokestatic 113, 3) := fx_dat dk_M_over 110 rfl
theorem d_M_over_178 : decode prog_15_method_12_code 178 = .ok (.iload 5, 2) := fx_dat dk_M_over 111 rfl
theorem d_M_over_180 : decode prog_15_method_12_code 180 = .ok (.bipush 11, 2) := fx_dat dk_M_over 112 rfl
theorem d_M_over_182 : decode prog_15_method_12_code 182 = .ok (.invokestatic 113, 3) := fx_dat dk_M_over 113 rfl
theorem d_M_over_185 : decode prog_15_method_12_code 185 = .ok (.ixor, 1) := fx_dat dk_M_over 114 rfl
theorem d_M_over_186 : decode prog_15_method_12_code 186 = .ok (.iload 5, 2) := fx_dat dk_M_over 115 rfl
theorem d_M_over_188 : decode prog_15_method_12_code 188 = .ok (.bipush 25, 2) := fx_dat dk_M_over 116 rfl
theorem d_M_over_190 : decode prog_15_method_12_code 190 = .ok (.invokestatic 113, 3) := fx_dat dk_M_over 117 rfl
theorem d_M_over_193 : decode prog_15_method_12_code 193 = .ok (.ixor, 1) := fx_dat dk_M_over 118 rfl
theorem d_M_over_194 : decode prog_15_method_12_code 194 = .ok (.iadd, 1) := fx_dat dk_M_over 119 rfl
theorem d_M_over_195 : decode prog_15_method_12_code 195 = .ok (.iload 5, 2) := fx_dat dk_M_over 120 rfl
theorem d_M_over_197 : decode prog_15_method_12_code 197 = .ok (.iload 6, 2) := fx_dat dk_M_over 121 rfl
theorem d_M_over_199 : decode prog_15_method_12_code 199 = .ok (.iand, 1) := fx_dat dk_M_over 122 rfl
theorem d_M_over_200 : decode prog_15_method_12_code 200 = .ok (.iload 5, 2) := fx_dat dk_M_over 123 rfl
theorem d_M_over_202 : decode prog_15_method_12_code 202 = .ok (.iconst (-1), 1) := fx_dat dk_M_over 124 rfl
theorem d_M_over_203 : decode prog_15_method_12_code 203 = .ok (.ixor, 1) := fx_dat dk_M_over 125 rfl
theorem d_M_over_204 : decode prog_15_method_12_code 204 = .ok (.iload 7, 2) := fx_dat dk_M_over 126 rfl
theorem d_M_over_206 : decode prog_15_method_12_code 206 = .ok (.iand, 1) := fx_dat dk_M_over 127 rfl
theorem d_M_over_207 : decode prog_15_method_12_code 207 = .ok (.ixor, 1) := fx_dat dk_M_over 128 rfl
theorem d_M_over_208 : decode prog_15_method_12_code 208 = .ok (.iadd, 1) := fx_dat dk_M_over 129 rfl
theorem d_M_over_209 : decode prog_15_method_12_code 209 = .ok (.aload_n 0, 1) := fx_dat dk_M_over 130 rfl
theorem d_M_over_210 : decode prog_15_method_12_code 210 = .ok (.getfield 58, 3) := fx_dat dk_M_over 131 rfl
theorem d_M_over_213 : decode prog_15_method_12_code 213 = .ok (.iload 9, 2) := fx_dat dk_M_over 132 rfl
theorem d_M_over_215 : decode prog_15_method_12_code 215 = .ok (.laload, 1) := fx_dat dk_M_over 133 rfl
theorem d_M_over_216 : decode prog_15_method_12_code 216 = .ok (.bipush 32, 2) := fx_dat dk_M_over 134 rfl
theorem d_M_over_218 : decode prog_15_method_12_code 218 = .ok (.lushr, 1) := fx_dat dk_M_over 135 rfl
theorem d_M_over_219 : decode prog_15_method_12_code 219 = .ok (.l2i, 1) := fx_dat dk_M_over 136 rfl
theorem d_M_over_220 : decode prog_15_method_12_code 220 = .ok (.iadd, 1) := fx_dat dk_M_over 137 rfl
theorem d_M_over_221 : decode prog_15_method_12_code 221 = .ok (.aload_n 0, 1) := fx_dat dk_M_over 138 rfl
theorem d_M_over_222 : decode prog_15_method_12_code 222 = .ok (.getfield 65, 3) := fx_dat dk_M_over 139 rfl
theorem d_M_over_225 : decode prog_15_method_12_code 225 = .ok (.iload 9, 2) := fx_dat dk_M_over 140 rfl
theorem d_M_over_227 : decode prog_15_method_12_code 227 = .ok (.iaload, 1) := fx_dat dk_M_over 141 rfl
theorem d_M_over_228 : decode prog_15_method_12_code 228 = .ok (.iadd, 1) := fx_dat dk_M_over 142 rfl
theorem d_M_over_229 : decode prog_15_method_12_code 229 = .ok (.istore 10, 2) := fx_dat dk_M_over 143 rfl
theorem d_M_over_231 : decode prog_15_method_12_code 231 = .ok (.iload_n 1, 1) := fx_dat dk_M_over 144 rfl
theorem d_M_over_232 : decode prog_15_method_12_code 232 = .ok (.iconst 2, 1) := fx_dat dk_M_over 145 rfl
theorem d_M_over_233 : decode prog_15_method_12_code 233 = .ok (.invokestatic 113, 3) := fx_dat dk_M_over 146 rfl
theorem d_M_over_236 : decode prog_15_method_12_code 236 = .ok (.iload_n 1, 1) := fx_dat dk_M_over 147 rfl
theorem d_M_over_237 : decode prog_15_method_12_code 237 = .ok (.bipush 13, 2) := fx_dat dk_M_over 148 rfl
theorem d_M_over_239 : decode prog_15_method_12_code 239 = .ok (.invokestatic 113, 3) := fx_dat dk_M_over 149 rfl
theorem d_M_over_242 : decode prog_15_method_12_code 242 = .ok (.ixor, 1) := fx_dat dk_M_over 150 rfl
theorem d_M_over_243 : decode prog_15_method_12_code 243 = .ok (.iload_n 1, 1) := fx_dat dk_M_over 151 rfl
theorem d_M_over_244 : decode prog_15_method_12_code 244 = .ok (.bipush 22, 2) := fx_dat dk_M_over 152 rfl
theorem d_M_over_246 : decode prog_15_method_12_code 246 = .ok (.invokestatic 113, 3) := fx_dat dk_M_over 153 rfl
theorem d_M_over_249 : decode prog_15_method_12_code 249 = .ok (.ixor, 1) := fx_dat dk_M_over 154 rfl
theorem d_M_over_250 : decode prog_15_method_12_code 250 = .ok (.iload_n 1, 1) := fx_dat dk_M_over 155 rfl
theorem d_M_over_251 : decode prog_15_method_12_code 251 = .ok (.iload_n 2, 1) := fx_dat dk_M_over 156 rfl
theorem d_M_over_252 : decode prog_15_method_12_code 252 = .ok (.iand, 1) := fx_dat dk_M_over 157 rfl
theorem d_M_over_253 : decode prog_15_method_12_code 253 = .ok (.iload_n 1, 1) := fx_dat dk_M_over 158 rfl
theorem d_M_over_254 : decode prog_15_method_12_code 254 = .ok (.iload_n 3, 1) := fx_dat dk_M_over 159 rfl
theorem d_M_over_255 : decode prog_15_method_12_code 255 = .ok (.iand, 1) := fx_dat dk_M_over 160 rfl
theorem d_M_over_256 : decode prog_15_method_12_code 256 = .ok (.ixor, 1) := fx_dat dk_M_over 161 rfl
theorem d_M_over_257 : decode prog_15_method_12_code 257 = .ok (.iload_n 2, 1) := fx_dat dk_M_over 162 rfl
theorem d_M_over_258 : decode prog_15_method_12_code 258 = .ok (.iload_n 3, 1) := fx_dat dk_M_over 163 rfl
theorem d_M_over_259 : decode prog_15_method_12_code 259 = .ok (.iand, 1) := fx_dat dk_M_over 164 rfl
theorem d_M_over_260 : decode prog_15_method_12_code 260 = .ok (.ixor, 1) := fx_dat dk_M_over 165 rfl
theorem d_M_over_261 : decode prog_15_method_12_code 261 = .ok (.iadd, 1) := fx_dat dk_M_over 166 rfl
theorem d_M_over_262 : decode prog_15_method_12_code 262 = .ok (.istore 11, 2) := fx_dat dk_M_over 167 rfl
theorem d_M_over_264 : decode prog_15_method_12_code 264 = .ok (.iload 7, 2) := fx_dat dk_M_over 168 rfl
theorem d_M_over_266 : decode prog_15_method_12_code 266 = .ok (.istore 8, 2) := fx_dat dk_M_over 169 rfl
theorem d_M_over_268 : decode prog_15_method_12_code 268 = .ok (.iload 6, 2) := fx_dat dk_M_over 170 rfl
theorem d_M_over_270 : decode prog_15_method_12_code 270 = .ok (.istore 7, 2) := fx_dat dk_M_over 171 rfl
theorem d_M_over_272 : decode prog_15_method_12_code 272 = .ok (.iload 5, 2) := fx_dat dk_M_over 172 rfl
theorem d_M_over_274 : decode prog_15_method_12_code 274 = .ok (.istore 6, 2) := fx_dat dk_M_over 173 rfl
theorem d_M_over_276 : decode prog_15_method_12_code 276 = .ok (.iload 4, 2) := fx_dat dk_M_over 174 rfl
theorem d_M_over_278 : decode prog_15_method_12_code 278 = .ok (.iload 10, 2) := fx_dat dk_M_over 175 rfl
theorem d_M_over_280 : decode prog_15_method_12_code 280 = .ok (.iadd, 1) := fx_dat dk_M_over 176 rfl
theorem d_M_over_281 : decode prog_15_method_12_code 281 = .ok (.istore 5, 2) := fx_dat dk_M_over 177 rfl
theorem d_M_over_283 : decode prog_15_method_12_code 283 = .ok (.iload_n 3, 1) := fx_dat dk_M_over 178 rfl
theorem d_M_over_284 : decode prog_15_method_12_code 284 = .ok (.istore 4, 2) := fx_dat dk_M_over 179 rfl
theorem d_M_over_286 : decode prog_15_method_12_code 286 = .ok (.iload_n 2, 1) := fx_dat dk_M_over 180 rfl
theorem d_M_over_287 : decode prog_15_method_12_code 287 = .ok (.istore_n 3, 1) := fx_dat dk_M_over 181 rfl
theorem d_M_over_288 : decode prog_15_method_12_code 288 = .ok (.iload_n 1, 1) := fx_dat dk_M_over 182 rfl
theorem d_M_over_289 : decode prog_15_method_12_code 289 = .ok (.istore_n 2, 1) := fx_dat dk_M_over 183 rfl
theorem d_M_over_290 : decode prog_15_method_12_code 290 = .ok (.iload 10, 2) := fx_dat dk_M_over 184 rfl
theorem d_M_over_292 : decode prog_15_method_12_code 292 = .ok (.iload 11, 2) := fx_dat dk_M_over 185 rfl
theorem d_M_over_294 : decode prog_15_method_12_code 294 = .ok (.iadd, 1) := fx_dat dk_M_over 186 rfl
theorem d_M_over_295 : decode prog_15_method_12_code 295 = .ok (.istore_n 1, 1) := fx_dat dk_M_over 187 rfl
theorem d_M_over_296 : decode prog_15_method_12_code 296 = .ok (.iinc 9 1, 3) := fx_dat dk_M_over 188 rfl
theorem d_M_over_299 : decode prog_15_method_12_code 299 = .ok (.goto (-137), 3) := fx_dat dk_M_over 189 rfl
theorem d_M_over_302 : decode prog_15_method_12_code 302 = .ok (.aload_n 0, 1) := fx_dat dk_M_over 190 rfl
theorem d_M_over_303 : decode prog_15_method_12_code 303 = .ok (.getfield 68, 3) := fx_dat dk_M_over 191 rfl
theorem d_M_over_306 : decode prog_15_method_12_code 306 = .ok (.iconst 0, 1) := fx_dat dk_M_over 192 rfl
theorem d_M_over_307 : decode prog_15_method_12_code 307 = .ok (.dup2, 1) := fx_dat dk_M_over 193 rfl
theorem d_M_over_308 : decode prog_15_method_12_code 308 = .ok (.iaload, 1) := fx_dat dk_M_over 194 rfl
theorem d_M_over_309 : decode prog_15_method_12_code 309 = .ok (.iload_n 1, 1) := fx_dat dk_M_over 195 rfl
theorem d_M_over_310 : decode prog_15_method_12_code 310 = .ok (.iadd, 1) := fx_dat dk_M_over 196 rfl
theorem d_M_over_311 : decode prog_15_method_12_code 311 = .ok (.iastore, 1) := fx_dat dk_M_over 197 rfl
theorem d_M_over_312 : decode prog_15_method_12_code 312 = .ok (.aload_n 0, 1) := fx_dat dk_M_over 198 rfl
theorem d_M_over_313 : decode prog_15_method_12_code 313 = .ok (.getfield 68, 3) := fx_dat dk_M_over 199 rfl
theorem d_M_over_316 : decode prog_15_method_12_code 316 = .ok (.iconst 1, 1) := fx_dat dk_M_over 200 rfl
theorem d_M_over_317 : decode prog_15_method_12_code 317 = .ok (.dup2, 1) := fx_dat dk_M_over 201 rfl
theorem d_M_over_318 : decode prog_15_method_12_code 318 = .ok (.iaload, 1) := fx_dat dk_M_over 202 rfl
theorem d_M_over_319 : decode prog_15_method_12_code 319 = .ok (.iload_n 2, 1) := fx_dat dk_M_over 203 rfl
theorem d_M_over_320 : decode prog_15_method_12_code 320 = .ok (.iadd, 1) := fx_dat dk_M_over 204 rfl
theorem d_M_over_321 : decode prog_15_method_12_code 321 = .ok (.iastore, 1) := fx_dat dk_M_over 205 rfl
theorem d_M_over_322 : decode prog_15_method_12_code 322 = .ok (.aload_n 0, 1) := fx_dat dk_M_over 206 rfl
theorem d_M_over_323 : decode prog_15_method_12_code 323 = .ok (.getfield 68, 3) := fx_dat dk_M_over 207 rfl
theorem d_M_over_326 : decode prog_15_method_12_code 326 = .ok (.iconst 2, 1) := fx_dat dk_M_over 208 rfl
theorem d_M_over_327 : decode prog_15_method_12_code 327 = .ok (.dup2, 1) := fx_dat dk_M_over 209 rfl
theorem d_M_over_328 : decode prog_15_method_12_code 328 = .ok (.iaload, 1) := fx_dat dk_M_over 210 rfl
theorem d_M_over_329 : decode prog_15_method_12_code 329 = .ok (.iload_n 3, 1) := fx_dat dk_M_over 211 rfl
theorem d_M_over_330 : decode prog_15_method_12_code 330 = .ok (.iadd, 1) := fx_dat dk_M_over 212 rfl
theorem d_M_over_331 : decode prog_15_method_12_code 331 = .ok (.iastore, 1) := fx_dat dk_M_over 213 rfl
theorem d_M_over_332 : decode prog_15_method_12_code 332 = .ok (.aload_n 0, 1) := fx_dat dk_M_over 214 rfl
theorem d_M_over_333 : decode prog_15_method_12_code 333 = .ok (.getfield 68, 3) := fx_dat dk_M_over 215 rfl
theorem d_M_over_336 : decode prog_15_method_12_code 336 = .ok (.iconst 3, 1) := fx_dat dk_M_over 216 rfl
theorem d_M_over_337 : decode prog_15_method_12_code 337 = .ok (.dup2, 1) := fx_dat dk_M_over 217 rfl
theorem d_M_over_338 : decode prog_15_method_12_code 338 = .ok (.iaload, 1) := fx_dat dk_M_over 218 rfl
theorem d_M_over_339 : decode prog_15_method_12_code 339 = .ok (.iload 4, 2) := fx_dat dk_M_over 219 rfl
theorem d_M_over_341 : decode prog_15_method_12_code 341 = .ok (.iadd, 1) := fx_dat dk_M_over 220 rfl
theorem d_M_over_342 : decode prog_15_method_12_code 342 = .ok (.iastore, 1) := fx_dat dk_M_over 221 rfl
theorem d_M_over_343 : decode prog_15_method_12_code 343 = .ok (.aload_n 0, 1) := fx_dat dk_M_over 222 rfl
theorem d_M_over_344 : decode prog_15_method_12_code 344 = .ok (.getfield 68, 3) := fx_dat dk_M_over 223 rfl
theorem d_M_over_347 : decode prog_15_method_12_code 347 = .ok (.iconst 4, 1) := fx_dat dk_M_over 224 rfl
theorem d_M_over_348 : decode prog_15_method_12_code 348 = .ok (.dup2, 1) := fx_dat dk_M_over 225 rfl
theorem d_M_over_349 : decode prog_15_method_12_code 349 = .ok (.iaload, 1) := fx_dat dk_M_over 226 rfl
theorem d_M_over_350 : decode prog_15_method_12_code 350 = .ok (.iload 5, 2) := fx_dat dk_M_over 227 rfl
theorem d_M_over_352 : decode prog_15_method_12_code 352 = .ok (.iadd, 1) := fx_dat dk_M_over 228 rfl
theorem d_M_over_353 : decode prog_15_method_12_code 353 = .ok (.iastore, 1) := fx_dat dk_M_over 229 rfl
theorem d_M_over_354 : decode prog_15_method_12_code 354 = .ok (.aload_n 0, 1) := fx_dat dk_M_over 230 rfl
theorem d_M_over_355 : decode prog_15_method_12_code 355 = .ok (.getfield 68, 3) := fx_dat dk_M_over 231 rfl
theorem d_M_over_358 : decode prog_15_method_12_code 358 = .ok (.iconst 5, 1) := fx_dat dk_M_over 232 rfl
theorem d_M_over_359 : decode prog_15_method_12_code 359 = .ok (.dup2, 1) := fx_dat dk_M_over 233 rfl
theorem d_M_over_360 : decode prog_15_method_12_code 360 = .ok (.iaload, 1) := fx_dat dk_M_over 234 rfl
theorem d_M_over_361 : decode prog_15_method_12_code 361 = .ok (.iload 6, 2) := fx_dat dk_M_over 235 rfl
theorem d_M_over_363 : decode prog_15_method_12_code 363 = .ok (.iadd, 1) := fx_dat dk_M_over 236 rfl
theorem d_M_over_364 : decode prog_15_method_12_code 364 = .ok (.iastore, 1) := fx_dat dk_M_over 237 rfl
theorem d_M_over_365 : decode prog_15_method_12_code 365 = .ok (.aload_n 0, 1) := fx_dat dk_M_over 238 rfl
theorem d_M_over_366 : decode prog_15_method_12_code 366 = .ok (.getfield 68, 3) := fx_dat dk_M_over 239 rfl
theorem d_M_over_369 : decode prog_15_method_12_code 369 = .ok (.bipush 6, 2) := fx_dat dk_M_over 240 rfl
theorem d_M_over_371 : decode prog_15_method_12_code 371 = .ok (.dup2, 1) := fx_dat dk_M_over 241 rfl
theorem d_M_over_372 : decode prog_15_method_12_code 372 = .ok (.iaload, 1) := fx_dat dk_M_over 242 rfl
theorem d_M_over_373 : decode prog_15_method_12_code 373 = .ok (.iload 7, 2) := fx_dat dk_M_over 243 rfl
theorem d_M_over_375 : decode prog_15_method_12_code 375 = .ok (.iadd, 1) := fx_dat dk_M_over 244 rfl
theorem d_M_over_376 : decode prog_15_method_12_code 376 = .ok (.iastore, 1) := fx_dat dk_M_over 245 rfl
theorem d_M_over_377 : decode prog_15_method_12_code 377 = .ok (.aload_n 0, 1) := fx_dat dk_M_over 246 rfl
theorem d_M_over_378 : decode prog_15_method_12_code 378 = .ok (.getfield 68, 3) := fx_dat dk_M_over 247 rfl
theorem d_M_over_381 : decode prog_15_method_12_code 381 = .ok (.bipush 7, 2) := fx_dat dk_M_over 248 rfl
theorem d_M_over_383 : decode prog_15_method_12_code 383 = .ok (.dup2, 1) := fx_dat dk_M_over 249 rfl
theorem d_M_over_384 : decode prog_15_method_12_code 384 = .ok (.iaload, 1) := fx_dat dk_M_over 250 rfl
theorem d_M_over_385 : decode prog_15_method_12_code 385 = .ok (.iload 8, 2) := fx_dat dk_M_over 251 rfl
theorem d_M_over_387 : decode prog_15_method_12_code 387 = .ok (.iadd, 1) := fx_dat dk_M_over 252 rfl
theorem d_M_over_388 : decode prog_15_method_12_code 388 = .ok (.iastore, 1) := fx_dat dk_M_over 253 rfl
theorem d_M_over_389 : decode prog_15_method_12_code 389 = .ok (.return_, 1) := fx_dat dk_M_over 254 rfl
def m_M_over_162_b (Q : AH → Prop) (X162 : Int32 × Int32 × Int32 × Int32 × Int32 × Int32 × Int32 × Int32 × Int32 × AH → Prop) (r0 : Nat) (x1 : Int32) (x2 : Int32) (x3 : Int32) (x4 : Int32) (x5 : Int32) (x6 : Int32) (x7 : Int32) (x8 : Int32) (x9 : Int32) (h : AH) : Prop := ((64 : Int32) ≤ x9 → hp_k h r0 = 13 ∧ ∃ b1, hp_R h r0 53 = some b1 ∧ ik (hp_k h b1) ∧ vp_in (0 : Int32) (hp_n h b1) ∧ hp_k h b1 = 102 ∧ vp_in (0 : Int32) (hp_n h b1) ∧ ∀ h1 : AH, h1 = up_I h b1 ((0 : Int32)).toNatClampNeg ((hp_I h b1 (0 : Int32).toNatClampNeg) + x1) → vp_in (1 : Int32) (hp_n h1 b1) ∧ vp_in (1 : Int32) (hp_n h1 b1) ∧ ∀ h2 : AH, h2 = up_I h1 b1 ((1 : Int32)).toNatClampNeg ((hp_I h1 b1 (1 : Int32).toNatClampNeg) + x2) → vp_in (2 : Int32) (hp_n h2 b1) ∧ vp_in (2 : Int32) (hp_n h2 b1) ∧ ∀ h3 : AH, h3 = up_I h2 b1 ((2 : Int32)).toNatClampNeg ((hp_I h2 b1 (2 : Int32).toNatClampNeg) + x3) → vp_in (3 : Int32) (hp_n h3 b1) ∧ vp_in (3 : Int32) (hp_n h3 b1) ∧ ∀ h4 : AH, h4 = up_I h3 b1 ((3 : Int32)).toNatClampNeg ((hp_I h3 b1 (3 : Int32).toNatClampNeg) + x4) → vp_in (4 : Int32) (hp_n h4 b1) ∧ vp_in (4 : Int32) (hp_n h4 b1) ∧ ∀ h5 : AH, h5 = up_I h4 b1 ((4 : Int32)).toNatClampNeg ((hp_I h4 b1 (4 : Int32).toNatClampNeg) + x5) → vp_in (5 : Int32) (hp_n h5 b1) ∧ vp_in (5 : Int32) (hp_n h5 b1) ∧ ∀ h6 : AH, h6 = up_I h5 b1 ((5 : Int32)).toNatClampNeg ((hp_I h5 b1 (5 : Int32).toNatClampNeg) + x6) → vp_in (6 : Int32) (hp_n h6 b1) ∧ vp_in (6 : Int32) (hp_n h6 b1) ∧ ∀ h7 : AH, h7 = up_I h6 b1 ((6 : Int32)).toNatClampNeg ((hp_I h6 b1 (6 : Int32).toNatClampNeg) + x7) → vp_in (7 : Int32) (hp_n h7 b1) ∧ vp_in (7 : Int32) (hp_n h7 b1) ∧ ∀ h8 : AH, h8 = up_I h7 b1 ((7 : Int32)).toNatClampNeg ((hp_I h7 b1 (7 : Int32).toNatClampNeg) + x8) → Q h8) ∧ (¬ (64 : Int32) ≤ x9 → m_M_turned (fun v1 h9 => fx_ext h h9 → m_M_turned (fun v2 h10 => fx_ext h9 h10 → m_M_turned (fun v3 h11 => fx_ext h10 h11 → hp_k h11 r0 = 13 ∧ ∃ b2, hp_R h11 r0 50 = some b2 ∧ lk (hp_k h11 b2) ∧ vp_in x9 (hp_n h11 b2) ∧ ∃ b3, hp_R h11 r0 52 = some b3 ∧ ik (hp_k h11 b3) ∧ vp_in x9 (hp_n h11 b3) ∧ ∀ v4 : Int32, v4 = ((((x8 + ((v1 ^^^ v2) ^^^ v3)) + ((x5 &&& x6) ^^^ ((x5 ^^^ (-1 : Int32)) &&& x7))) + (((sh_lu (hp_L h11 b2 x9.toNatClampNeg) (32 : Int32))).toInt32)) + (hp_I h11 b3 x9.toNatClampNeg)) → m_M_turned (fun v5 h12 => fx_ext h11 h12 → m_M_turned (fun v6 h13 => fx_ext h12 h13 → m_M_turned (fun v7 h14 => fx_ext h13 h14 → ∀ v8 : Int32, v8 = (((v5 ^^^ v6) ^^^ v7) + (((x1 &&& x2) ^^^ (x1 &&& x3)) ^^^ (x2 &&& x3))) → ∀ v9 : Int32, v9 = (x4 + v4) → ∀ v10 : Int32, v10 = (v4 + v8) → ∀ v11 : Int32, v11 = (x9 + (1 : Int32)) → X162 (v10, x1, x2, x3, v9, x5, x6, x7, v11, h14)) x1 (22 : Int32) h13) x1 (13 : Int32) h12) x1 (2 : Int32) h11) x5 (25 : Int32) h10) x5 (11 : Int32) h9) x5 (6 : Int32) h)
def m_M_over_162 (Q : AH → Prop) (r0 : Nat) (x1 : Int32) (x2 : Int32) (x3 : Int32) (x4 : Int32) (x5 : Int32) (x6 : Int32) (x7 : Int32) (x8 : Int32) (x9 : Int32) (h : AH) : Prop := fx_loop (fun (X162 : Int32 × Int32 × Int32 × Int32 × Int32 × Int32 × Int32 × Int32 × Int32 × AH → Prop) (st : Int32 × Int32 × Int32 × Int32 × Int32 × Int32 × Int32 × Int32 × Int32 × AH) => m_M_over_162_b Q X162 r0 st.1 st.2.1 st.2.2.1 st.2.2.2.1 st.2.2.2.2.1 st.2.2.2.2.2.1 st.2.2.2.2.2.2.1 st.2.2.2.2.2.2.2.1 st.2.2.2.2.2.2.2.2.1 st.2.2.2.2.2.2.2.2.2) (x1, x2, x3, x4, x5, x6, x7, x8, x9, h)
def m_M_over_3_b (Q : AH → Prop) (X3 : Int32 × AH → Prop) (r0 : Nat) (x1 : Int32) (h : AH) : Prop := ((64 : Int32) ≤ x1 → hp_k h r0 = 13 ∧ ∃ b1, hp_R h r0 53 = some b1 ∧ ik (hp_k h b1) ∧ vp_in (0 : Int32) (hp_n h b1) ∧ ∀ v1 : Int32, v1 = (hp_I h b1 (0 : Int32).toNatClampNeg) → vp_in (1 : Int32) (hp_n h b1) ∧ ∀ v2 : Int32, v2 = (hp_I h b1 (1 : Int32).toNatClampNeg) → vp_in (2 : Int32) (hp_n h b1) ∧ ∀ v3 : Int32, v3 = (hp_I h b1 (2 : Int32).toNatClampNeg) → vp_in (3 : Int32) (hp_n h b1) ∧ ∀ v4 : Int32, v4 = (hp_I h b1 (3 : Int32).toNatClampNeg) → vp_in (4 : Int32) (hp_n h b1) ∧ ∀ v5 : Int32, v5 = (hp_I h b1 (4 : Int32).toNatClampNeg) → vp_in (5 : Int32) (hp_n h b1) ∧ ∀ v6 : Int32, v6 = (hp_I h b1 (5 : Int32).toNatClampNeg) → vp_in (6 : Int32) (hp_n h b1) ∧ ∀ v7 : Int32, v7 = (hp_I h b1 (6 : Int32).toNatClampNeg) → vp_in (7 : Int32) (hp_n h b1) ∧ ∀ v8 : Int32, v8 = (hp_I h b1 (7 : Int32).toNatClampNeg) → m_M_over_162 Q r0 v1 v2 v3 v4 v5 v6 v7 v8 (0 : Int32) h) ∧ (¬ (64 : Int32) ≤ x1 → hp_k h r0 = 13 ∧ ∃ b2, hp_R h r0 52 = some b2 ∧ ik (hp_k h b2) ∧ vp_in (x1 - (15 : Int32)) (hp_n h b2) ∧ ∀ v9 : Int32, v9 = (hp_I h b2 ((x1 - (15 : Int32))).toNatClampNeg) → vp_in (x1 - (2 : Int32)) (hp_n h b2) ∧ ∀ v10 : Int32, v10 = (hp_I h b2 ((x1 - (2 : Int32))).toNatClampNeg) → vp_in (x1 - (16 : Int32)) (hp_n h b2) ∧ m_M_turned (fun v11 h1 => fx_ext h h1 → m_M_turned (fun v12 h2 => fx_ext h1 h2 → ∃ b3, hp_R h2 r0 52 = some b3 ∧ ik (hp_k h2 b3) ∧ vp_in (x1 - (7 : Int32)) (hp_n h2 b3) ∧ m_M_turned (fun v13 h3 => fx_ext h2 h3 → m_M_turned (fun v14 h4 => fx_ext h3 h4 → hp_k h4 b2 = 102 ∧ vp_in x1 (hp_n h4 b2) ∧ ∀ h5 : AH, h5 = up_I h4 b2 (x1).toNatClampNeg ((((hp_I h b2 ((x1 - (16 : Int32))).toNatClampNeg) + ((v11 ^^^ v12) ^^^ (sh_iu v9 (3 : Int32)))) + (hp_I h2 b3 ((x1 - (7 : Int32))).toNatClampNeg)) + ((v13 ^^^ v14) ^^^ (sh_iu v10 (10 : Int32)))) → ∀ v15 : Int32, v15 = (x1 + (1 : Int32)) → X3 (v15, h5)) v10 (19 : Int32) h3) v10 (17 : Int32) h2) v9 (18 : Int32) h1) v9 (7 : Int32) h)
def m_M_over_3 (Q : AH → Prop) (r0 : Nat) (x1 : Int32) (h : AH) : Prop := fx_loop (fun (X3 : Int32 × AH → Prop) (st : Int32 × AH) => m_M_over_3_b Q X3 r0 st.1 st.2) (x1, h)
def m_M_over (Q : AH → Prop) (r0 : Nat) (h : AH) : Prop := m_M_over_3 Q r0 (16 : Int32) h
theorem b_M_over_162 {p : Program} {l : Launch} {e : Env} {R : Room} {s : State} {m : MethodId} {args : Array Value} {below : List Frame} {meth : Method} {c : Code} {D : DD} {h0 : AH} {Q : AH → Prop} (C : fx_CX D y_M_over prog_15_method_12_code 12 1 17 (none) [] h0 p R s m meth c) (hl : l.flags = flags0) (r0 : Nat) (x1 : Int32) (x2 : Int32) (x3 : Int32) (x4 : Int32) (x5 : Int32) (x6 : Int32) (x7 : Int32) (x8 : Int32) (x9 : Int32) (h : AH) (hw : m_M_over_162 Q r0 x1 x2 x3 x4 x5 x6 x7 x8 x9 h) : ∀ (ls : Array Slot) (H : Heap) (locs : List Loc) (cells slots : Nat), lv_has ls 12 [(0, .ref r0), (1, .int x1), (2, .int x2), (3, .int x3), (4, .int x4), (5, .int x5), (6, .int x6), (7, .int x7), (8, .int x8), (9, .int x9)] → fx_F D h0 h H locs cells slots → W p l e R s m args below meth c H locs cells slots (fx_Z D below s h0 (fx_oV Q fx_no)) (F0 m 162 ls []) := by
  refine fx_loop.use hw (fun st => ∀ (ls : Array Slot) (H : Heap) (locs : List Loc) (cells slots : Nat), lv_has ls 12 [(0, .ref r0), (1, .int st.1), (2, .int st.2.1), (3, .int st.2.2.1), (4, .int st.2.2.2.1), (5, .int st.2.2.2.2.1), (6, .int st.2.2.2.2.2.1), (7, .int st.2.2.2.2.2.2.1), (8, .int st.2.2.2.2.2.2.2.1), (9, .int st.2.2.2.2.2.2.2.2.1)] → fx_F D h0 st.2.2.2.2.2.2.2.2.2 H locs cells slots → W p l e R s m args below meth c H locs cells slots (fx_Z D below s h0 (fx_oV Q fx_no)) (F0 m 162 ls [])) (fun X162 st hX162 hw => ?_)
  obtain ⟨x1, x2, x3, x4, x5, x6, x7, x8, x9, h⟩ := st
  replace hw : m_M_over_162_b Q X162 r0 x1 x2 x3 x4 x5 x6 x7 x8 x9 h := hw
  unfold m_M_over_162_b at hw
  intro ls H locs cells slots hv F
  refine lv_iload C.ex C.by d_M_over_162 (lv_at hv 9 rfl) ?_
  refine lv_bipush (v := (64 : Int32)) C.ex C.by d_M_over_164 (by decide) ?_
  refine lv_icmp_ge C.ex C.by d_M_over_166 rfl (fun hc => ?_) (fun hc => ?_)
  · replace hw := hw.1 hc
    refine lv_aload_n C.ex C.by d_M_over_302 rfl (lv_at hv 0 rfl) ?_
    obtain ⟨hk1, hw⟩ := hw
    obtain ⟨b1, hb1, hw⟩ := hw
    refine fx_getR C F lf_M_68 hk1 rfl hb1 d_M_over_303 ?_
    refine lv_iconst (v := (0 : Int32)) C.ex C.by d_M_over_306 (by decide) ?_
    refine lv_dup2_11 C.ex C.by d_M_over_307 rfl rfl ?_
    obtain ⟨hk2, hw⟩ := hw
    obtain ⟨hi1, hw⟩ := hw
    refine fx_iald C F hk2 hi1 d_M_over_308 ?_
    refine lv_iload_n C.ex C.by d_M_over_309 rfl (lv_at hv 1 rfl) ?_
    refine lv_iadd C.ex C.by d_M_over_310 ?_
    obtain ⟨hk3, hw⟩ := hw
    obtain ⟨hi2, hw⟩ := hw
    let h1 : AH := up_I h b1 ((0 : Int32)).toNatClampNeg ((hp_I h b1 (0 : Int32).toNatClampNeg) + x1)
    replace hw := hw h1 rfl
    refine fx_iast C F hk3 hi2 d_M_over_311 (fun H locs (F : fx_F D h0 h1 H locs _ _) => ?_)
    refine lv_aload_n C.ex C.by d_M_over_312 rfl (lv_at hv 0 rfl) ?_
    refine fx_getR C F lf_M_68 hk1 rfl hb1 d_M_over_313 ?_
    refine lv_iconst (v := (1 : Int32)) C.ex C.by d_M_over_316 (by decide) ?_
    refine lv_dup2_11 C.ex C.by d_M_over_317 rfl rfl ?_
    obtain ⟨hi3, hw⟩ := hw
    refine fx_iald C F (Or.inl hk3) hi3 d_M_over_318 ?_
    refine lv_iload_n C.ex C.by d_M_over_319 rfl (lv_at hv 2 rfl) ?_
    refine lv_iadd C.ex C.by d_M_over_320 ?_
    obtain ⟨hi4, hw⟩ := hw
    let h2 : AH := up_I h1 b1 ((1 : Int32)).toNatClampNeg ((hp_I h1 b1 (1 : Int32).toNatClampNeg) + x2)
    replace hw := hw h2 rfl
    refine fx_iast C F hk3 hi4 d_M_over_321 (fun H locs (F : fx_F D h0 h2 H locs _ _) => ?_)
    refine lv_aload_n C.ex C.by d_M_over_322 rfl (lv_at hv 0 rfl) ?_
    refine fx_getR C F lf_M_68 hk1 rfl hb1 d_M_over_323 ?_
    refine lv_iconst (v := (2 : Int32)) C.ex C.by d_M_over_326 (by decide) ?_
    refine lv_dup2_11 C.ex C.by d_M_over_327 rfl rfl ?_
    obtain ⟨hi5, hw⟩ := hw
    refine fx_iald C F (Or.inl hk3) hi5 d_M_over_328 ?_
    refine lv_iload_n C.ex C.by d_M_over_329 rfl (lv_at hv 3 rfl) ?_
    refine lv_iadd C.ex C.by d_M_over_330 ?_
    obtain ⟨hi6, hw⟩ := hw
    let h3 : AH := up_I h2 b1 ((2 : Int32)).toNatClampNeg ((hp_I h2 b1 (2 : Int32).toNatClampNeg) + x3)
    replace hw := hw h3 rfl
    refine fx_iast C F hk3 hi6 d_M_over_331 (fun H locs (F : fx_F D h0 h3 H locs _ _) => ?_)
    refine lv_aload_n C.ex C.by d_M_over_332 rfl (lv_at hv 0 rfl) ?_
    refine fx_getR C F lf_M_68 hk1 rfl hb1 d_M_over_333 ?_
    refine lv_iconst (v := (3 : Int32)) C.ex C.by d_M_over_336 (by decide) ?_
    refine lv_dup2_11 C.ex C.by d_M_over_337 rfl rfl ?_
    obtain ⟨hi7, hw⟩ := hw
    refine fx_iald C F (Or.inl hk3) hi7 d_M_over_338 ?_
    refine lv_iload C.ex C.by d_M_over_339 (lv_at hv 4 rfl) ?_
    refine lv_iadd C.ex C.by d_M_over_341 ?_
    obtain ⟨hi8, hw⟩ := hw
    let h4 : AH := up_I h3 b1 ((3 : Int32)).toNatClampNeg ((hp_I h3 b1 (3 : Int32).toNatClampNeg) + x4)
    replace hw := hw h4 rfl
    refine fx_iast C F hk3 hi8 d_M_over_342 (fun H locs (F : fx_F D h0 h4 H locs _ _) => ?_)
    refine lv_aload_n C.ex C.by d_M_over_343 rfl (lv_at hv 0 rfl) ?_
    refine fx_getR C F lf_M_68 hk1 rfl hb1 d_M_over_344 ?_
    refine lv_iconst (v := (4 : Int32)) C.ex C.by d_M_over_347 (by decide) ?_
    refine lv_dup2_11 C.ex C.by d_M_over_348 rfl rfl ?_
    obtain ⟨hi9, hw⟩ := hw
    refine fx_iald C F (Or.inl hk3) hi9 d_M_over_349 ?_
    refine lv_iload C.ex C.by d_M_over_350 (lv_at hv 5 rfl) ?_
    refine lv_iadd C.ex C.by d_M_over_352 ?_
    obtain ⟨hi10, hw⟩ := hw
    let h5 : AH := up_I h4 b1 ((4 : Int32)).toNatClampNeg ((hp_I h4 b1 (4 : Int32).toNatClampNeg) + x5)
    replace hw := hw h5 rfl
    refine fx_iast C F hk3 hi10 d_M_over_353 (fun H locs (F : fx_F D h0 h5 H locs _ _) => ?_)
    refine lv_aload_n C.ex C.by d_M_over_354 rfl (lv_at hv 0 rfl) ?_
    refine fx_getR C F lf_M_68 hk1 rfl hb1 d_M_over_355 ?_
    refine lv_iconst (v := (5 : Int32)) C.ex C.by d_M_over_358 (by decide) ?_
    refine lv_dup2_11 C.ex C.by d_M_over_359 rfl rfl ?_
    obtain ⟨hi11, hw⟩ := hw
    refine fx_iald C F (Or.inl hk3) hi11 d_M_over_360 ?_
    refine lv_iload C.ex C.by d_M_over_361 (lv_at hv 6 rfl) ?_
    refine lv_iadd C.ex C.by d_M_over_363 ?_
    obtain ⟨hi12, hw⟩ := hw
    let h6 : AH := up_I h5 b1 ((5 : Int32)).toNatClampNeg ((hp_I h5 b1 (5 : Int32).toNatClampNeg) + x6)
    replace hw := hw h6 rfl
    refine fx_iast C F hk3 hi12 d_M_over_364 (fun H locs (F : fx_F D h0 h6 H locs _ _) => ?_)
    refine lv_aload_n C.ex C.by d_M_over_365 rfl (lv_at hv 0 rfl) ?_
    refine fx_getR C F lf_M_68 hk1 rfl hb1 d_M_over_366 ?_
    refine lv_bipush (v := (6 : Int32)) C.ex C.by d_M_over_369 (by decide) ?_
    refine lv_dup2_11 C.ex C.by d_M_over_371 rfl rfl ?_
    obtain ⟨hi13, hw⟩ := hw
    refine fx_iald C F (Or.inl hk3) hi13 d_M_over_372 ?_
    refine lv_iload C.ex C.by d_M_over_373 (lv_at hv 7 rfl) ?_
    refine lv_iadd C.ex C.by d_M_over_375 ?_
    obtain ⟨hi14, hw⟩ := hw
    let h7 : AH := up_I h6 b1 ((6 : Int32)).toNatClampNeg ((hp_I h6 b1 (6 : Int32).toNatClampNeg) + x7)
    replace hw := hw h7 rfl
    refine fx_iast C F hk3 hi14 d_M_over_376 (fun H locs (F : fx_F D h0 h7 H locs _ _) => ?_)
    refine lv_aload_n C.ex C.by d_M_over_377 rfl (lv_at hv 0 rfl) ?_
    refine fx_getR C F lf_M_68 hk1 rfl hb1 d_M_over_378 ?_
    refine lv_bipush (v := (7 : Int32)) C.ex C.by d_M_over_381 (by decide) ?_
    refine lv_dup2_11 C.ex C.by d_M_over_383 rfl rfl ?_
    obtain ⟨hi15, hw⟩ := hw
    refine fx_iald C F (Or.inl hk3) hi15 d_M_over_384 ?_
    refine lv_iload C.ex C.by d_M_over_385 (lv_at hv 8 rfl) ?_
    refine lv_iadd C.ex C.by d_M_over_387 ?_
    obtain ⟨hi16, hw⟩ := hw
    let h8 : AH := up_I h7 b1 ((7 : Int32)).toNatClampNeg ((hp_I h7 b1 (7 : Int32).toNatClampNeg) + x8)
    replace hw := hw h8 rfl
    refine fx_iast C F hk3 hi16 d_M_over_388 (fun H locs (F : fx_F D h0 h8 H locs _ _) => ?_)
    exact fx_vret C F d_M_over_389 (Or.inl ⟨rfl, hw⟩)
  · replace hw := hw.2 hc
    refine lv_iload C.ex C.by d_M_over_169 (lv_at hv 8 rfl) ?_
    refine lv_iload C.ex C.by d_M_over_171 (lv_at hv 5 rfl) ?_
    refine lv_bipush (v := (6 : Int32)) C.ex C.by d_M_over_173 (by decide) ?_
    refine fx_callI C F (c_M_turned hl hw) hm_M_turned hi_M_turned hv.1 (by decide) (Nat.le_of_ble_eq_true rfl) (iv_M_turned C F lm_M_113 d_M_over_175) (fx_out0 _) fx_eno (fun v1 h9 H locs cells slots hw hx1 F => ?_)
    replace hw := hw hx1
    refine lv_iload C.ex C.by d_M_over_178 (lv_at hv 5 rfl) ?_
    refine lv_bipush (v := (11 : Int32)) C.ex C.by d_M_over_180 (by decide) ?_
    refine fx_callI C F (c_M_turned hl hw) hm_M_turned hi_M_turned hv.1 (by decide) (Nat.le_of_ble_eq_true rfl) (iv_M_turned C F lm_M_113 d_M_over_182) (fx_out0 _) fx_eno (fun v2 h10 H locs cells slots hw hx2 F => ?_)
    replace hw := hw hx2
    refine lv_ixor C.ex C.by d_M_over_185 ?_
    refine lv_iload C.ex C.by d_M_over_186 (lv_at hv 5 rfl) ?_
    refine lv_bipush (v := (25 : Int32)) C.ex C.by d_M_over_188 (by decide) ?_
    refine fx_callI C F (c_M_turned hl hw) hm_M_turned hi_M_turned hv.1 (by decide) (Nat.le_of_ble_eq_true rfl) (iv_M_turned C F lm_M_113 d_M_over_190) (fx_out0 _) fx_eno (fun v3 h11 H locs cells slots hw hx3 F => ?_)
    replace hw := hw hx3
    refine lv_ixor C.ex C.by d_M_over_193 ?_
    refine lv_iadd C.ex C.by d_M_over_194 ?_
    refine lv_iload C.ex C.by d_M_over_195 (lv_at hv 5 rfl) ?_
    refine lv_iload C.ex C.by d_M_over_197 (lv_at hv 6 rfl) ?_
    refine lv_iand C.ex C.by d_M_over_199 ?_
    refine lv_iload C.ex C.by d_M_over_200 (lv_at hv 5 rfl) ?_
    refine lv_iconst (v := (-1 : Int32)) C.ex C.by d_M_over_202 (by decide) ?_
    refine lv_ixor C.ex C.by d_M_over_203 ?_
    refine lv_iload C.ex C.by d_M_over_204 (lv_at hv 7 rfl) ?_
    refine lv_iand C.ex C.by d_M_over_206 ?_
    refine lv_ixor C.ex C.by d_M_over_207 ?_
    refine lv_iadd C.ex C.by d_M_over_208 ?_
    refine lv_aload_n C.ex C.by d_M_over_209 rfl (lv_at hv 0 rfl) ?_
    obtain ⟨hk4, hw⟩ := hw
    obtain ⟨b2, hb2, hw⟩ := hw
    refine fx_getR C F lf_M_58 hk4 rfl hb2 d_M_over_210 ?_
    refine lv_iload C.ex C.by d_M_over_213 (lv_at hv 9 rfl) ?_
    obtain ⟨hk5, hw⟩ := hw
    obtain ⟨hi17, hw⟩ := hw
    refine fx_lald C F hk5 hi17 d_M_over_215 ?_
    refine lv_bipush (v := (32 : Int32)) C.ex C.by d_M_over_216 (by decide) ?_
    refine lv_lushr (v := (sh_lu (hp_L h11 b2 x9.toNatClampNeg) (32 : Int32))) C.ex C.by d_M_over_218 rfl ?_
    refine lv_l2i (v := (((sh_lu (hp_L h11 b2 x9.toNatClampNeg) (32 : Int32))).toInt32)) C.ex C.by d_M_over_219 rfl ?_
    refine lv_iadd C.ex C.by d_M_over_220 ?_
    refine lv_aload_n C.ex C.by d_M_over_221 rfl (lv_at hv 0 rfl) ?_
    obtain ⟨b3, hb3, hw⟩ := hw
    refine fx_getR C F lf_M_65 hk4 rfl hb3 d_M_over_222 ?_
    refine lv_iload C.ex C.by d_M_over_225 (lv_at hv 9 rfl) ?_
    obtain ⟨hk6, hw⟩ := hw
    obtain ⟨hi18, hw⟩ := hw
    refine fx_iald C F hk6 hi18 d_M_over_227 ?_
    refine lv_iadd C.ex C.by d_M_over_228 ?_
    let v4 : Int32 := ((((x8 + ((v1 ^^^ v2) ^^^ v3)) + ((x5 &&& x6) ^^^ ((x5 ^^^ (-1 : Int32)) &&& x7))) + (((sh_lu (hp_L h11 b2 x9.toNatClampNeg) (32 : Int32))).toInt32)) + (hp_I h11 b3 x9.toNatClampNeg))
    replace hw := hw v4 rfl
    refine lv_istore (lv' := [(10, .int v4), (0, .ref r0), (1, .int x1), (2, .int x2), (3, .int x3), (4, .int x4), (5, .int x5), (6, .int x6), (7, .int x7), (8, .int x8), (9, .int x9)]) C.ex C.by d_M_over_229 hv (by decide) rfl (fun ls hv => ?_)
    refine lv_iload_n C.ex C.by d_M_over_231 rfl (lv_at hv 2 rfl) ?_
    refine lv_iconst (v := (2 : Int32)) C.ex C.by d_M_over_232 (by decide) ?_
    refine fx_callI C F (c_M_turned hl hw) hm_M_turned hi_M_turned hv.1 (by decide) (Nat.le_of_ble_eq_true rfl) (iv_M_turned C F lm_M_113 d_M_over_233) (fx_out0 _) fx_eno (fun v5 h12 H locs cells slots hw hx4 F => ?_)
    replace hw := hw hx4
    have hk5 := (hx4).gl hk5
    have hk6 := (hx4).gi hk6
    have hk4 := (hx4).k hk4
    refine lv_iload_n C.ex C.by d_M_over_236 rfl (lv_at hv 2 rfl) ?_
    refine lv_bipush (v := (13 : Int32)) C.ex C.by d_M_over_237 (by decide) ?_
    refine fx_callI C F (c_M_turned hl hw) hm_M_turned hi_M_turned hv.1 (by decide) (Nat.le_of_ble_eq_true rfl) (iv_M_turned C F lm_M_113 d_M_over_239) (fx_out0 _) fx_eno (fun v6 h13 H locs cells slots hw hx5 F => ?_)
    replace hw := hw hx5
    have hk5 := (hx5).gl hk5
    have hk6 := (hx5).gi hk6
    have hk4 := (hx5).k hk4
    refine lv_ixor C.ex C.by d_M_over_242 ?_
    refine lv_iload_n C.ex C.by d_M_over_243 rfl (lv_at hv 2 rfl) ?_
    refine lv_bipush (v := (22 : Int32)) C.ex C.by d_M_over_244 (by decide) ?_
    refine fx_callI C F (c_M_turned hl hw) hm_M_turned hi_M_turned hv.1 (by decide) (Nat.le_of_ble_eq_true rfl) (iv_M_turned C F lm_M_113 d_M_over_246) (fx_out0 _) fx_eno (fun v7 h14 H locs cells slots hw hx6 F => ?_)
    replace hw := hw hx6
    have hk5 := (hx6).gl hk5
    have hk6 := (hx6).gi hk6
    have hk4 := (hx6).k hk4
    refine lv_ixor C.ex C.by d_M_over_249 ?_
    refine lv_iload_n C.ex C.by d_M_over_250 rfl (lv_at hv 2 rfl) ?_
    refine lv_iload_n C.ex C.by d_M_over_251 rfl (lv_at hv 3 rfl) ?_
    refine lv_iand C.ex C.by d_M_over_252 ?_
    refine lv_iload_n C.ex C.by d_M_over_253 rfl (lv_at hv 2 rfl) ?_
    refine lv_iload_n C.ex C.by d_M_over_254 rfl (lv_at hv 4 rfl) ?_
    refine lv_iand C.ex C.by d_M_over_255 ?_
    refine lv_ixor C.ex C.by d_M_over_256 ?_
    refine lv_iload_n C.ex C.by d_M_over_257 rfl (lv_at hv 3 rfl) ?_
    refine lv_iload_n C.ex C.by d_M_over_258 rfl (lv_at hv 4 rfl) ?_
    refine lv_iand C.ex C.by d_M_over_259 ?_
    refine lv_ixor C.ex C.by d_M_over_260 ?_
    refine lv_iadd C.ex C.by d_M_over_261 ?_
    let v8 : Int32 := (((v5 ^^^ v6) ^^^ v7) + (((x1 &&& x2) ^^^ (x1 &&& x3)) ^^^ (x2 &&& x3)))
    replace hw := hw v8 rfl
    refine lv_istore (lv' := [(11, .int v8), (10, .int v4), (0, .ref r0), (1, .int x1), (2, .int x2), (3, .int x3), (4, .int x4), (5, .int x5), (6, .int x6), (7, .int x7), (8, .int x8), (9, .int x9)]) C.ex C.by d_M_over_262 hv (by decide) rfl (fun ls hv => ?_)
    refine lv_iload C.ex C.by d_M_over_264 (lv_at hv 9 rfl) ?_
    refine lv_istore (lv' := [(8, .int x7), (11, .int v8), (10, .int v4), (0, .ref r0), (1, .int x1), (2, .int x2), (3, .int x3), (4, .int x4), (5, .int x5), (6, .int x6), (7, .int x7), (9, .int x9)]) C.ex C.by d_M_over_266 hv (by decide) rfl (fun ls hv => ?_)
    refine lv_iload C.ex C.by d_M_over_268 (lv_at hv 9 rfl) ?_
    refine lv_istore (lv' := [(7, .int x6), (8, .int x7), (11, .int v8), (10, .int v4), (0, .ref r0), (1, .int x1), (2, .int x2), (3, .int x3), (4, .int x4), (5, .int x5), (6, .int x6), (9, .int x9)]) C.ex C.by d_M_over_270 hv (by decide) rfl (fun ls hv => ?_)
    refine lv_iload C.ex C.by d_M_over_272 (lv_at hv 9 rfl) ?_
    refine lv_istore (lv' := [(6, .int x5), (7, .int x6), (8, .int x7), (11, .int v8), (10, .int v4), (0, .ref r0), (1, .int x1), (2, .int x2), (3, .int x3), (4, .int x4), (5, .int x5), (9, .int x9)]) C.ex C.by d_M_over_274 hv (by decide) rfl (fun ls hv => ?_)
    refine lv_iload C.ex C.by d_M_over_276 (lv_at hv 9 rfl) ?_
    refine lv_iload C.ex C.by d_M_over_278 (lv_at hv 4 rfl) ?_
    refine lv_iadd C.ex C.by d_M_over_280 ?_
    let v9 : Int32 := (x4 + v4)
    replace hw := hw v9 rfl
    refine lv_istore (lv' := [(5, .int v9), (6, .int x5), (7, .int x6), (8, .int x7), (11, .int v8), (10, .int v4), (0, .ref r0), (1, .int x1), (2, .int x2), (3, .int x3), (4, .int x4), (9, .int x9)]) C.ex C.by d_M_over_281 hv (by decide) rfl (fun ls hv => ?_)
    refine lv_iload_n C.ex C.by d_M_over_283 rfl (lv_at hv 9 rfl) ?_
    refine lv_istore (lv' := [(4, .int x3), (5, .int v9), (6, .int x5), (7, .int x6), (8, .int x7), (11, .int v8), (10, .int v4), (0, .ref r0), (1, .int x1), (2, .int x2), (3, .int x3), (9, .int x9)]) C.ex C.by d_M_over_284 hv (by decide) rfl (fun ls hv => ?_)
    refine lv_iload_n C.ex C.by d_M_over_286 rfl (lv_at hv 9 rfl) ?_
    refine lv_istore_n (lv' := [(3, .int x2), (4, .int x3), (5, .int v9), (6, .int x5), (7, .int x6), (8, .int x7), (11, .int v8), (10, .int v4), (0, .ref r0), (1, .int x1), (2, .int x2), (9, .int x9)]) C.ex C.by d_M_over_287 rfl hv (by decide) rfl (fun ls hv => ?_)
    refine lv_iload_n C.ex C.by d_M_over_288 rfl (lv_at hv 9 rfl) ?_
    refine lv_istore_n (lv' := [(2, .int x1), (3, .int x2), (4, .int x3), (5, .int v9), (6, .int x5), (7, .int x6), (8, .int x7), (11, .int v8), (10, .int v4), (0, .ref r0), (1, .int x1), (9, .int x9)]) C.ex C.by d_M_over_289 rfl hv (by decide) rfl (fun ls hv => ?_)
    refine lv_iload C.ex C.by d_M_over_290 (lv_at hv 8 rfl) ?_
    refine lv_iload C.ex C.by d_M_over_292 (lv_at hv 7 rfl) ?_
    refine lv_iadd C.ex C.by d_M_over_294 ?_
    let v10 : Int32 := (v4 + v8)
    replace hw := hw v10 rfl
    refine lv_istore_n (lv' := [(1, .int v10), (2, .int x1), (3, .int x2), (4, .int x3), (5, .int v9), (6, .int x5), (7, .int x6), (8, .int x7), (11, .int v8), (10, .int v4), (0, .ref r0), (9, .int x9)]) C.ex C.by d_M_over_295 rfl hv (by decide) rfl (fun ls hv => ?_)
    let v11 : Int32 := (x9 + (1 : Int32))
    replace hw := hw v11 rfl
    refine lv_iinc (v := v11) (k := 11) (lv' := [(9, .int v11), (1, .int v10), (2, .int x1), (3, .int x2), (4, .int x3), (5, .int v9), (6, .int x5), (7, .int x6), (8, .int x7), (11, .int v8), (10, .int v4), (0, .ref r0)]) C.ex C.by d_M_over_296 hv rfl (congrArg (fun z => x9 + z) (by decide)) (by decide) rfl (fun ls hv => ?_)
    refine lv_goto C.ex C.by d_M_over_299 rfl ?_
    exact hX162 _ hw _ _ _ _ _ (lv_sub hv [11, 1, 2, 3, 4, 5, 6, 7, 8, 0] rfl) F
theorem b_M_over_3 {p : Program} {l : Launch} {e : Env} {R : Room} {s : State} {m : MethodId} {args : Array Value} {below : List Frame} {meth : Method} {c : Code} {D : DD} {h0 : AH} {Q : AH → Prop} (C : fx_CX D y_M_over prog_15_method_12_code 12 1 17 (none) [] h0 p R s m meth c) (hl : l.flags = flags0) (r0 : Nat) (x1 : Int32) (h : AH) (hw : m_M_over_3 Q r0 x1 h) : ∀ (ls : Array Slot) (H : Heap) (locs : List Loc) (cells slots : Nat), lv_has ls 12 [(0, .ref r0), (1, .int x1)] → fx_F D h0 h H locs cells slots → W p l e R s m args below meth c H locs cells slots (fx_Z D below s h0 (fx_oV Q fx_no)) (F0 m 3 ls []) := by
  refine fx_loop.use hw (fun st => ∀ (ls : Array Slot) (H : Heap) (locs : List Loc) (cells slots : Nat), lv_has ls 12 [(0, .ref r0), (1, .int st.1)] → fx_F D h0 st.2 H locs cells slots → W p l e R s m args below meth c H locs cells slots (fx_Z D below s h0 (fx_oV Q fx_no)) (F0 m 3 ls [])) (fun X3 st hX3 hw => ?_)
  obtain ⟨x1, h⟩ := st
  replace hw : m_M_over_3_b Q X3 r0 x1 h := hw
  unfold m_M_over_3_b at hw
  intro ls H locs cells slots hv F
  refine lv_iload_n C.ex C.by d_M_over_3 rfl (lv_at hv 1 rfl) ?_
  refine lv_bipush (v := (64 : Int32)) C.ex C.by d_M_over_4 (by decide) ?_
  refine lv_icmp_ge C.ex C.by d_M_over_6 rfl (fun hc => ?_) (fun hc => ?_)
  · replace hw := hw.1 hc
    refine lv_aload_n C.ex C.by d_M_over_96 rfl (lv_at hv 0 rfl) ?_
    obtain ⟨hk1, hw⟩ := hw
    obtain ⟨b1, hb1, hw⟩ := hw
    refine fx_getR C F lf_M_68 hk1 rfl hb1 d_M_over_97 ?_
    refine lv_iconst (v := (0 : Int32)) C.ex C.by d_M_over_100 (by decide) ?_
    obtain ⟨hk2, hw⟩ := hw
    obtain ⟨hi1, hw⟩ := hw
    refine fx_iald C F hk2 hi1 d_M_over_101 ?_
    let v1 : Int32 := (hp_I h b1 (0 : Int32).toNatClampNeg)
    replace hw := hw v1 rfl
    refine lv_istore_n (lv' := [(1, .int v1), (0, .ref r0)]) C.ex C.by d_M_over_102 rfl hv (by decide) rfl (fun ls hv => ?_)
    refine lv_aload_n C.ex C.by d_M_over_103 rfl (lv_at hv 1 rfl) ?_
    refine fx_getR C F lf_M_68 hk1 rfl hb1 d_M_over_104 ?_
    refine lv_iconst (v := (1 : Int32)) C.ex C.by d_M_over_107 (by decide) ?_
    obtain ⟨hi2, hw⟩ := hw
    refine fx_iald C F hk2 hi2 d_M_over_108 ?_
    let v2 : Int32 := (hp_I h b1 (1 : Int32).toNatClampNeg)
    replace hw := hw v2 rfl
    refine lv_istore_n (lv' := [(2, .int v2), (1, .int v1), (0, .ref r0)]) C.ex C.by d_M_over_109 rfl hv (by decide) rfl (fun ls hv => ?_)
    refine lv_aload_n C.ex C.by d_M_over_110 rfl (lv_at hv 2 rfl) ?_
    refine fx_getR C F lf_M_68 hk1 rfl hb1 d_M_over_111 ?_
    refine lv_iconst (v := (2 : Int32)) C.ex C.by d_M_over_114 (by decide) ?_
    obtain ⟨hi3, hw⟩ := hw
    refine fx_iald C F hk2 hi3 d_M_over_115 ?_
    let v3 : Int32 := (hp_I h b1 (2 : Int32).toNatClampNeg)
    replace hw := hw v3 rfl
    refine lv_istore_n (lv' := [(3, .int v3), (2, .int v2), (1, .int v1), (0, .ref r0)]) C.ex C.by d_M_over_116 rfl hv (by decide) rfl (fun ls hv => ?_)
    refine lv_aload_n C.ex C.by d_M_over_117 rfl (lv_at hv 3 rfl) ?_
    refine fx_getR C F lf_M_68 hk1 rfl hb1 d_M_over_118 ?_
    refine lv_iconst (v := (3 : Int32)) C.ex C.by d_M_over_121 (by decide) ?_
    obtain ⟨hi4, hw⟩ := hw
    refine fx_iald C F hk2 hi4 d_M_over_122 ?_
    let v4 : Int32 := (hp_I h b1 (3 : Int32).toNatClampNeg)
    replace hw := hw v4 rfl
    refine lv_istore (lv' := [(4, .int v4), (3, .int v3), (2, .int v2), (1, .int v1), (0, .ref r0)]) C.ex C.by d_M_over_123 hv (by decide) rfl (fun ls hv => ?_)
    refine lv_aload_n C.ex C.by d_M_over_125 rfl (lv_at hv 4 rfl) ?_
    refine fx_getR C F lf_M_68 hk1 rfl hb1 d_M_over_126 ?_
    refine lv_iconst (v := (4 : Int32)) C.ex C.by d_M_over_129 (by decide) ?_
    obtain ⟨hi5, hw⟩ := hw
    refine fx_iald C F hk2 hi5 d_M_over_130 ?_
    let v5 : Int32 := (hp_I h b1 (4 : Int32).toNatClampNeg)
    replace hw := hw v5 rfl
    refine lv_istore (lv' := [(5, .int v5), (4, .int v4), (3, .int v3), (2, .int v2), (1, .int v1), (0, .ref r0)]) C.ex C.by d_M_over_131 hv (by decide) rfl (fun ls hv => ?_)
    refine lv_aload_n C.ex C.by d_M_over_133 rfl (lv_at hv 5 rfl) ?_
    refine fx_getR C F lf_M_68 hk1 rfl hb1 d_M_over_134 ?_
    refine lv_iconst (v := (5 : Int32)) C.ex C.by d_M_over_137 (by decide) ?_
    obtain ⟨hi6, hw⟩ := hw
    refine fx_iald C F hk2 hi6 d_M_over_138 ?_
    let v6 : Int32 := (hp_I h b1 (5 : Int32).toNatClampNeg)
    replace hw := hw v6 rfl
    refine lv_istore (lv' := [(6, .int v6), (5, .int v5), (4, .int v4), (3, .int v3), (2, .int v2), (1, .int v1), (0, .ref r0)]) C.ex C.by d_M_over_139 hv (by decide) rfl (fun ls hv => ?_)
    refine lv_aload_n C.ex C.by d_M_over_141 rfl (lv_at hv 6 rfl) ?_
    refine fx_getR C F lf_M_68 hk1 rfl hb1 d_M_over_142 ?_
    refine lv_bipush (v := (6 : Int32)) C.ex C.by d_M_over_145 (by decide) ?_
    obtain ⟨hi7, hw⟩ := hw
    refine fx_iald C F hk2 hi7 d_M_over_147 ?_
    let v7 : Int32 := (hp_I h b1 (6 : Int32).toNatClampNeg)
    replace hw := hw v7 rfl
    refine lv_istore (lv' := [(7, .int v7), (6, .int v6), (5, .int v5), (4, .int v4), (3, .int v3), (2, .int v2), (1, .int v1), (0, .ref r0)]) C.ex C.by d_M_over_148 hv (by decide) rfl (fun ls hv => ?_)
    refine lv_aload_n C.ex C.by d_M_over_150 rfl (lv_at hv 7 rfl) ?_
    refine fx_getR C F lf_M_68 hk1 rfl hb1 d_M_over_151 ?_
    refine lv_bipush (v := (7 : Int32)) C.ex C.by d_M_over_154 (by decide) ?_
    obtain ⟨hi8, hw⟩ := hw
    refine fx_iald C F hk2 hi8 d_M_over_156 ?_
    let v8 : Int32 := (hp_I h b1 (7 : Int32).toNatClampNeg)
    replace hw := hw v8 rfl
    refine lv_istore (lv' := [(8, .int v8), (7, .int v7), (6, .int v6), (5, .int v5), (4, .int v4), (3, .int v3), (2, .int v2), (1, .int v1), (0, .ref r0)]) C.ex C.by d_M_over_157 hv (by decide) rfl (fun ls hv => ?_)
    refine lv_iconst (v := (0 : Int32)) C.ex C.by d_M_over_159 (by decide) ?_
    refine lv_istore (lv' := [(9, .int (0 : Int32)), (8, .int v8), (7, .int v7), (6, .int v6), (5, .int v5), (4, .int v4), (3, .int v3), (2, .int v2), (1, .int v1), (0, .ref r0)]) C.ex C.by d_M_over_160 hv (by decide) rfl (fun ls hv => ?_)
    exact b_M_over_162 C hl _ _ _ _ _ _ _ _ _ _ _ hw _ _ _ _ _ (lv_sub hv [9, 8, 7, 6, 5, 4, 3, 2, 1, 0] rfl) F
  · replace hw := hw.2 hc
    refine lv_aload_n C.ex C.by d_M_over_9 rfl (lv_at hv 0 rfl) ?_
    obtain ⟨hk3, hw⟩ := hw
    obtain ⟨b2, hb2, hw⟩ := hw
    refine fx_getR C F lf_M_65 hk3 rfl hb2 d_M_over_10 ?_
    refine lv_iload_n C.ex C.by d_M_over_13 rfl (lv_at hv 1 rfl) ?_
    refine lv_bipush (v := (15 : Int32)) C.ex C.by d_M_over_14 (by decide) ?_
    refine lv_isub C.ex C.by d_M_over_16 ?_
    obtain ⟨hk4, hw⟩ := hw
    obtain ⟨hi9, hw⟩ := hw
    refine fx_iald C F hk4 hi9 d_M_over_17 ?_
    let v9 : Int32 := (hp_I h b2 ((x1 - (15 : Int32))).toNatClampNeg)
    replace hw := hw v9 rfl
    refine lv_istore_n (lv' := [(2, .int v9), (0, .ref r0), (1, .int x1)]) C.ex C.by d_M_over_18 rfl hv (by decide) rfl (fun ls hv => ?_)
    refine lv_aload_n C.ex C.by d_M_over_19 rfl (lv_at hv 1 rfl) ?_
    refine fx_getR C F lf_M_65 hk3 rfl hb2 d_M_over_20 ?_
    refine lv_iload_n C.ex C.by d_M_over_23 rfl (lv_at hv 2 rfl) ?_
    refine lv_iconst (v := (2 : Int32)) C.ex C.by d_M_over_24 (by decide) ?_
    refine lv_isub C.ex C.by d_M_over_25 ?_
    obtain ⟨hi10, hw⟩ := hw
    refine fx_iald C F hk4 hi10 d_M_over_26 ?_
    let v10 : Int32 := (hp_I h b2 ((x1 - (2 : Int32))).toNatClampNeg)
    replace hw := hw v10 rfl
    refine lv_istore_n (lv' := [(3, .int v10), (2, .int v9), (0, .ref r0), (1, .int x1)]) C.ex C.by d_M_over_27 rfl hv (by decide) rfl (fun ls hv => ?_)
    refine lv_aload_n C.ex C.by d_M_over_28 rfl (lv_at hv 2 rfl) ?_
    refine fx_getR C F lf_M_65 hk3 rfl hb2 d_M_over_29 ?_
    refine lv_iload_n C.ex C.by d_M_over_32 rfl (lv_at hv 3 rfl) ?_
    refine lv_aload_n C.ex C.by d_M_over_33 rfl (lv_at hv 2 rfl) ?_
    refine fx_getR C F lf_M_65 hk3 rfl hb2 d_M_over_34 ?_
    refine lv_iload_n C.ex C.by d_M_over_37 rfl (lv_at hv 3 rfl) ?_
    refine lv_bipush (v := (16 : Int32)) C.ex C.by d_M_over_38 (by decide) ?_
    refine lv_isub C.ex C.by d_M_over_40 ?_
    obtain ⟨hi11, hw⟩ := hw
    refine fx_iald C F hk4 hi11 d_M_over_41 ?_
    refine lv_iload_n C.ex C.by d_M_over_42 rfl (lv_at hv 1 rfl) ?_
    refine lv_bipush (v := (7 : Int32)) C.ex C.by d_M_over_43 (by decide) ?_
    refine fx_callI C F (c_M_turned hl hw) hm_M_turned hi_M_turned hv.1 (by decide) (Nat.le_of_ble_eq_true rfl) (iv_M_turned C F lm_M_113 d_M_over_45) (fx_out0 _) fx_eno (fun v11 h1 H locs cells slots hw hx1 F => ?_)
    replace hw := hw hx1
    have hk4 := (hx1).gi hk4
    have hk3 := (hx1).k hk3
    refine lv_iload_n C.ex C.by d_M_over_48 rfl (lv_at hv 1 rfl) ?_
    refine lv_bipush (v := (18 : Int32)) C.ex C.by d_M_over_49 (by decide) ?_
    refine fx_callI C F (c_M_turned hl hw) hm_M_turned hi_M_turned hv.1 (by decide) (Nat.le_of_ble_eq_true rfl) (iv_M_turned C F lm_M_113 d_M_over_51) (fx_out0 _) fx_eno (fun v12 h2 H locs cells slots hw hx2 F => ?_)
    replace hw := hw hx2
    have hk4 := (hx2).gi hk4
    have hk3 := (hx2).k hk3
    refine lv_ixor C.ex C.by d_M_over_54 ?_
    refine lv_iload_n C.ex C.by d_M_over_55 rfl (lv_at hv 1 rfl) ?_
    refine lv_iconst (v := (3 : Int32)) C.ex C.by d_M_over_56 (by decide) ?_
    refine lv_iushr (v := (sh_iu v9 (3 : Int32))) C.ex C.by d_M_over_57 rfl ?_
    refine lv_ixor C.ex C.by d_M_over_58 ?_
    refine lv_iadd C.ex C.by d_M_over_59 ?_
    refine lv_aload_n C.ex C.by d_M_over_60 rfl (lv_at hv 2 rfl) ?_
    obtain ⟨b3, hb3, hw⟩ := hw
    refine fx_getR C F lf_M_65 hk3 rfl hb3 d_M_over_61 ?_
    refine lv_iload_n C.ex C.by d_M_over_64 rfl (lv_at hv 3 rfl) ?_
    refine lv_bipush (v := (7 : Int32)) C.ex C.by d_M_over_65 (by decide) ?_
    refine lv_isub C.ex C.by d_M_over_67 ?_
    obtain ⟨hk5, hw⟩ := hw
    obtain ⟨hi12, hw⟩ := hw
    refine fx_iald C F hk5 hi12 d_M_over_68 ?_
    refine lv_iadd C.ex C.by d_M_over_69 ?_
    refine lv_iload_n C.ex C.by d_M_over_70 rfl (lv_at hv 0 rfl) ?_
    refine lv_bipush (v := (17 : Int32)) C.ex C.by d_M_over_71 (by decide) ?_
    refine fx_callI C F (c_M_turned hl hw) hm_M_turned hi_M_turned hv.1 (by decide) (Nat.le_of_ble_eq_true rfl) (iv_M_turned C F lm_M_113 d_M_over_73) (fx_out0 _) fx_eno (fun v13 h3 H locs cells slots hw hx3 F => ?_)
    replace hw := hw hx3
    have hk4 := (hx3).gi hk4
    have hk5 := (hx3).gi hk5
    have hk3 := (hx3).k hk3
    refine lv_iload_n C.ex C.by d_M_over_76 rfl (lv_at hv 0 rfl) ?_
    refine lv_bipush (v := (19 : Int32)) C.ex C.by d_M_over_77 (by decide) ?_
    refine fx_callI C F (c_M_turned hl hw) hm_M_turned hi_M_turned hv.1 (by decide) (Nat.le_of_ble_eq_true rfl) (iv_M_turned C F lm_M_113 d_M_over_79) (fx_out0 _) fx_eno (fun v14 h4 H locs cells slots hw hx4 F => ?_)
    replace hw := hw hx4
    have hk4 := (hx4).gi hk4
    have hk5 := (hx4).gi hk5
    have hk3 := (hx4).k hk3
    refine lv_ixor C.ex C.by d_M_over_82 ?_
    refine lv_iload_n C.ex C.by d_M_over_83 rfl (lv_at hv 0 rfl) ?_
    refine lv_bipush (v := (10 : Int32)) C.ex C.by d_M_over_84 (by decide) ?_
    refine lv_iushr (v := (sh_iu v10 (10 : Int32))) C.ex C.by d_M_over_86 rfl ?_
    refine lv_ixor C.ex C.by d_M_over_87 ?_
    refine lv_iadd C.ex C.by d_M_over_88 ?_
    obtain ⟨hk6, hw⟩ := hw
    obtain ⟨hi13, hw⟩ := hw
    let h5 : AH := up_I h4 b2 (x1).toNatClampNeg ((((hp_I h b2 ((x1 - (16 : Int32))).toNatClampNeg) + ((v11 ^^^ v12) ^^^ (sh_iu v9 (3 : Int32)))) + (hp_I h2 b3 ((x1 - (7 : Int32))).toNatClampNeg)) + ((v13 ^^^ v14) ^^^ (sh_iu v10 (10 : Int32))))
    replace hw := hw h5 rfl
    refine fx_iast C F hk6 hi13 d_M_over_89 (fun H locs (F : fx_F D h0 h5 H locs _ _) => ?_)
    let v15 : Int32 := (x1 + (1 : Int32))
    replace hw := hw v15 rfl
    refine lv_iinc (v := v15) (k := 3) (lv' := [(1, .int v15), (3, .int v10), (2, .int v9), (0, .ref r0)]) C.ex C.by d_M_over_90 hv rfl (congrArg (fun z => x1 + z) (by decide)) (by decide) rfl (fun ls hv => ?_)
    refine lv_goto C.ex C.by d_M_over_93 rfl ?_
    exact hX3 _ hw _ _ _ _ _ (lv_sub hv [3, 0] rfl) F
theorem b_M_over_0 {p : Program} {l : Launch} {e : Env} {R : Room} {s : State} {m : MethodId} {args : Array Value} {below : List Frame} {meth : Method} {c : Code} {D : DD} {h0 : AH} {Q : AH → Prop} (C : fx_CX D y_M_over prog_15_method_12_code 12 1 17 (none) [] h0 p R s m meth c) (hl : l.flags = flags0) (r0 : Nat) (h : AH) (hw : m_M_over Q r0 h) : ∀ (ls : Array Slot) (H : Heap) (locs : List Loc) (cells slots : Nat), lv_has ls 12 [(0, .ref r0)] → fx_F D h0 h H locs cells slots → W p l e R s m args below meth c H locs cells slots (fx_Z D below s h0 (fx_oV Q fx_no)) (F0 m 0 ls []) := by
  unfold m_M_over at hw
  intro ls H locs cells slots hv F
  refine lv_bipush (v := (16 : Int32)) C.ex C.by d_M_over_0 (by decide) ?_
  refine lv_istore_n (lv' := [(1, .int (16 : Int32)), (0, .ref r0)]) C.ex C.by d_M_over_2 rfl hv (by decide) rfl (fun ls hv => ?_)
  exact b_M_over_3 C hl _ _ _ hw _ _ _ _ _ (lv_sub hv [1, 0] rfl) F
theorem hm_M_over : fx_hd y_M_over prog_15_method_12_code 12 (none) [] ∈ tables_1 := (fx_m7 (List.mem_of_getElem? (i := 141) rfl))
theorem hi_M_over : Cond.initialized y_M_over.cls ∈ tables_1 := (fx_m1 (List.mem_of_getElem? (i := 15) rfl))
theorem c_M_over {l : Launch} (hl : l.flags = flags0) {D : DD} {Q : AH → Prop} {r0 : Nat} {h : AH} (hw : m_M_over Q r0 h) : fx_Mt l D y_M_over (fx_hd y_M_over prog_15_method_12_code 12 (none) []) 1 17 [.ref r0] h (fx_oV Q fx_no) := by
  refine fx_ofW (plainFor_of_name (by decide)) (fun p e s m below meth c C F => ?_)
  have hv := lv_entry ([.ref r0]) (n := 12) (Nat.le_of_ble_eq_true rfl)
  rw [lg_entry_eq]
  generalize (lg_sl ([.ref r0]) ++ List.replicate (12 - (lg_sl ([.ref r0])).length) Slot.unset).toArray = ls at hv ⊢
  have hv : lv_has ls 12 [(0, .ref r0)] := hv
  exact b_M_over_0 C hl _ _ hw _ _ _ _ _ hv F
/-! ChainJudgeModel.hash([BI)V: frames 2, words 40 -/
abbrev y_M_hash : MethodName := ⟨"ChainJudgeModel", "hash", "([BI)V"⟩
theorem lm_M_106 : Cond.methodLink "ChainJudgeModel" 106 y_M_padded ∈ tables_1 ∨ ∃ host, Cond.methodLinkNest "ChainJudgeModel" 106 y_M_padded host ∈ tables_1 := Or.inl (fx_m7 (List.mem_of_getElem? (i := 134) rfl))
theorem lm_M_110 : Cond.methodLink "ChainJudgeModel" 110 y_M_over ∈ tables_1 ∨ ∃ host, Cond.methodLinkNest "ChainJudgeModel" 110 y_M_over host ∈ tables_1 := Or.inl (fx_m7 (List.mem_of_getElem? (i := 138) rfl))
section
variable {p : Program} {l : Launch} {e : Env} {R : Room} {s : State} {m : MethodId} {args : Array Value} {below : List Frame} {meth : Method} {c : Code} {H : Heap} {locs : List Loc} {cells slots : Nat}
variable {D : DD} {y : MethodName} {cc : ByteArray} {nL kf kw : Nat} {ret : Option FieldType} {hh : List (Nat × Nat × Nat × Nat)} {h0 h : AH} {pc : Nat} {ls : Array Slot} {rest : List Value} {b idx : Nat}
theorem iv_M_padded {r0 : Nat} {x1 : Int32} {x2 : Int32} {x3 : Int32} (C : fx_CX D y cc nL kf kw ret hh h0 p R s m meth c) (F : fx_F D h0 h H locs cells slots) (hw1 : Cond.methodLink y.cls idx y_M_padded ∈ tables_1 ∨ ∃ host, Cond.methodLinkNest y.cls idx y_M_padded host ∈ tables_1) (hd : decode cc pc = .ok (.invokestatic idx, 3)) : fx_IV p l e R s m args below meth c H locs cells slots (F0 m pc ls (.int x3 :: .int x2 :: .int x1 :: .ref r0 :: rest)) rest y_M_padded [.ref r0, .int x1, .int x2, .int x3] 3 := fun T hT X => fx_invS (As := [.ref r0, .int x1, .int x2, .int x3]) C X hw1 (fx_m7 (List.mem_of_getElem? (i := 135) rfl)) hi_M_padded hm_M_padded ⟨by decide, by decide⟩ rfl (n := 4) (by decide +kernel) rfl rfl hd
theorem iv_M_over (C : fx_CX D y cc nL kf kw ret hh h0 p R s m meth c) (F : fx_F D h0 h H locs cells slots) (hw1 : Cond.methodLink y.cls idx y_M_over ∈ tables_1 ∨ ∃ host, Cond.methodLinkNest y.cls idx y_M_over host ∈ tables_1) (hk : hp_k h b = 13) (hd : decode cc pc = .ok (.invokevirtual idx, 3)) : fx_IV p l e R s m args below meth c H locs cells slots (F0 m pc ls (.ref b :: rest)) rest y_M_over [.ref b] 3 := fun T hT X => fx_invV (As := []) (Cn := "ChainJudgeModel") C X hw1 (fx_m7 (List.mem_of_getElem? (i := 140) rfl)) (fx_selP C ⟨by decide, by decide⟩ (fx_m5 (List.mem_of_getElem? (i := 217) rfl)) (fx_m7 (List.mem_of_getElem? (i := 139) rfl)) (fx_m7 (List.mem_of_getElem? (i := 140) rfl))) hm_M_over ⟨by decide, by decide⟩ (by rw [hT]; exact fx_clsO (ci := 12) (r := ("ChainJudgeModel", fx_T12, 57)) C F rfl (by decide) hk) rfl (n := 0) (by decide +kernel) rfl rfl hd
end
def dl_M_hash : List (Nat × Instr × Nat) := [(0, .iload_n 2, 1), (1, .bipush 9, 2), (3, .iadd, 1), (4, .bipush 63, 2), (6, .iadd, 1), (7, .bipush 64, 2), (9, .idiv, 1), (10, .bipush 64, 2), (12, .imul, 1), (13, .istore_n 3, 1), (14, .iconst 0, 1), (15, .istore 4, 2), (17, .iload 4, 2), (19, .bipush 8, 2), (21, .if_icmp .ge 27, 3), (24, .aload_n 0, 1), (25, .getfield 68, 3), (28, .iload 4, 2), (30, .aload_n 0, 1), (31, .getfield 62, 3), (34, .iload 4, 2), (36, .laload, 1), (37, .bipush 32, 2), (39, .lushr, 1), (40, .l2i, 1), (41, .iastore, 1), (42, .iinc 4 1, 3), (45, .goto (-28), 3), (48, .iconst 0, 1), (49, .istore 4, 2), (51, .iload 4, 2), (53, .iload_n 3, 1), (54, .if_icmp .ge 86, 3), (57, .iconst 0, 1), (58, .istore 5, 2), (60, .iload 5, 2), (62, .bipush 16, 2), (64, .if_icmp .ge 66, 3), (67, .aload_n 0, 1), (68, .getfield 65, 3), (71, .iload 5, 2), (73, .iconst 0, 1), (74, .iastore, 1), (75, .iconst 0, 1), (76, .istore 6, 2), (78, .iload 6, 2), (80, .iconst 4, 1), (81, .if_icmp .ge 43, 3), (84, .aload_n 0, 1), (85, .getfield 65, 3), (88, .iload 5, 2), (90, .aload_n 0, 1), (91, .getfield 65, 3), (94, .iload 5, 2), (96, .iaload, 1), (97, .bipush 8, 2), (99, .ishl, 1), (100, .aload_n 1, 1), (101, .iload_n 2, 1), (102, .iload 4, 2), (104, .iconst 4, 1), (105, .iload 5, 2), (107, .imul, 1), (108, .iadd, 1), (109, .iload 6, 2), (111, .iadd, 1), (112, .iload_n 3, 1), (113, .invokestatic 106, 3), (116, .ior, 1), (117, .iastore, 1), (118, .iinc 6 1, 3), (121, .goto (-43), 3), (124, .iinc 5 1, 3), (127, .goto (-67), 3), (130, .aload_n 0, 1), (131, .invokevirtual 110, 3), (134, .iinc 4 64, 3), (137, .goto (-86), 3), (140, .iconst 0, 1), (141, .istore 4, 2), (143, .iload 4, 2), (145, .bipush 32, 2), (147, .if_icmp .ge 37, 3), (150, .aload_n 0, 1), (151, .getfield 77, 3), (154, .iload 4, 2), (156, .aload_n 0, 1), (157, .getfield 68, 3), (160, .iload 4, 2), (162, .iconst 4, 1), (163, .idiv, 1), (164, .iaload, 1), (165, .bipush 24, 2), (167, .bipush 8, 2), (169, .iload 4, 2), (171, .iconst 4, 1), (172, .irem, 1), (173, .imul, 1), (174, .isub, 1), (175, .iushr, 1), (176, .i2b, 1), (177, .bastore, 1), (178, .iinc 4 1, 3), (181, .goto (-38), 3), (184, .return_, 1)]
theorem dk_M_hash : fx_dec prog_15_method_11_code dl_M_hash = true := by decide +kernel
theorem d_M_hash_0 : decode prog_15_method_11_code 0 = .ok (.iload_n 2, 1) := fx_dat dk_M_hash 0 rfl
theorem d_M_hash_1 : decode prog_15_method_11_code 1 = .ok (.bipush 9, 2) := fx_dat dk_M_hash 1 rfl
theorem d_M_hash_3 : decode prog_15_method_11_code 3 = .ok (.iadd, 1) := fx_dat dk_M_hash 2 rfl
theorem d_M_hash_4 : decode prog_15_method_11_code 4 = .ok (.bipush 63, 2) := fx_dat dk_M_hash 3 rfl
theorem d_M_hash_6 : decode prog_15_method_11_code 6 = .ok (.iadd, 1) := fx_dat dk_M_hash 4 rfl
theorem d_M_hash_7 : decode prog_15_method_11_code 7 = .ok (.bipush 64, 2) := fx_dat dk_M_hash 5 rfl
theorem d_M_hash_9 : decode prog_15_method_11_code 9 = .ok (.idiv, 1) := fx_dat dk_M_hash 6 rfl
theorem d_M_hash_10 : decode prog_15_method_11_code 10 = .ok (.bipush 64, 2) := fx_dat dk_M_hash 7 rfl
theorem d_M_hash_12 : decode prog_15_method_11_code 12 = .ok (.imul, 1) := fx_dat dk_M_hash 8 rfl
theorem d_M_hash_13 : decode prog_15_method_11_code 13 = .ok (.istore_n 3, 1) := fx_dat dk_M_hash 9 rfl
theorem d_M_hash_14 : decode prog_15_method_11_code 14 = .ok (.iconst 0, 1) := fx_dat dk_M_hash 10 rfl
theorem d_M_hash_15 : decode prog_15_method_11_code 15 = .ok (.istore 4, 2) := fx_dat dk_M_hash 11 rfl
theorem d_M_hash_17 : decode prog_15_method_11_code 17 = .ok (.iload 4, 2) := fx_dat dk_M_hash 12 rfl
theorem d_M_hash_19 : decode prog_15_method_11_code 19 = .ok (.bipush 8, 2) := fx_dat dk_M_hash 13 rfl
theorem d_M_hash_21 : decode prog_15_method_11_code 21 = .ok (.if_icmp .ge 27, 3) := fx_dat dk_M_hash 14 rfl
theorem d_M_hash_24 : decode prog_15_method_11_code 24 = .ok (.aload_n 0, 1) := fx_dat dk_M_hash 15 rfl
theorem d_M_hash_25 : decode prog_15_method_11_code 25 = .ok (.getfield 68, 3) := fx_dat dk_M_hash 16 rfl
theorem d_M_hash_28 : decode prog_15_method_11_code 28 = .ok (.iload 4, 2) := fx_dat dk_M_hash 17 rfl
theorem d_M_hash_30 : decode prog_15_method_11_code 30 = .ok (.aload_n 0, 1) := fx_dat dk_M_hash 18 rfl
theorem d_M_hash_31 : decode prog_15_method_11_code 31 = .ok (.getfield 62, 3) := fx_dat dk_M_hash 19 rfl
theorem d_M_hash_34 : decode prog_15_method_11_code 34 = .ok (.iload 4, 2) := fx_dat dk_M_hash 20 rfl
theorem d_M_hash_36 : decode prog_15_method_11_code 36 = .ok (.laload, 1) := fx_dat dk_M_hash 21 rfl
theorem d_M_hash_37 : decode prog_15_method_11_code 37 = .ok (.bipush 32, 2) := fx_dat dk_M_hash 22 rfl
theorem d_M_hash_39 : decode prog_15_method_11_code 39 = .ok (.lushr, 1) := fx_dat dk_M_hash 23 rfl
theorem d_M_hash_40 : decode prog_15_method_11_code 40 = .ok (.l2i, 1) := fx_dat dk_M_hash 24 rfl
theorem d_M_hash_41 : decode prog_15_method_11_code 41 = .ok (.iastore, 1) := fx_dat dk_M_hash 25 rfl
theorem d_M_hash_42 : decode prog_15_method_11_code 42 = .ok (.iinc 4 1, 3) := fx_dat dk_M_hash 26 rfl
theorem d_M_hash_45 : decode prog_15_method_11_code 45 = .ok (.goto (-28), 3) := fx_dat dk_M_hash 27 rfl
theorem d_M_hash_48 : decode prog_15_method_11_code 48 = .ok (.iconst 0, 1) := fx_dat dk_M_hash 28 rfl
theorem d_M_hash_49 : decode prog_15_method_11_code 49 = .ok (.istore 4, 2) := fx_dat dk_M_hash 29 rfl
theorem d_M_hash_51 : decode prog_15_method_11_code 51 = .ok (.iload 4, 2) := fx_dat dk_M_hash 30 rfl
theorem d_M_hash_53 : decode prog_15_method_11_code 53 = .ok (.iload_n 3, 1) := fx_dat dk_M_hash 31 rfl
theorem d_M_hash_54 : decode prog_15_method_11_code 54 = .ok (.if_icmp .ge 86, 3) := fx_dat dk_M_hash 32 rfl
theorem d_M_hash_57 : decode prog_15_method_11_code 57 = .ok (.iconst 0, 1) := fx_dat dk_M_hash 33 rfl
theorem d_M_hash_58 : decode prog_15_method_11_code 58 = .ok (.istore 5, 2) := fx_dat dk_M_hash 34 rfl
theorem d_M_hash_60 : decode prog_15_method_11_code 60 = .ok (.iload 5, 2) := fx_dat dk_M_hash 35 rfl
theorem d_M_hash_62 : decode prog_15_method_11_code 62 = .ok (.bipush 16, 2) := fx_dat dk_M_hash 36 rfl
theorem d_M_hash_64 : decode prog_15_method_11_code 64 = .ok (.if_icmp .ge 66, 3) := fx_dat dk_M_hash 37 rfl
theorem d_M_hash_67 : decode prog_15_method_11_code 67 = .ok (.aload_n 0, 1) := fx_dat dk_M_hash 38 rfl
theorem d_M_hash_68 : decode prog_15_method_11_code 68 = .ok (.getfield 65, 3) := fx_dat dk_M_hash 39 rfl
theorem d_M_hash_71 : decode prog_15_method_11_code 71 = .ok (.iload 5, 2) := fx_dat dk_M_hash 40 rfl
theorem d_M_hash_73 : decode prog_15_method_11_code 73 = .ok (.iconst 0, 1) := fx_dat dk_M_hash 41 rfl
theorem d_M_hash_74 : decode prog_15_method_11_code 74 = .ok (.iastore, 1) := fx_dat dk_M_hash 42 rfl
theorem d_M_hash_75 : decode prog_15_method_11_code 75 = .ok (.iconst 0, 1) := fx_dat dk_M_hash 43 rfl
theorem d_M_hash_76 : decode prog_15_method_11_code 76 = .ok (.istore 6, 2) := fx_dat dk_M_hash 44 rfl
theorem d_M_hash_78 : decode prog_15_method_11_code 78 = .ok (.iload 6, 2) := fx_dat dk_M_hash 45 rfl
theorem d_M_hash_80 : decode prog_15_method_11_code 80 = .ok (.iconst 4, 1) := fx_dat dk_M_hash 46 rfl
theorem d_M_hash_81 : decode prog_15_method_11_code 81 = .ok (.if_icmp .ge 43, 3) := fx_dat dk_M_hash 47 rfl
theorem d_M_hash_84 : decode prog_15_method_11_code 84 = .ok (.aload_n 0, 1) := fx_dat dk_M_hash 48 rfl
theorem d_M_hash_85 : decode prog_15_method_11_code 85 = .ok (.getfield 65, 3) := fx_dat dk_M_hash 49 rfl
theorem d_M_hash_88 : decode prog_15_method_11_code 88 = .ok (.iload 5, 2) := fx_dat dk_M_hash 50 rfl
theorem d_M_hash_90 : decode prog_15_method_11_code 90 = .ok (.aload_n 0, 1) := fx_dat dk_M_hash 51 rfl
theorem d_M_hash_91 : decode prog_15_method_11_code 91 = .ok (.getfield 65, 3) := fx_dat dk_M_hash 52 rfl
theorem d_M_hash_94 : decode prog_15_method_11_code 94 = .ok (.iload 5, 2) := fx_dat dk_M_hash 53 rfl
theorem d_M_hash_96 : decode prog_15_method_11_code 96 = .ok (.iaload, 1) := fx_dat dk_M_hash 54 rfl
theorem d_M_hash_97 : decode prog_15_method_11_code 97 = .ok (.bipush 8, 2) := fx_dat dk_M_hash 55 rfl
theorem d_M_hash_99 : decode prog_15_method_11_code 99 = .ok (.ishl, 1) := fx_dat dk_M_hash 56 rfl
theorem d_M_hash_100 : decode prog_15_method_11_code 100 = .ok (.aload_n 1, 1) := fx_dat dk_M_hash 57 rfl
theorem d_M_hash_101 : decode prog_15_method_11_code 101 = .ok (.iload_n 2, 1) := fx_dat dk_M_hash 58 rfl
theorem d_M_hash_102 : decode prog_15_method_11_code 102 = .ok (.iload 4, 2) := fx_dat dk_M_hash 59 rfl
theorem d_M_hash_104 : decode prog_15_method_11_code 104 = .ok (.iconst 4, 1) := fx_dat dk_M_hash 60 rfl
theorem d_M_hash_105 : decode prog_15_method_11_code 105 = .ok (.iload 5, 2) := fx_dat dk_M_hash 61 rfl
theorem d_M_hash_107 : decode prog_15_method_11_code 107 = .ok (.imul, 1) := fx_dat dk_M_hash 62 rfl
theorem d_M_hash_108 : decode prog_15_method_11_code 108 = .ok (.iadd, 1) := fx_dat dk_M_hash 63 rfl
theorem d_M_hash_109 : decode prog_15_method_11_code 109 = .ok (.iload 6, 2) := fx_dat dk_M_hash 64 rfl
theorem d_M_hash_111 : decode prog_15_method_11_code 111 = .ok (.iadd, 1) := fx_dat dk_M_hash 65 rfl
theorem d_M_hash_112 : decode prog_15_method_11_code 112 = .ok (.iload_n 3, 1) := fx_dat dk_M_hash 66 rfl
theorem d_M_hash_113 : decode prog_15_method_11_code 113 = .ok (.invokestatic 106, 3) := fx_dat dk_M_hash 67 rfl
theorem d_M_hash_116 : decode prog_15_method_11_code 116 = .ok (.ior, 1) := fx_dat dk_M_hash 68 rfl
theorem d_M_hash_117 : decode prog_15_method_11_code 117 = .ok (.iastore, 1) := fx_dat dk_M_hash 69 rfl
theorem d_M_hash_118 : decode prog_15_method_11_code 118 = .ok (.iinc 6 1, 3) := fx_dat dk_M_hash 70 rfl
theorem d_M_hash_121 : decode prog_15_method_11_code 121 = .ok (.goto (-43), 3) := fx_dat dk_M_hash 71 rfl
theorem d_M_hash_124 : decode prog_15_method_11_code 124 = .ok (.iinc 5 1, 3) := fx_dat dk_M_hash 72 rfl
theorem d_M_hash_127 : decode prog_15_method_11_code 127 = .ok (.goto (-67), 3) := fx_dat dk_M_hash 73 rfl
theorem d_M_hash_130 : decode prog_15_method_11_code 130 = .ok (.aload_n 0, 1) := fx_dat dk_M_hash 74 rfl
theorem d_M_hash_131 : decode prog_15_method_11_code 131 = .ok (.invokevirtual 110, 3) := fx_dat dk_M_hash 75 rfl
theorem d_M_hash_134 : decode prog_15_method_11_code 134 = .ok (.iinc 4 64, 3) := fx_dat dk_M_hash 76 rfl
theorem d_M_hash_137 : decode prog_15_method_11_code 137 = .ok (.goto (-86), 3) := fx_dat dk_M_hash 77 rfl
theorem d_M_hash_140 : decode prog_15_method_11_code 140 = .ok (.iconst 0, 1) := fx_dat dk_M_hash 78 rfl
theorem d_M_hash_141 : decode prog_15_method_11_code 141 = .ok (.istore 4, 2) := fx_dat dk_M_hash 79 rfl
theorem d_M_hash_143 : decode prog_15_method_11_code 143 = .ok (.iload 4, 2) := fx_dat dk_M_hash 80 rfl
theorem d_M_hash_145 : decode prog_15_method_11_code 145 = .ok (.bipush 32, 2) := fx_dat dk_M_hash 81 rfl
theorem d_M_hash_147 : decode prog_15_method_11_code 147 = .ok (.if_icmp .ge 37, 3) := fx_dat dk_M_hash 82 rfl
theorem d_M_hash_150 : decode prog_15_method_11_code 150 = .ok (.aload_n 0, 1) := fx_dat dk_M_hash 83 rfl
theorem d_M_hash_151 : decode prog_15_method_11_code 151 = .ok (.getfield 77, 3) := fx_dat dk_M_hash 84 rfl
theorem d_M_hash_154 : decode prog_15_method_11_code 154 = .ok (.iload 4, 2) := fx_dat dk_M_hash 85 rfl
theorem d_M_hash_156 : decode prog_15_method_11_code 156 = .ok (.aload_n 0, 1) := fx_dat dk_M_hash 86 rfl
theorem d_M_hash_157 : decode prog_15_method_11_code 157 = .ok (.getfield 68, 3) := fx_dat dk_M_hash 87 rfl
theorem d_M_hash_160 : decode prog_15_method_11_code 160 = .ok (.iload 4, 2) := fx_dat dk_M_hash 88 rfl
theorem d_M_hash_162 : decode prog_15_method_11_code 162 = .ok (.iconst 4, 1) := fx_dat dk_M_hash 89 rfl
theorem d_M_hash_163 : decode prog_15_method_11_code 163 = .ok (.idiv, 1) := fx_dat dk_M_hash 90 rfl
theorem d_M_hash_164 : decode prog_15_method_11_code 164 = .ok (.iaload, 1) := fx_dat dk_M_hash 91 rfl
theorem d_M_hash_165 : decode prog_15_method_11_code 165 = .ok (.bipush 24, 2) := fx_dat dk_M_hash 92 rfl
theorem d_M_hash_167 : decode prog_15_method_11_code 167 = .ok (.bipush 8, 2) := fx_dat dk_M_hash 93 rfl
theorem d_M_hash_169 : decode prog_15_method_11_code 169 = .ok (.iload 4, 2) := fx_dat dk_M_hash 94 rfl
theorem d_M_hash_171 : decode prog_15_method_11_code 171 = .ok (.iconst 4, 1) := fx_dat dk_M_hash 95 rfl
theorem d_M_hash_172 : decode prog_15_method_11_code 172 = .ok (.irem, 1) := fx_dat dk_M_hash 96 rfl
theorem d_M_hash_173 : decode prog_15_method_11_code 173 = .ok (.imul, 1) := fx_dat dk_M_hash 97 rfl
theorem d_M_hash_174 : decode prog_15_method_11_code 174 = .ok (.isub, 1) := fx_dat dk_M_hash 98 rfl
theorem d_M_hash_175 : decode prog_15_method_11_code 175 = .ok (.iushr, 1) := fx_dat dk_M_hash 99 rfl
theorem d_M_hash_176 : decode prog_15_method_11_code 176 = .ok (.i2b, 1) := fx_dat dk_M_hash 100 rfl
theorem d_M_hash_177 : decode prog_15_method_11_code 177 = .ok (.bastore, 1) := fx_dat dk_M_hash 101 rfl
theorem d_M_hash_178 : decode prog_15_method_11_code 178 = .ok (.iinc 4 1, 3) := fx_dat dk_M_hash 102 rfl
theorem d_M_hash_181 : decode prog_15_method_11_code 181 = .ok (.goto (-38), 3) := fx_dat dk_M_hash 103 rfl
theorem d_M_hash_184 : decode prog_15_method_11_code 184 = .ok (.return_, 1) := fx_dat dk_M_hash 104 rfl
def m_M_hash_143_b (Q : AH → Prop) (X143 : Int32 × AH → Prop) (r0 : Nat) (x4 : Int32) (h : AH) : Prop := ((32 : Int32) ≤ x4 → Q h) ∧ (¬ (32 : Int32) ≤ x4 → hp_k h r0 = 13 ∧ ∃ b1, hp_R h r0 56 = some b1 ∧ ∃ b2, hp_R h r0 53 = some b2 ∧ ik (hp_k h b2) ∧ vp_in (x4 / (4 : Int32)) (hp_n h b2) ∧ hp_k h b1 = 101 ∧ vp_in x4 (hp_n h b1) ∧ ∀ h1 : AH, h1 = up_I h b1 (x4).toNatClampNeg ((((sh_iu (hp_I h b2 ((x4 / (4 : Int32))).toNatClampNeg) ((24 : Int32) - ((8 : Int32) * (x4 - x4 / (4 : Int32) * (4 : Int32)))))).toInt8.toInt32)).toInt8.toInt32 → ∀ v1 : Int32, v1 = (x4 + (1 : Int32)) → X143 (v1, h1))
def m_M_hash_143 (Q : AH → Prop) (r0 : Nat) (x4 : Int32) (h : AH) : Prop := fx_loop (fun (X143 : Int32 × AH → Prop) (st : Int32 × AH) => m_M_hash_143_b Q X143 r0 st.1 st.2) (x4, h)
def m_M_hash_78_b (Q : AH → Prop) (X51 : Int32 × AH → Prop) (X60 : Int32 × AH → Prop) (X78 : Int32 × AH → Prop) (r0 : Nat) (r1 : Nat) (x2 : Int32) (x3 : Int32) (x4 : Int32) (x5 : Int32) (x6 : Int32) (h : AH) : Prop := ((4 : Int32) ≤ x6 → ∀ v1 : Int32, v1 = (x5 + (1 : Int32)) → X60 (v1, h)) ∧ (¬ (4 : Int32) ≤ x6 → hp_k h r0 = 13 ∧ ∃ b1, hp_R h r0 52 = some b1 ∧ ik (hp_k h b1) ∧ vp_in x5 (hp_n h b1) ∧ m_M_padded (fun v2 h1 => fx_ext h h1 → hp_k h1 b1 = 102 ∧ vp_in x5 (hp_n h1 b1) ∧ ∀ h2 : AH, h2 = up_I h1 b1 (x5).toNatClampNeg (((hp_I h b1 x5.toNatClampNeg) <<< ((8 : Int32) &&& 31)) ||| v2) → ∀ v3 : Int32, v3 = (x6 + (1 : Int32)) → X78 (v3, h2)) r1 x2 ((x4 + ((4 : Int32) * x5)) + x6) x3 h)
def m_M_hash_78 (Q : AH → Prop) (X51 : Int32 × AH → Prop) (X60 : Int32 × AH → Prop) (r0 : Nat) (r1 : Nat) (x2 : Int32) (x3 : Int32) (x4 : Int32) (x5 : Int32) (x6 : Int32) (h : AH) : Prop := fx_loop (fun (X78 : Int32 × AH → Prop) (st : Int32 × AH) => m_M_hash_78_b Q X51 X60 X78 r0 r1 x2 x3 x4 x5 st.1 st.2) (x6, h)
def m_M_hash_60_b (Q : AH → Prop) (X51 : Int32 × AH → Prop) (X60 : Int32 × AH → Prop) (r0 : Nat) (r1 : Nat) (x2 : Int32) (x3 : Int32) (x4 : Int32) (x5 : Int32) (h : AH) : Prop := ((16 : Int32) ≤ x5 → hp_k h r0 = 13 ∧ m_M_over (fun h1 => fx_ext h h1 → ∀ v1 : Int32, v1 = (x4 + (64 : Int32)) → X51 (v1, h1)) r0 h) ∧ (¬ (16 : Int32) ≤ x5 → hp_k h r0 = 13 ∧ ∃ b1, hp_R h r0 52 = some b1 ∧ hp_k h b1 = 102 ∧ vp_in x5 (hp_n h b1) ∧ ∀ h2 : AH, h2 = up_I h b1 (x5).toNatClampNeg (0 : Int32) → m_M_hash_78 Q X51 X60 r0 r1 x2 x3 x4 x5 (0 : Int32) h2)
def m_M_hash_60 (Q : AH → Prop) (X51 : Int32 × AH → Prop) (r0 : Nat) (r1 : Nat) (x2 : Int32) (x3 : Int32) (x4 : Int32) (x5 : Int32) (h : AH) : Prop := fx_loop (fun (X60 : Int32 × AH → Prop) (st : Int32 × AH) => m_M_hash_60_b Q X51 X60 r0 r1 x2 x3 x4 st.1 st.2) (x5, h)
def m_M_hash_51_b (Q : AH → Prop) (X51 : Int32 × AH → Prop) (r0 : Nat) (r1 : Nat) (x2 : Int32) (x3 : Int32) (x4 : Int32) (h : AH) : Prop := (x3 ≤ x4 → m_M_hash_143 Q r0 (0 : Int32) h) ∧ (¬ x3 ≤ x4 → m_M_hash_60 Q X51 r0 r1 x2 x3 x4 (0 : Int32) h)
def m_M_hash_51 (Q : AH → Prop) (r0 : Nat) (r1 : Nat) (x2 : Int32) (x3 : Int32) (x4 : Int32) (h : AH) : Prop := fx_loop (fun (X51 : Int32 × AH → Prop) (st : Int32 × AH) => m_M_hash_51_b Q X51 r0 r1 x2 x3 st.1 st.2) (x4, h)
def m_M_hash_17_b (Q : AH → Prop) (X17 : Int32 × AH → Prop) (r0 : Nat) (r1 : Nat) (x2 : Int32) (x3 : Int32) (x4 : Int32) (h : AH) : Prop := ((8 : Int32) ≤ x4 → m_M_hash_51 Q r0 r1 x2 x3 (0 : Int32) h) ∧ (¬ (8 : Int32) ≤ x4 → hp_k h r0 = 13 ∧ ∃ b1, hp_R h r0 53 = some b1 ∧ ∃ b2, hp_R h r0 51 = some b2 ∧ lk (hp_k h b2) ∧ vp_in x4 (hp_n h b2) ∧ hp_k h b1 = 102 ∧ vp_in x4 (hp_n h b1) ∧ ∀ h1 : AH, h1 = up_I h b1 (x4).toNatClampNeg (((sh_lu (hp_L h b2 x4.toNatClampNeg) (32 : Int32))).toInt32) → ∀ v1 : Int32, v1 = (x4 + (1 : Int32)) → X17 (v1, h1))
def m_M_hash_17 (Q : AH → Prop) (r0 : Nat) (r1 : Nat) (x2 : Int32) (x3 : Int32) (x4 : Int32) (h : AH) : Prop := fx_loop (fun (X17 : Int32 × AH → Prop) (st : Int32 × AH) => m_M_hash_17_b Q X17 r0 r1 x2 x3 st.1 st.2) (x4, h)
def m_M_hash (Q : AH → Prop) (r0 : Nat) (r1 : Nat) (x2 : Int32) (h : AH) : Prop := ∀ v1 : Int32, v1 = ((((x2 + (9 : Int32)) + (63 : Int32)) / (64 : Int32)) * (64 : Int32)) → m_M_hash_17 Q r0 r1 x2 v1 (0 : Int32) h
theorem b_M_hash_143 {p : Program} {l : Launch} {e : Env} {R : Room} {s : State} {m : MethodId} {args : Array Value} {below : List Frame} {meth : Method} {c : Code} {D : DD} {h0 : AH} {Q : AH → Prop} (C : fx_CX D y_M_hash prog_15_method_11_code 7 2 40 (none) [] h0 p R s m meth c) (hl : l.flags = flags0) (r0 : Nat) (x4 : Int32) (h : AH) (hw : m_M_hash_143 Q r0 x4 h) : ∀ (ls : Array Slot) (H : Heap) (locs : List Loc) (cells slots : Nat), lv_has ls 7 [(0, .ref r0), (4, .int x4)] → fx_F D h0 h H locs cells slots → W p l e R s m args below meth c H locs cells slots (fx_Z D below s h0 (fx_oV Q fx_no)) (F0 m 143 ls []) := by
  refine fx_loop.use hw (fun st => ∀ (ls : Array Slot) (H : Heap) (locs : List Loc) (cells slots : Nat), lv_has ls 7 [(0, .ref r0), (4, .int st.1)] → fx_F D h0 st.2 H locs cells slots → W p l e R s m args below meth c H locs cells slots (fx_Z D below s h0 (fx_oV Q fx_no)) (F0 m 143 ls [])) (fun X143 st hX143 hw => ?_)
  obtain ⟨x4, h⟩ := st
  replace hw : m_M_hash_143_b Q X143 r0 x4 h := hw
  unfold m_M_hash_143_b at hw
  intro ls H locs cells slots hv F
  refine lv_iload C.ex C.by d_M_hash_143 (lv_at hv 1 rfl) ?_
  refine lv_bipush (v := (32 : Int32)) C.ex C.by d_M_hash_145 (by decide) ?_
  refine lv_icmp_ge C.ex C.by d_M_hash_147 rfl (fun hc => ?_) (fun hc => ?_)
  · replace hw := hw.1 hc
    exact fx_vret C F d_M_hash_184 (Or.inl ⟨rfl, hw⟩)
  · replace hw := hw.2 hc
    refine lv_aload_n C.ex C.by d_M_hash_150 rfl (lv_at hv 0 rfl) ?_
    obtain ⟨hk1, hw⟩ := hw
    obtain ⟨b1, hb1, hw⟩ := hw
    refine fx_getR C F lf_M_77 hk1 rfl hb1 d_M_hash_151 ?_
    refine lv_iload C.ex C.by d_M_hash_154 (lv_at hv 1 rfl) ?_
    refine lv_aload_n C.ex C.by d_M_hash_156 rfl (lv_at hv 0 rfl) ?_
    obtain ⟨b2, hb2, hw⟩ := hw
    refine fx_getR C F lf_M_68 hk1 rfl hb2 d_M_hash_157 ?_
    refine lv_iload C.ex C.by d_M_hash_160 (lv_at hv 1 rfl) ?_
    refine lv_iconst (v := (4 : Int32)) C.ex C.by d_M_hash_162 (by decide) ?_
    refine lv_idiv C.ex C.by d_M_hash_163 (by decide) ?_
    obtain ⟨hk2, hw⟩ := hw
    obtain ⟨hi1, hw⟩ := hw
    refine fx_iald C F hk2 hi1 d_M_hash_164 ?_
    refine lv_bipush (v := (24 : Int32)) C.ex C.by d_M_hash_165 (by decide) ?_
    refine lv_bipush (v := (8 : Int32)) C.ex C.by d_M_hash_167 (by decide) ?_
    refine lv_iload C.ex C.by d_M_hash_169 (lv_at hv 1 rfl) ?_
    refine lv_iconst (v := (4 : Int32)) C.ex C.by d_M_hash_171 (by decide) ?_
    refine lv_irem C.ex C.by d_M_hash_172 (by decide) ?_
    refine lv_imul C.ex C.by d_M_hash_173 ?_
    refine lv_isub C.ex C.by d_M_hash_174 ?_
    refine lv_iushr (v := (sh_iu (hp_I h b2 ((x4 / (4 : Int32))).toNatClampNeg) ((24 : Int32) - ((8 : Int32) * (x4 - x4 / (4 : Int32) * (4 : Int32)))))) C.ex C.by d_M_hash_175 rfl ?_
    refine lv_i2b (v := (((sh_iu (hp_I h b2 ((x4 / (4 : Int32))).toNatClampNeg) ((24 : Int32) - ((8 : Int32) * (x4 - x4 / (4 : Int32) * (4 : Int32)))))).toInt8.toInt32)) C.ex C.by d_M_hash_176 rfl ?_
    obtain ⟨hk3, hw⟩ := hw
    obtain ⟨hi2, hw⟩ := hw
    let h1 : AH := up_I h b1 (x4).toNatClampNeg ((((sh_iu (hp_I h b2 ((x4 / (4 : Int32))).toNatClampNeg) ((24 : Int32) - ((8 : Int32) * (x4 - x4 / (4 : Int32) * (4 : Int32)))))).toInt8.toInt32)).toInt8.toInt32
    replace hw := hw h1 rfl
    refine fx_bast C F hk3 hi2 d_M_hash_177 (fun H locs (F : fx_F D h0 h1 H locs _ _) => ?_)
    let v1 : Int32 := (x4 + (1 : Int32))
    replace hw := hw v1 rfl
    refine lv_iinc (v := v1) (k := 1) (lv' := [(4, .int v1), (0, .ref r0)]) C.ex C.by d_M_hash_178 hv rfl (congrArg (fun z => x4 + z) (by decide)) (by decide) rfl (fun ls hv => ?_)
    refine lv_goto C.ex C.by d_M_hash_181 rfl ?_
    exact hX143 _ hw _ _ _ _ _ (lv_sub hv [1, 0] rfl) F
theorem b_M_hash_78 {p : Program} {l : Launch} {e : Env} {R : Room} {s : State} {m : MethodId} {args : Array Value} {below : List Frame} {meth : Method} {c : Code} {D : DD} {h0 : AH} {Q : AH → Prop} {X51 : Int32 × AH → Prop} {X60 : Int32 × AH → Prop} (C : fx_CX D y_M_hash prog_15_method_11_code 7 2 40 (none) [] h0 p R s m meth c) (hl : l.flags = flags0) (r0 : Nat) (r1 : Nat) (x2 : Int32) (x3 : Int32) (x4 : Int32) (x5 : Int32) (x6 : Int32) (h : AH) (hX51 : ∀ st, X51 st → ∀ (ls : Array Slot) (H : Heap) (locs : List Loc) (cells slots : Nat), lv_has ls 7 [(0, .ref r0), (1, .ref r1), (2, .int x2), (3, .int x3), (4, .int st.1)] → fx_F D h0 st.2 H locs cells slots → W p l e R s m args below meth c H locs cells slots (fx_Z D below s h0 (fx_oV Q fx_no)) (F0 m 51 ls [])) (hX60 : ∀ st, X60 st → ∀ (ls : Array Slot) (H : Heap) (locs : List Loc) (cells slots : Nat), lv_has ls 7 [(0, .ref r0), (1, .ref r1), (2, .int x2), (3, .int x3), (4, .int x4), (5, .int st.1)] → fx_F D h0 st.2 H locs cells slots → W p l e R s m args below meth c H locs cells slots (fx_Z D below s h0 (fx_oV Q fx_no)) (F0 m 60 ls [])) (hw : m_M_hash_78 Q X51 X60 r0 r1 x2 x3 x4 x5 x6 h) : ∀ (ls : Array Slot) (H : Heap) (locs : List Loc) (cells slots : Nat), lv_has ls 7 [(0, .ref r0), (1, .ref r1), (2, .int x2), (3, .int x3), (4, .int x4), (5, .int x5), (6, .int x6)] → fx_F D h0 h H locs cells slots → W p l e R s m args below meth c H locs cells slots (fx_Z D below s h0 (fx_oV Q fx_no)) (F0 m 78 ls []) := by
  refine fx_loop.use hw (fun st => ∀ (ls : Array Slot) (H : Heap) (locs : List Loc) (cells slots : Nat), lv_has ls 7 [(0, .ref r0), (1, .ref r1), (2, .int x2), (3, .int x3), (4, .int x4), (5, .int x5), (6, .int st.1)] → fx_F D h0 st.2 H locs cells slots → W p l e R s m args below meth c H locs cells slots (fx_Z D below s h0 (fx_oV Q fx_no)) (F0 m 78 ls [])) (fun X78 st hX78 hw => ?_)
  obtain ⟨x6, h⟩ := st
  replace hw : m_M_hash_78_b Q X51 X60 X78 r0 r1 x2 x3 x4 x5 x6 h := hw
  unfold m_M_hash_78_b at hw
  intro ls H locs cells slots hv F
  refine lv_iload C.ex C.by d_M_hash_78 (lv_at hv 6 rfl) ?_
  refine lv_iconst (v := (4 : Int32)) C.ex C.by d_M_hash_80 (by decide) ?_
  refine lv_icmp_ge C.ex C.by d_M_hash_81 rfl (fun hc => ?_) (fun hc => ?_)
  · replace hw := hw.1 hc
    let v1 : Int32 := (x5 + (1 : Int32))
    replace hw := hw v1 rfl
    refine lv_iinc (v := v1) (k := 5) (lv' := [(5, .int v1), (0, .ref r0), (1, .ref r1), (2, .int x2), (3, .int x3), (4, .int x4), (6, .int x6)]) C.ex C.by d_M_hash_124 hv rfl (congrArg (fun z => x5 + z) (by decide)) (by decide) rfl (fun ls hv => ?_)
    refine lv_goto C.ex C.by d_M_hash_127 rfl ?_
    exact hX60 _ hw _ _ _ _ _ (lv_sub hv [1, 2, 3, 4, 5, 0] rfl) F
  · replace hw := hw.2 hc
    refine lv_aload_n C.ex C.by d_M_hash_84 rfl (lv_at hv 0 rfl) ?_
    obtain ⟨hk1, hw⟩ := hw
    obtain ⟨b1, hb1, hw⟩ := hw
    refine fx_getR C F lf_M_65 hk1 rfl hb1 d_M_hash_85 ?_
    refine lv_iload C.ex C.by d_M_hash_88 (lv_at hv 5 rfl) ?_
    refine lv_aload_n C.ex C.by d_M_hash_90 rfl (lv_at hv 0 rfl) ?_
    refine fx_getR C F lf_M_65 hk1 rfl hb1 d_M_hash_91 ?_
    refine lv_iload C.ex C.by d_M_hash_94 (lv_at hv 5 rfl) ?_
    obtain ⟨hk2, hw⟩ := hw
    obtain ⟨hi1, hw⟩ := hw
    refine fx_iald C F hk2 hi1 d_M_hash_96 ?_
    refine lv_bipush (v := (8 : Int32)) C.ex C.by d_M_hash_97 (by decide) ?_
    refine lv_ishl C.ex C.by d_M_hash_99 ?_
    refine lv_aload_n C.ex C.by d_M_hash_100 rfl (lv_at hv 1 rfl) ?_
    refine lv_iload_n C.ex C.by d_M_hash_101 rfl (lv_at hv 2 rfl) ?_
    refine lv_iload C.ex C.by d_M_hash_102 (lv_at hv 4 rfl) ?_
    refine lv_iconst (v := (4 : Int32)) C.ex C.by d_M_hash_104 (by decide) ?_
    refine lv_iload C.ex C.by d_M_hash_105 (lv_at hv 5 rfl) ?_
    refine lv_imul C.ex C.by d_M_hash_107 ?_
    refine lv_iadd C.ex C.by d_M_hash_108 ?_
    refine lv_iload C.ex C.by d_M_hash_109 (lv_at hv 6 rfl) ?_
    refine lv_iadd C.ex C.by d_M_hash_111 ?_
    refine lv_iload_n C.ex C.by d_M_hash_112 rfl (lv_at hv 3 rfl) ?_
    refine fx_callI C F (c_M_padded hl hw) hm_M_padded hi_M_padded hv.1 (by decide) (Nat.le_of_ble_eq_true rfl) (iv_M_padded C F lm_M_106 d_M_hash_113) (fx_out0 _) fx_eno (fun v2 h1 H locs cells slots hw hx1 F => ?_)
    replace hw := hw hx1
    have hk2 := (hx1).gi hk2
    have hk1 := (hx1).k hk1
    refine lv_ior C.ex C.by d_M_hash_116 ?_
    obtain ⟨hk3, hw⟩ := hw
    obtain ⟨hi2, hw⟩ := hw
    let h2 : AH := up_I h1 b1 (x5).toNatClampNeg (((hp_I h b1 x5.toNatClampNeg) <<< ((8 : Int32) &&& 31)) ||| v2)
    replace hw := hw h2 rfl
    refine fx_iast C F hk3 hi2 d_M_hash_117 (fun H locs (F : fx_F D h0 h2 H locs _ _) => ?_)
    let v3 : Int32 := (x6 + (1 : Int32))
    replace hw := hw v3 rfl
    refine lv_iinc (v := v3) (k := 6) (lv' := [(6, .int v3), (0, .ref r0), (1, .ref r1), (2, .int x2), (3, .int x3), (4, .int x4), (5, .int x5)]) C.ex C.by d_M_hash_118 hv rfl (congrArg (fun z => x6 + z) (by decide)) (by decide) rfl (fun ls hv => ?_)
    refine lv_goto C.ex C.by d_M_hash_121 rfl ?_
    exact hX78 _ hw _ _ _ _ _ (lv_sub hv [1, 2, 3, 4, 5, 6, 0] rfl) F
theorem b_M_hash_60 {p : Program} {l : Launch} {e : Env} {R : Room} {s : State} {m : MethodId} {args : Array Value} {below : List Frame} {meth : Method} {c : Code} {D : DD} {h0 : AH} {Q : AH → Prop} {X51 : Int32 × AH → Prop} (C : fx_CX D y_M_hash prog_15_method_11_code 7 2 40 (none) [] h0 p R s m meth c) (hl : l.flags = flags0) (r0 : Nat) (r1 : Nat) (x2 : Int32) (x3 : Int32) (x4 : Int32) (x5 : Int32) (h : AH) (hX51 : ∀ st, X51 st → ∀ (ls : Array Slot) (H : Heap) (locs : List Loc) (cells slots : Nat), lv_has ls 7 [(0, .ref r0), (1, .ref r1), (2, .int x2), (3, .int x3), (4, .int st.1)] → fx_F D h0 st.2 H locs cells slots → W p l e R s m args below meth c H locs cells slots (fx_Z D below s h0 (fx_oV Q fx_no)) (F0 m 51 ls [])) (hw : m_M_hash_60 Q X51 r0 r1 x2 x3 x4 x5 h) : ∀ (ls : Array Slot) (H : Heap) (locs : List Loc) (cells slots : Nat), lv_has ls 7 [(0, .ref r0), (1, .ref r1), (2, .int x2), (3, .int x3), (4, .int x4), (5, .int x5)] → fx_F D h0 h H locs cells slots → W p l e R s m args below meth c H locs cells slots (fx_Z D below s h0 (fx_oV Q fx_no)) (F0 m 60 ls []) := by
  refine fx_loop.use hw (fun st => ∀ (ls : Array Slot) (H : Heap) (locs : List Loc) (cells slots : Nat), lv_has ls 7 [(0, .ref r0), (1, .ref r1), (2, .int x2), (3, .int x3), (4, .int x4), (5, .int st.1)] → fx_F D h0 st.2 H locs cells slots → W p l e R s m args below meth c H locs cells slots (fx_Z D below s h0 (fx_oV Q fx_no)) (F0 m 60 ls [])) (fun X60 st hX60 hw => ?_)
  obtain ⟨x5, h⟩ := st
  replace hw : m_M_hash_60_b Q X51 X60 r0 r1 x2 x3 x4 x5 h := hw
  unfold m_M_hash_60_b at hw
  intro ls H locs cells slots hv F
  refine lv_iload C.ex C.by d_M_hash_60 (lv_at hv 5 rfl) ?_
  refine lv_bipush (v := (16 : Int32)) C.ex C.by d_M_hash_62 (by decide) ?_
  refine lv_icmp_ge C.ex C.by d_M_hash_64 rfl (fun hc => ?_) (fun hc => ?_)
  · replace hw := hw.1 hc
    refine lv_aload_n C.ex C.by d_M_hash_130 rfl (lv_at hv 0 rfl) ?_
    obtain ⟨hk1, hw⟩ := hw
    refine fx_callV C F (c_M_over hl hw) hm_M_over hi_M_over hv.1 (by decide) (Nat.le_of_ble_eq_true rfl) (iv_M_over C F lm_M_110 hk1 d_M_hash_131) (fx_out0 _) fx_eno (fun h1 H locs cells slots hw hx1 F => ?_)
    replace hw := hw hx1
    have hk1 := (hx1).k hk1
    let v1 : Int32 := (x4 + (64 : Int32))
    replace hw := hw v1 rfl
    refine lv_iinc (v := v1) (k := 4) (lv' := [(4, .int v1), (0, .ref r0), (1, .ref r1), (2, .int x2), (3, .int x3), (5, .int x5)]) C.ex C.by d_M_hash_134 hv rfl (congrArg (fun z => x4 + z) (by decide)) (by decide) rfl (fun ls hv => ?_)
    refine lv_goto C.ex C.by d_M_hash_137 rfl ?_
    exact hX51 _ hw _ _ _ _ _ (lv_sub hv [1, 2, 3, 4, 0] rfl) F
  · replace hw := hw.2 hc
    refine lv_aload_n C.ex C.by d_M_hash_67 rfl (lv_at hv 0 rfl) ?_
    obtain ⟨hk2, hw⟩ := hw
    obtain ⟨b1, hb1, hw⟩ := hw
    refine fx_getR C F lf_M_65 hk2 rfl hb1 d_M_hash_68 ?_
    refine lv_iload C.ex C.by d_M_hash_71 (lv_at hv 5 rfl) ?_
    refine lv_iconst (v := (0 : Int32)) C.ex C.by d_M_hash_73 (by decide) ?_
    obtain ⟨hk3, hw⟩ := hw
    obtain ⟨hi1, hw⟩ := hw
    let h2 : AH := up_I h b1 (x5).toNatClampNeg (0 : Int32)
    replace hw := hw h2 rfl
    refine fx_iast C F hk3 hi1 d_M_hash_74 (fun H locs (F : fx_F D h0 h2 H locs _ _) => ?_)
    refine lv_iconst (v := (0 : Int32)) C.ex C.by d_M_hash_75 (by decide) ?_
    refine lv_istore (lv' := [(6, .int (0 : Int32)), (0, .ref r0), (1, .ref r1), (2, .int x2), (3, .int x3), (4, .int x4), (5, .int x5)]) C.ex C.by d_M_hash_76 hv (by decide) rfl (fun ls hv => ?_)
    exact b_M_hash_78 C hl _ _ _ _ _ _ _ _ hX51 hX60 hw _ _ _ _ _ (lv_sub hv [1, 2, 3, 4, 5, 6, 0] rfl) F
theorem b_M_hash_51 {p : Program} {l : Launch} {e : Env} {R : Room} {s : State} {m : MethodId} {args : Array Value} {below : List Frame} {meth : Method} {c : Code} {D : DD} {h0 : AH} {Q : AH → Prop} (C : fx_CX D y_M_hash prog_15_method_11_code 7 2 40 (none) [] h0 p R s m meth c) (hl : l.flags = flags0) (r0 : Nat) (r1 : Nat) (x2 : Int32) (x3 : Int32) (x4 : Int32) (h : AH) (hw : m_M_hash_51 Q r0 r1 x2 x3 x4 h) : ∀ (ls : Array Slot) (H : Heap) (locs : List Loc) (cells slots : Nat), lv_has ls 7 [(0, .ref r0), (1, .ref r1), (2, .int x2), (3, .int x3), (4, .int x4)] → fx_F D h0 h H locs cells slots → W p l e R s m args below meth c H locs cells slots (fx_Z D below s h0 (fx_oV Q fx_no)) (F0 m 51 ls []) := by
  refine fx_loop.use hw (fun st => ∀ (ls : Array Slot) (H : Heap) (locs : List Loc) (cells slots : Nat), lv_has ls 7 [(0, .ref r0), (1, .ref r1), (2, .int x2), (3, .int x3), (4, .int st.1)] → fx_F D h0 st.2 H locs cells slots → W p l e R s m args below meth c H locs cells slots (fx_Z D below s h0 (fx_oV Q fx_no)) (F0 m 51 ls [])) (fun X51 st hX51 hw => ?_)
  obtain ⟨x4, h⟩ := st
  replace hw : m_M_hash_51_b Q X51 r0 r1 x2 x3 x4 h := hw
  unfold m_M_hash_51_b at hw
  intro ls H locs cells slots hv F
  refine lv_iload C.ex C.by d_M_hash_51 (lv_at hv 4 rfl) ?_
  refine lv_iload_n C.ex C.by d_M_hash_53 rfl (lv_at hv 3 rfl) ?_
  refine lv_icmp_ge C.ex C.by d_M_hash_54 rfl (fun hc => ?_) (fun hc => ?_)
  · replace hw := hw.1 hc
    refine lv_iconst (v := (0 : Int32)) C.ex C.by d_M_hash_140 (by decide) ?_
    refine lv_istore (lv' := [(4, .int (0 : Int32)), (0, .ref r0), (1, .ref r1), (2, .int x2), (3, .int x3)]) C.ex C.by d_M_hash_141 hv (by decide) rfl (fun ls hv => ?_)
    exact b_M_hash_143 C hl _ _ _ hw _ _ _ _ _ (lv_sub hv [1, 0] rfl) F
  · replace hw := hw.2 hc
    refine lv_iconst (v := (0 : Int32)) C.ex C.by d_M_hash_57 (by decide) ?_
    refine lv_istore (lv' := [(5, .int (0 : Int32)), (0, .ref r0), (1, .ref r1), (2, .int x2), (3, .int x3), (4, .int x4)]) C.ex C.by d_M_hash_58 hv (by decide) rfl (fun ls hv => ?_)
    exact b_M_hash_60 C hl _ _ _ _ _ _ _ hX51 hw _ _ _ _ _ (lv_sub hv [1, 2, 3, 4, 5, 0] rfl) F
theorem b_M_hash_17 {p : Program} {l : Launch} {e : Env} {R : Room} {s : State} {m : MethodId} {args : Array Value} {below : List Frame} {meth : Method} {c : Code} {D : DD} {h0 : AH} {Q : AH → Prop} (C : fx_CX D y_M_hash prog_15_method_11_code 7 2 40 (none) [] h0 p R s m meth c) (hl : l.flags = flags0) (r0 : Nat) (r1 : Nat) (x2 : Int32) (x3 : Int32) (x4 : Int32) (h : AH) (hw : m_M_hash_17 Q r0 r1 x2 x3 x4 h) : ∀ (ls : Array Slot) (H : Heap) (locs : List Loc) (cells slots : Nat), lv_has ls 7 [(0, .ref r0), (1, .ref r1), (2, .int x2), (3, .int x3), (4, .int x4)] → fx_F D h0 h H locs cells slots → W p l e R s m args below meth c H locs cells slots (fx_Z D below s h0 (fx_oV Q fx_no)) (F0 m 17 ls []) := by
  refine fx_loop.use hw (fun st => ∀ (ls : Array Slot) (H : Heap) (locs : List Loc) (cells slots : Nat), lv_has ls 7 [(0, .ref r0), (1, .ref r1), (2, .int x2), (3, .int x3), (4, .int st.1)] → fx_F D h0 st.2 H locs cells slots → W p l e R s m args below meth c H locs cells slots (fx_Z D below s h0 (fx_oV Q fx_no)) (F0 m 17 ls [])) (fun X17 st hX17 hw => ?_)
  obtain ⟨x4, h⟩ := st
  replace hw : m_M_hash_17_b Q X17 r0 r1 x2 x3 x4 h := hw
  unfold m_M_hash_17_b at hw
  intro ls H locs cells slots hv F
  refine lv_iload C.ex C.by d_M_hash_17 (lv_at hv 4 rfl) ?_
  refine lv_bipush (v := (8 : Int32)) C.ex C.by d_M_hash_19 (by decide) ?_
  refine lv_icmp_ge C.ex C.by d_M_hash_21 rfl (fun hc => ?_) (fun hc => ?_)
  · replace hw := hw.1 hc
    refine lv_iconst (v := (0 : Int32)) C.ex C.by d_M_hash_48 (by decide) ?_
    refine lv_istore (lv' := [(4, .int (0 : Int32)), (0, .ref r0), (1, .ref r1), (2, .int x2), (3, .int x3)]) C.ex C.by d_M_hash_49 hv (by decide) rfl (fun ls hv => ?_)
    exact b_M_hash_51 C hl _ _ _ _ _ _ hw _ _ _ _ _ (lv_sub hv [1, 2, 3, 4, 0] rfl) F
  · replace hw := hw.2 hc
    refine lv_aload_n C.ex C.by d_M_hash_24 rfl (lv_at hv 0 rfl) ?_
    obtain ⟨hk1, hw⟩ := hw
    obtain ⟨b1, hb1, hw⟩ := hw
    refine fx_getR C F lf_M_68 hk1 rfl hb1 d_M_hash_25 ?_
    refine lv_iload C.ex C.by d_M_hash_28 (lv_at hv 4 rfl) ?_
    refine lv_aload_n C.ex C.by d_M_hash_30 rfl (lv_at hv 0 rfl) ?_
    obtain ⟨b2, hb2, hw⟩ := hw
    refine fx_getR C F lf_M_62 hk1 rfl hb2 d_M_hash_31 ?_
    refine lv_iload C.ex C.by d_M_hash_34 (lv_at hv 4 rfl) ?_
    obtain ⟨hk2, hw⟩ := hw
    obtain ⟨hi1, hw⟩ := hw
    refine fx_lald C F hk2 hi1 d_M_hash_36 ?_
    refine lv_bipush (v := (32 : Int32)) C.ex C.by d_M_hash_37 (by decide) ?_
    refine lv_lushr (v := (sh_lu (hp_L h b2 x4.toNatClampNeg) (32 : Int32))) C.ex C.by d_M_hash_39 rfl ?_
    refine lv_l2i (v := (((sh_lu (hp_L h b2 x4.toNatClampNeg) (32 : Int32))).toInt32)) C.ex C.by d_M_hash_40 rfl ?_
    obtain ⟨hk3, hw⟩ := hw
    obtain ⟨hi2, hw⟩ := hw
    let h1 : AH := up_I h b1 (x4).toNatClampNeg (((sh_lu (hp_L h b2 x4.toNatClampNeg) (32 : Int32))).toInt32)
    replace hw := hw h1 rfl
    refine fx_iast C F hk3 hi2 d_M_hash_41 (fun H locs (F : fx_F D h0 h1 H locs _ _) => ?_)
    let v1 : Int32 := (x4 + (1 : Int32))
    replace hw := hw v1 rfl
    refine lv_iinc (v := v1) (k := 4) (lv' := [(4, .int v1), (0, .ref r0), (1, .ref r1), (2, .int x2), (3, .int x3)]) C.ex C.by d_M_hash_42 hv rfl (congrArg (fun z => x4 + z) (by decide)) (by decide) rfl (fun ls hv => ?_)
    refine lv_goto C.ex C.by d_M_hash_45 rfl ?_
    exact hX17 _ hw _ _ _ _ _ (lv_sub hv [1, 2, 3, 4, 0] rfl) F
theorem b_M_hash_0 {p : Program} {l : Launch} {e : Env} {R : Room} {s : State} {m : MethodId} {args : Array Value} {below : List Frame} {meth : Method} {c : Code} {D : DD} {h0 : AH} {Q : AH → Prop} (C : fx_CX D y_M_hash prog_15_method_11_code 7 2 40 (none) [] h0 p R s m meth c) (hl : l.flags = flags0) (r0 : Nat) (r1 : Nat) (x2 : Int32) (h : AH) (hw : m_M_hash Q r0 r1 x2 h) : ∀ (ls : Array Slot) (H : Heap) (locs : List Loc) (cells slots : Nat), lv_has ls 7 [(0, .ref r0), (1, .ref r1), (2, .int x2)] → fx_F D h0 h H locs cells slots → W p l e R s m args below meth c H locs cells slots (fx_Z D below s h0 (fx_oV Q fx_no)) (F0 m 0 ls []) := by
  unfold m_M_hash at hw
  intro ls H locs cells slots hv F
  refine lv_iload_n C.ex C.by d_M_hash_0 rfl (lv_at hv 2 rfl) ?_
  refine lv_bipush (v := (9 : Int32)) C.ex C.by d_M_hash_1 (by decide) ?_
  refine lv_iadd C.ex C.by d_M_hash_3 ?_
  refine lv_bipush (v := (63 : Int32)) C.ex C.by d_M_hash_4 (by decide) ?_
  refine lv_iadd C.ex C.by d_M_hash_6 ?_
  refine lv_bipush (v := (64 : Int32)) C.ex C.by d_M_hash_7 (by decide) ?_
  refine lv_idiv C.ex C.by d_M_hash_9 (by decide) ?_
  refine lv_bipush (v := (64 : Int32)) C.ex C.by d_M_hash_10 (by decide) ?_
  refine lv_imul C.ex C.by d_M_hash_12 ?_
  let v1 : Int32 := ((((x2 + (9 : Int32)) + (63 : Int32)) / (64 : Int32)) * (64 : Int32))
  replace hw := hw v1 rfl
  refine lv_istore_n (lv' := [(3, .int v1), (0, .ref r0), (1, .ref r1), (2, .int x2)]) C.ex C.by d_M_hash_13 rfl hv (by decide) rfl (fun ls hv => ?_)
  refine lv_iconst (v := (0 : Int32)) C.ex C.by d_M_hash_14 (by decide) ?_
  refine lv_istore (lv' := [(4, .int (0 : Int32)), (3, .int v1), (0, .ref r0), (1, .ref r1), (2, .int x2)]) C.ex C.by d_M_hash_15 hv (by decide) rfl (fun ls hv => ?_)
  exact b_M_hash_17 C hl _ _ _ _ _ _ hw _ _ _ _ _ (lv_sub hv [2, 3, 4, 1, 0] rfl) F
theorem hm_M_hash : fx_hd y_M_hash prog_15_method_11_code 7 (none) [] ∈ tables_1 := (fx_m7 (List.mem_of_getElem? (i := 133) rfl))
theorem hi_M_hash : Cond.initialized y_M_hash.cls ∈ tables_1 := (fx_m1 (List.mem_of_getElem? (i := 15) rfl))
theorem c_M_hash {l : Launch} (hl : l.flags = flags0) {D : DD} {Q : AH → Prop} {r0 : Nat} {r1 : Nat} {x2 : Int32} {h : AH} (hw : m_M_hash Q r0 r1 x2 h) : fx_Mt l D y_M_hash (fx_hd y_M_hash prog_15_method_11_code 7 (none) []) 2 40 [.ref r0, .ref r1, .int x2] h (fx_oV Q fx_no) := by
  refine fx_ofW (plainFor_of_name (by decide)) (fun p e s m below meth c C F => ?_)
  have hv := lv_entry ([.ref r0, .ref r1, .int x2]) (n := 7) (Nat.le_of_ble_eq_true rfl)
  rw [lg_entry_eq]
  generalize (lg_sl ([.ref r0, .ref r1, .int x2]) ++ List.replicate (7 - (lg_sl ([.ref r0, .ref r1, .int x2])).length) Slot.unset).toArray = ls at hv ⊢
  have hv : lv_has ls 7 [(0, .ref r0), (1, .ref r1), (2, .int x2)] := hv
  exact b_M_hash_0 C hl _ _ _ _ hw _ _ _ _ _ hv F
