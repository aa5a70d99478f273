set_option maxRecDepth 10000
/-! ChainJudge$Sha256.compress([BI)V: frames 2, words 38 -/
abbrev y_Sha_compress : MethodName := ⟨"ChainJudge$Sha256", "compress", "([BI)V"⟩
theorem ls_Sha_42 : fx_Ls "ChainJudge$Sha256" 42 0 := ⟨_, rfl, Or.inr ⟨_, (fx_m4 (List.mem_of_getElem? (i := 189) rfl))⟩⟩
theorem lm_Sha_38 : Cond.methodLink "ChainJudge$Sha256" 38 y_Sha_spread ∈ tables_1 ∨ ∃ host, Cond.methodLinkNest "ChainJudge$Sha256" 38 y_Sha_spread host ∈ tables_1 := Or.inl (fx_m4 (List.mem_of_getElem? (i := 181) rfl))
section
variable {p : Program} {l : Launch} {e : Env} {R : Room} {s : State} {m : MethodId} {args : Array Value} {below : List Frame} {meth : Method} {c : Code} {H : Heap} {locs : List Loc} {cells slots : Nat}
variable {D : DD} {y : MethodName} {cc : ByteArray} {nL kf kw : Nat} {ret : Option FieldType} {hh : List (Nat × Nat × Nat × Nat)} {h0 h : AH} {pc : Nat} {ls : Array Slot} {rest : List Value} {b idx : Nat}
theorem iv_Sha_spread {r1 : Nat} {x2 : Int32} (C : fx_CX D y cc nL kf kw ret hh h0 p R s m meth c) (F : fx_F D h0 h H locs cells slots) (hw1 : Cond.methodLink y.cls idx y_Sha_spread ∈ tables_1 ∨ ∃ host, Cond.methodLinkNest y.cls idx y_Sha_spread host ∈ tables_1) (hk : hp_k h b = 6) (hd : decode cc pc = .ok (.invokevirtual idx, 3)) : fx_IV p l e R s m args below meth c H locs cells slots (F0 m pc ls (.int x2 :: .ref r1 :: .ref b :: rest)) rest y_Sha_spread [.ref b, .ref r1, .int x2] 3 := fun T hT X => fx_invV (As := [.ref r1, .int x2]) (Cn := "ChainJudge$Sha256") C X hw1 (fx_m4 (List.mem_of_getElem? (i := 183) rfl)) (fx_selP C ⟨by decide, by decide⟩ (fx_m1 (List.mem_of_getElem? (i := 93) rfl)) (fx_m4 (List.mem_of_getElem? (i := 182) rfl)) (fx_m4 (List.mem_of_getElem? (i := 183) rfl))) hm_Sha_spread ⟨by decide, by decide⟩ (by rw [hT]; exact fx_clsO (ci := 5) (r := ("ChainJudge$Sha256", fx_T5, 8)) C F rfl (by decide) hk) rfl (n := 2) (by decide +kernel) rfl rfl hd
end
def dl_Sha_compress : List (Nat × Instr × Nat) := [(0, .aload_n 0, 1), (1, .aload_n 1, 1), (2, .iload_n 2, 1), (3, .invokevirtual 38, 3), (6, .aload_n 0, 1), (7, .getfield 7, 3), (10, .iconst 0, 1), (11, .iaload, 1), (12, .istore_n 3, 1), (13, .aload_n 0, 1), (14, .getfield 7, 3), (17, .iconst 1, 1), (18, .iaload, 1), (19, .istore 4, 2), (21, .aload_n 0, 1), (22, .getfield 7, 3), (25, .iconst 2, 1), (26, .iaload, 1), (27, .istore 5, 2), (29, .aload_n 0, 1), (30, .getfield 7, 3), (33, .iconst 3, 1), (34, .iaload, 1), (35, .istore 6, 2), (37, .aload_n 0, 1), (38, .getfield 7, 3), (41, .iconst 4, 1), (42, .iaload, 1), (43, .istore 7, 2), (45, .aload_n 0, 1), (46, .getfield 7, 3), (49, .iconst 5, 1), (50, .iaload, 1), (51, .istore 8, 2), (53, .aload_n 0, 1), (54, .getfield 7, 3), (57, .bipush 6, 2), (59, .iaload, 1), (60, .istore 9, 2), (62, .aload_n 0, 1), (63, .getfield 7, 3), (66, .bipush 7, 2), (68, .iaload, 1), (69, .istore 10, 2), (71, .iconst 0, 1), (72, .istore 11, 2), (74, .iload 11, 2), (76, .bipush 64, 2), (78, .if_icmp .ge 151, 3), (81, .iload 7, 2), (83, .bipush 6, 2), (85, .invokestatic 32, 3), (88, .iload 7, 2), (90, .bipush 11, 2), (92, .invokestatic 32, 3), (95, .ixor, 1), (96, .iload 7, 2), (98, .bipush 25, 2), (100, .invokestatic 32, 3), (103, .ixor, 1), (104, .istore 12, 2), (106, .iload 10, 2), (108, .iload 12, 2), (110, .iadd, 1), (111, .iload 7, 2), (113, .iload 8, 2), (115, .iand, 1), (116, .iload 7, 2), (118, .iconst (-1), 1), (119, .ixor, 1), (120, .iload 9, 2), (122, .iand, 1), (123, .ixor, 1), (124, .iadd, 1), (125, .getstatic 42, 3), (128, .iload 11, 2), (130, .laload, 1), (131, .bipush 32, 2), (133, .lushr, 1), (134, .l2i, 1), (135, .iadd, 1), (136, .aload_n 0, 1), (137, .getfield 13, 3), (140, .iload 11, 2), (142, .iaload, 1), (143, .iadd, 1), (144, .istore 13, 2), (146, .iload_n 3, 1), (147, .iconst 2, 1), (148, .invokestatic 32, 3), (151, .iload_n 3, 1), (152, .bipush 13, 2), (154, .invokestatic 32, 3), (157, .ixor, 1), (158, .iload_n 3, 1), (159, .bipush 22, 2), (161, .invokestatic 32, 3), (164, .ixor, 1), (165, .istore 14, 2), (167, .iload 14, 2), (169, .iload_n 3, 1), (170, .iload 4, 2), (172, .iand, 1), (173, .iload_n 3, 1), (174, .iload 5, 2), (176, .iand, 1), (177, .ixor, 1), (178, .iload 4, 2), (180, .iload 5, 2), (182, .iand, 1), (183, .ixor, 1), (184, .iadd, 1), (185, .istore 15, 2), (187, .iload 9, 2), (189, .istore 10, 2), (191, .iload 8, 2), (193, .istore 9, 2), (195, .iload 7, 2), (197, .istore 8, 2), (199, .iload 6, 2), (201, .iload 13, 2), (203, .iadd, 1), (204, .istore 7, 2), (206, .iload 5, 2), (208, .istore 6, 2), (210, .iload 4, 2), (212, .istore 5, 2), (214, .iload_n 3, 1), (215, .istore 4, 2), (217, .iload 13, 2), (219, .iload 15, 2), (221, .iadd, 1), (222, .istore_n 3, 1), (223, .iinc 11 1, 3), (226, .goto (-152), 3), (229, .aload_n 0, 1), (230, .getfield 7, 3), (233, .iconst 0, 1), (234, .dup2, 1), (235, .iaload, 1), (236, .iload_n 3, 1), (237, .iadd, 1), (238, .iastore, 1), (239, .aload_n 0, 1), (240, .getfield 7, 3), (243, .iconst 1, 1), (244, .dup2, 1), (245, .iaload, 1), (246, .iload 4, 2), (248, .iadd, 1), (249, .iastore, 1), (250, .aload_n 0, 1), (251, .getfield 7, 3), (254, .iconst 2, 1), (255, .dup2, 1), (256, .iaload, 1), (257, .iload 5, 2), (259, .iadd, 1), (260, .iastore, 1), (261, .aload_n 0, 1), (262, .getfield 7, 3), (265, .iconst 3, 1), (266, .dup2, 1), (267, .iaload, 1), (268, .iload 6, 2), (270, .iadd, 1), (271, .iastore, 1), (272, .aload_n 0, 1), (273, .getfield 7, 3), (276, .iconst 4, 1), (277, .dup2, 1), (278, .iaload, 1), (279, .iload 7, 2), (281, .iadd, 1), (282, .iastore, 1), (283, .aload_n 0, 1), (284, .getfield 7, 3), (287, .iconst 5, 1), (288, .dup2, 1), (289, .iaload, 1), (290, .iload 8, 2), (292, .iadd, 1), (293, .iastore, 1), (294, .aload_n 0, 1), (295, .getfield 7, 3), (298, .bipush 6, 2), (300, .dup2, 1), (301, .iaload, 1), (302, .iload 9, 2), (304, .iadd, 1), (305, .iastore, 1), (306, .aload_n 0, 1), (307, .getfield 7, 3), (310, .bipush 7, 2), (312, .dup2, 1), (313, .iaload, 1), (314, .iload 10, 2), (316, .iadd, 1), (317, .iastore, 1), (318, .return_, 1)]
theorem dk_Sha_compress : fx_dec prog_12_method_5_code dl_Sha_compress = true := by decide +kernel
theorem d_Sha_compress_0 : decode prog_12_method_5_code 0 = .ok (.aload_n 0, 1) := fx_dat dk_Sha_compress 0 rfl
theorem d_Sha_compress_1 : decode prog_12_method_5_code 1 = .ok (.aload_n 1, 1) := fx_dat dk_Sha_compress 1 rfl
theorem d_Sha_compress_2 : decode prog_12_method_5_code 2 = .ok (.iload_n 2, 1) := fx_dat dk_Sha_compress 2 rfl
theorem d_Sha_compress_3 : decode prog_12_method_5_code 3 = .ok (.invokevirtual 38, 3) := fx_dat dk_Sha_compress 3 rfl
theorem d_Sha_compress_6 : decode prog_12_method_5_code 6 = .ok (.aload_n 0, 1) := fx_dat dk_Sha_compress 4 rfl
theorem d_Sha_compress_7 : decode prog_12_method_5_code 7 = .ok (.getfield 7, 3) := fx_dat dk_Sha_compress 5 rfl
theorem d_Sha_compress_10 : decode prog_12_method_5_code 10 = .ok (.iconst 0, 1) := fx_dat dk_Sha_compress 6 rfl
theorem d_Sha_compress_11 : decode prog_12_method_5_code 11 = .ok (.iaload, 1) := fx_dat dk_Sha_compress 7 rfl
theorem d_Sha_compress_12 : decode prog_12_method_5_code 12 = .ok (.istore_n 3, 1) := fx_dat dk_Sha_compress 8 rfl
theorem d_Sha_compress_13 : decode prog_12_method_5_code 13 = .ok (.aload_n 0, 1) := fx_dat dk_Sha_compress 9 rfl
theorem d_Sha_compress_14 : decode prog_12_method_5_code 14 = .ok (.getfield 7, 3) := fx_dat dk_Sha_compress 10 rfl
theorem d_Sha_compress_17 : decode prog_12_method_5_code 17 = .ok (.iconst 1, 1) := fx_dat dk_Sha_compress 11 rfl
theorem d_Sha_compress_18 : decode prog_12_method_5_code 18 = .ok (.iaload, 1) := fx_dat dk_Sha_compress 12 rfl
theorem d_Sha_compress_19 : decode prog_12_method_5_code 19 = .ok (.istore 4, 2) := fx_dat dk_Sha_compress 13 rfl
theorem d_Sha_compress_21 : decode prog_12_method_5_code 21 = .ok (.aload_n 0, 1) := fx_dat dk_Sha_compress 14 rfl
theorem d_Sha_compress_22 : decode prog_12_method_5_code 22 = .ok (.getfield 7, 3) := fx_dat dk_Sha_compress 15 rfl
theorem d_Sha_compress_25 : decode prog_12_method_5_code 25 = .ok (.iconst 2, 1) := fx_dat dk_Sha_compress 16 rfl
theorem d_Sha_compress_26 : decode prog_12_method_5_code 26 = .ok (.iaload, 1) := fx_dat dk_Sha_compress 17 rfl
theorem d_Sha_compress_27 : decode prog_12_method_5_code 27 = .ok (.istore 5, 2) := fx_dat dk_Sha_compress 18 rfl
theorem d_Sha_compress_29 : decode prog_12_method_5_code 29 = .ok (.aload_n 0, 1) := fx_dat dk_Sha_compress 19 rfl
theorem d_Sha_compress_30 : decode prog_12_method_5_code 30 = .ok (.getfield 7, 3) := fx_dat dk_Sha_compress 20 rfl
theorem d_Sha_compress_33 : decode prog_12_method_5_code 33 = .ok (.iconst 3, 1) := fx_dat dk_Sha_compress 21 rfl
theorem d_Sha_compress_34 : decode prog_12_method_5_code 34 = .ok (.iaload, 1) := fx_dat dk_Sha_compress 22 rfl
theorem d_Sha_compress_35 : decode prog_12_method_5_code 35 = .ok (.istore 6, 2) := fx_dat dk_Sha_compress 23 rfl
theorem d_Sha_compress_37 : decode prog_12_method_5_code 37 = .ok (.aload_n 0, 1) := fx_dat dk_Sha_compress 24 rfl
theorem d_Sha_compress_38 : decode prog_12_method_5_code 38 = .ok (.getfield 7, 3) := fx_dat dk_Sha_compress 25 rfl
theorem d_Sha_compress_41 : decode prog_12_method_5_code 41 = .ok (.iconst 4, 1) := fx_dat dk_Sha_compress 26 rfl
theorem d_Sha_compress_42 : decode prog_12_method_5_code 42 = .ok (.iaload, 1) := fx_dat dk_Sha_compress 27 rfl
theorem d_Sha_compress_43 : decode prog_12_method_5_code 43 = .ok (.istore 7, 2) := fx_dat dk_Sha_compress 28 rfl
theorem d_Sha_compress_45 : decode prog_12_method_5_code 45 = .ok (.aload_n 0, 1) := fx_dat dk_Sha_compress 29 rfl
theorem d_Sha_compress_46 : decode prog_12_method_5_code 46 = .ok (.getfield 7, 3) := fx_dat dk_Sha_compress 30 rfl
theorem d_Sha_compress_49 : decode prog_12_method_5_code 49 = .ok (.iconst 5, 1) := fx_dat dk_Sha_compress 31 rfl
theorem d_Sha_compress_50 : decode prog_12_method_5_code 50 = .ok (.iaload, 1) := fx_dat dk_Sha_compress 32 rfl
theorem d_Sha_compress_51 : decode prog_12_method_5_code 51 = .ok (.istore 8, 2) := fx_dat dk_Sha_compress 33 rfl
theorem d_Sha_compress_53 : decode prog_12_method_5_code 53 = .ok (.aload_n 0, 1) := fx_dat dk_Sha_compress 34 rfl
theorem d_Sha_compress_54 : decode prog_12_method_5_code 54 = .ok (.getfield 7, 3) := fx_dat dk_Sha_compress 35 rfl
theorem d_Sha_compress_57 : decode prog_12_method_5_code 57 = .ok (.bipush 6, 2) := fx_dat dk_Sha_compress 36 rfl
theorem d_Sha_compress_59 : decode prog_12_method_5_code 59 = .ok (.iaload, 1) := fx_dat dk_Sha_compress 37 rfl
theorem d_Sha_compress_60 : decode prog_12_method_5_code 60 = .ok (.istore 9, 2) := fx_dat dk_Sha_compress 38 rfl
theorem d_Sha_compress_62 : decode prog_12_method_5_code 62 = .ok (.aload_n 0, 1) := fx_dat dk_Sha_compress 39 rfl
theorem d_Sha_compress_63 : decode prog_12_method_5_code 63 = .ok (.getfield 7, 3) := fx_dat dk_Sha_compress 40 rfl
theorem d_Sha_compress_66 : decode prog_12_method_5_code 66 = .ok (.bipush 7, 2) := fx_dat dk_Sha_compress 41 rfl
theorem d_Sha_compress_68 : decode prog_12_method_5_code 68 = .ok (.iaload, 1) := fx_dat dk_Sha_compress 42 rfl
theorem d_Sha_compress_69 : decode prog_12_method_5_code 69 = .ok (.istore 10, 2) := fx_dat dk_Sha_compress 43 rfl
theorem d_Sha_compress_71 : decode prog_12_method_5_code 71 = .ok (.iconst 0, 1) := fx_dat dk_Sha_compress 44 rfl
theorem d_Sha_compress_72 : decode prog_12_method_5_code 72 = .ok (.istore 11, 2) := fx_dat dk_Sha_compress 45 rfl
theorem d_Sha_compress_74 : decode prog_12_method_5_code 74 = .ok (.iload 11, 2) := fx_dat dk_Sha_compress 46 rfl
theorem d_Sha_compress_76 : decode prog_12_method_5_code 76 = .ok (.bipush 64, 2) := fx_dat dk_Sha_compress 47 rfl
theorem d_Sha_compress_78 : decode prog_12_method_5_code 78 = .ok (.if_icmp .ge 151, 3) := fx_dat dk_Sha_compress 48 rfl
theorem d_Sha_compress_81 : decode prog_12_method_5_code 81 = .ok (.iload 7, 2) := fx_dat dk_Sha_compress 49 rfl
theorem d_Sha_compress_83 : decode prog_12_method_5_code 83 = .ok (.bipush 6, 2) := fx_dat dk_Sha_compress 50 rfl
theorem d_Sha_compress_85 : decode prog_12_method_5_code 85 = .ok (.invokestatic 32, 3) := fx_dat dk_Sha_compress 51 rfl
theorem d_Sha_compress_88 : decode prog_12_method_5_code 88 = .ok (.iload 7, 2) := fx_dat dk_Sha_compress 52 rfl
theorem d_Sha_compress_90 : decode prog_12_method_5_code 90 = .ok (.bipush 11, 2) := fx_dat dk_Sha_compress 53 rfl
theorem d_Sha_compress_92 : decode prog_12_method_5_code 92 = .ok (.invokestatic 32, 3) := fx_dat dk_Sha_compress 54 rfl
theorem d_Sha_compress_95 : decode prog_12_method_5_code 95 = .ok (.ixor, 1) := fx_dat dk_Sha_compress 55 rfl
theorem d_Sha_compress_96 : decode prog_12_method_5_code 96 = .ok (.iload 7, 2) := fx_dat dk_Sha_compress 56 rfl
theorem d_Sha_compress_98 : decode prog_12_method_5_code 98 = .ok (.bipush 25, 2) := fx_dat dk_Sha_compress 57 rfl
theorem d_Sha_compress_100 : decode prog_12_method_5_code 100 = .ok (.invokestatic 32, 3) := fx_dat dk_Sha_compress 58 rfl
theorem d_Sha_compress_103 : decode prog_12_method_5_code 103 = .ok (.ixor, 1) := fx_dat dk_Sha_compress 59 rfl
theorem d_Sha_compress_104 : decode prog_12_method_5_code 104 = .ok (.istore 12, 2) := fx_dat dk_Sha_compress 60 rfl
theorem d_Sha_compress_106 : decode prog_12_method_5_code 106 = .ok (.iload 10, 2) := fx_dat dk_Sha_compress 61 rfl
theorem d_Sha_compress_108 : decode prog_12_method_5_code 108 = .ok (.iload 12, 2) := fx_dat dk_Sha_compress 62 rfl
theorem d_Sha_compress_110 : decode prog_12_method_5_code 110 = .ok (.iadd, 1) := fx_dat dk_Sha_compress 63 rfl
theorem d_Sha_compress_111 : decode prog_12_method_5_code 111 = .ok (.iload 7, 2) := fx_dat dk_Sha_compress 64 rfl
theorem d_Sha_compress_113 : decode prog_12_method_5_code 113 = .ok (.iload 8, 2) := fx_dat dk_Sha_compress 65 rfl
theorem d_Sha_compress_115 : decode prog_12_method_5_code 115 = .ok (.iand, 1) := fx_dat dk_Sha_compress 66 rfl
theorem d_Sha_compress_116 : decode prog_12_method_5_code 116 = .ok (.iload 7, 2) := fx_dat dk_Sha_compress 67 rfl
theorem d_Sha_compress_118 : decode prog_12_method_5_code 118 = .ok (.iconst (-1), 1) := fx_dat dk_Sha_compress 68 rfl
theorem d_Sha_compress_119 : decode prog_12_method_5_code 119 = .ok (.ixor, 1) := fx_dat dk_Sha_compress 69 rfl
theorem d_Sha_compress_120 : decode prog_12_method_5_code 120 = .ok (.iload 9, 2) := fx_dat dk_Sha_compress 70 rfl
theorem d_Sha_compress_122 : decode prog_12_method_5_code 122 = .ok (.iand, 1) := fx_dat dk_Sha_compress 71 rfl
theorem d_Sha_compress_123 : decode prog_12_method_5_code 123 = .ok (.ixor, 1) := fx_dat dk_Sha_compress 72 rfl
theorem d_Sha_compress_124 : decode prog_12_method_5_code 124 = .ok (.iadd, 1) := fx_dat dk_Sha_compress 73 rfl
theorem d_Sha_compress_125 : decode prog_12_method_5_code 125 = .ok (.getstatic 42, 3) := fx_dat dk_Sha_compress 74 rfl
theorem d_Sha_compress_128 : decode prog_12_method_5_code 128 = .ok (.iload 11, 2) := fx_dat dk_Sha_compress 75 rfl
theorem d_Sha_compress_130 : decode prog_12_method_5_code 130 = .ok (.laload, 1) := fx_dat dk_Sha_compress 76 rfl
theorem d_Sha_compress_131 : decode prog_12_method_5_code 131 = .ok (.bipush 32, 2) := fx_dat dk_Sha_compress 77 rfl
theorem d_Sha_compress_133 : decode prog_12_method_5_code 133 = .ok (.lushr, 1) := fx_dat dk_Sha_compress 78 rfl
theorem d_Sha_compress_134 : decode prog_12_method_5_code 134 = .ok (.l2i, 1) := fx_dat dk_Sha_compress 79 rfl
theorem d_Sha_compress_135 : decode prog_12_method_5_code 135 = .ok (.iadd, 1) := fx_dat dk_Sha_compress 80 rfl
theorem d_Sha_compress_136 : decode prog_12_method_5_code 136 = .ok (.aload_n 0, 1) := fx_dat dk_Sha_compress 81 rfl
theorem d_Sha_compress_137 : decode prog_12_method_5_code 137 = .ok (.getfield 13, 3) := fx_dat dk_Sha_compress 82 rfl
theorem d_Sha_compress_140 : decode prog_12_method_5_code 140 = .ok (.iload 11, 2) := fx_dat dk_Sha_compress 83 rfl
theorem d_Sha_compress_142 : decode prog_12_method_5_code 142 = .ok (.iaload, 1) := fx_dat dk_Sha_compress 84 rfl
theorem d_Sha_compress_143 : decode prog_12_method_5_code 143 = .ok (.iadd, 1) := fx_dat dk_Sha_compress 85 rfl
theorem d_Sha_compress_144 : decode prog_12_method_5_code 144 = .ok (.istore 13, 2) := fx_dat dk_Sha_compress 86 rfl
theorem d_Sha_compress_146 : decode prog_12_method_5_code 146 = .ok (.iload_n 3, 1) := fx_dat dk_Sha_compress 87 rfl
theorem d_Sha_compress_147 : decode prog_12_method_5_code 147 = .ok (.iconst 2, 1) := fx_dat dk_Sha_compress 88 rfl
theorem d_Sha_compress_148 : decode prog_12_method_5_code 148 = .ok (.invokestatic 32, 3) := fx_dat dk_Sha_compress 89 rfl
theorem d_Sha_compress_151 : decode prog_12_method_5_code 151 = .ok (.iload_n 3, 1) := fx_dat dk_Sha_compress 90 rfl
theorem d_Sha_compress_152 : decode prog_12_method_5_code 152 = .ok (.bipush 13, 2) := fx_dat dk_Sha_compress 91 rfl
theorem d_Sha_compress_154 : decode prog_12_method_5_code 154 = .ok (.invokestatic 32, 3) := fx_dat dk_Sha_compress 92 rfl
theorem d_Sha_compress_157 : decode prog_12_method_5_code 157 = .ok (.ixor, 1) := fx_dat dk_Sha_compress 93 rfl
theorem d_Sha_compress_158 : decode prog_12_method_5_code 158 = .ok (.iload_n 3, 1) := fx_dat dk_Sha_compress 94 rfl
theorem d_Sha_compress_159 : decode prog_12_method_5_code 159 = .ok (.bipush 22, 2) := fx_dat dk_Sha_compress 95 rfl
theorem d_Sha_compress_161 : decode prog_12_method_5_code 161 = .ok (.invokestatic 32, 3) := fx_dat dk_Sha_compress 96 rfl
theorem d_Sha_compress_164 : decode prog_12_method_5_code 164 = .ok (.ixor, 1) := fx_dat dk_Sha_compress 97 rfl
theorem d_Sha_compress_165 : decode prog_12_method_5_code 165 = .ok (.istore 14, 2) := fx_dat dk_Sha_compress 98 rfl
theorem d_Sha_compress_167 : decode prog_12_method_5_code 167 = .ok (.iload 14, 2) := fx_dat dk_Sha_compress 99 rfl
theorem d_Sha_compress_169 : decode prog_12_method_5_code 169 = .ok (.iload_n 3, 1) := fx_dat dk_Sha_compress 100 rfl
theorem d_Sha_compress_170 : decode prog_12_method_5_code 170 = .ok (.iload 4, 2) := fx_dat dk_Sha_compress 101 rfl
theorem d_Sha_compress_172 : decode prog_12_method_5_code 172 = .ok (.iand, 1) := fx_dat dk_Sha_compress 102 rfl
theorem d_Sha_compress_173 : decode prog_12_method_5_code 173 = .ok (.iload_n 3, 1) := fx_dat dk_Sha_compress 103 rfl
theorem d_Sha_compress_174 : decode prog_12_method_5_code 174 = .ok (.iload 5, 2) := fx_dat dk_Sha_compress 104 rfl
theorem d_Sha_compress_176 : decode prog_12_method_5_code 176 = .ok (.iand, 1) := fx_dat dk_Sha_compress 105 rfl
theorem d_Sha_compress_177 : decode prog_12_method_5_code 177 = .ok (.ixor, 1) := fx_dat dk_Sha_compress 106 rfl
theorem d_Sha_compress_178 : decode prog_12_method_5_code 178 = .ok (.iload 4, 2) := fx_dat dk_Sha_compress 107 rfl
theorem d_Sha_compress_180 : decode prog_12_method_5_code 180 = .ok (.iload 5, 2) := fx_dat dk_Sha_compress 108 rfl
theorem d_Sha_compress_182 : decode prog_12_method_5_code 182 = .ok (.iand, 1) := fx_dat dk_Sha_compress 109 rfl
theorem d_Sha_compress_183 : decode prog_12_method_5_code 183 = .ok (.ixor, 1) := fx_dat dk_Sha_compress 110 rfl
theorem d_Sha_compress_184 : decode prog_12_method_5_code 184 = .ok (.iadd, 1) := fx_dat dk_Sha_compress 111 rfl
theorem d_Sha_compress_185 : decode prog_12_method_5_code 185 = .ok (.istore 15, 2) := fx_dat dk_Sha_compress 112 rfl
theorem d_Sha_compress_187 : decode prog_12_method_5_code 187 = .ok (.iload 9, 2) := fx_dat dk_Sha_compress 113 rfl
theorem d_Sha_compress_189 : decode prog_12_method_5_code 189 = .ok (.istore 10, 2) := fx_dat dk_Sha_compress 114 rfl
theorem d_Sha_compress_191 : decode prog_12_method_5_code 191 = .ok (.iload 8, 2) := fx_dat dk_Sha_compress 115 rfl
theorem d_Sha_compress_193 : decode prog_12_method_5_code 193 = .ok (.istore 9, 2) := fx_dat dk_Sha_compress 116 rfl
theorem d_Sha_compress_195 : decode prog_12_method_5_code 195 = .ok (.iload 7, 2) := fx_dat dk_Sha_compress 117 rfl
theorem d_Sha_compress_197 : decode prog_12_method_5_code 197 = .ok (.istore 8, 2) := fx_dat dk_Sha_compress 118 rfl
theorem d_Sha_compress_199 : decode prog_12_method_5_code 199 = .ok (.iload 6, 2) := fx_dat dk_Sha_compress 119 rfl
theorem d_Sha_compress_201 : decode prog_12_method_5_code 201 = .ok (.iload 13, 2) := fx_dat dk_Sha_compress 120 rfl
theorem d_Sha_compress_203 : decode prog_12_method_5_code 203 = .ok (.iadd, 1) := fx_dat dk_Sha_compress 121 rfl
theorem d_Sha_compress_204 : decode prog_12_method_5_code 204 = .ok (.istore 7, 2) := fx_dat dk_Sha_compress 122 rfl
theorem d_Sha_compress_206 : decode prog_12_method_5_code 206 = .ok (.iload 5, 2) := fx_dat dk_Sha_compress 123 rfl
theorem d_Sha_compress_208 : decode prog_12_method_5_code 208 = .ok (.istore 6, 2) := fx_dat dk_Sha_compress 124 rfl
theorem d_Sha_compress_210 : decode prog_12_method_5_code 210 = .ok (.iload 4, 2) := fx_dat dk_Sha_compress 125 rfl
theorem d_Sha_compress_212 : decode prog_12_method_5_code 212 = .ok (.istore 5, 2) := fx_dat dk_Sha_compress 126 rfl
theorem d_Sha_compress_214 : decode prog_12_method_5_code 214 = .ok (.iload_n 3, 1) := fx_dat dk_Sha_compress 127 rfl
theorem d_Sha_compress_215 : decode prog_12_method_5_code 215 = .ok (.istore 4, 2) := fx_dat dk_Sha_compress 128 rfl
theorem d_Sha_compress_217 : decode prog_12_method_5_code 217 = .ok (.iload 13, 2) := fx_dat dk_Sha_compress 129 rfl
theorem d_Sha_compress_219 : decode prog_12_method_5_code 219 = .ok (.iload 15, 2) := fx_dat dk_Sha_compress 130 rfl
theorem d_Sha_compress_221 : decode prog_12_method_5_code 221 = .ok (.iadd, 1) := fx_dat dk_Sha_compress 131 rfl
theorem d_Sha_compress_222 : decode prog_12_method_5_code 222 = .ok (.istore_n 3, 1) := fx_dat dk_Sha_compress 132 rfl
theorem d_Sha_compress_223 : decode prog_12_method_5_code 223 = .ok (.iinc 11 1, 3) := fx_dat dk_Sha_compress 133 rfl
theorem d_Sha_compress_226 : decode prog_12_method_5_code 226 = .ok (.goto (-152), 3) := fx_dat dk_Sha_compress 134 rfl
theorem d_Sha_compress_229 : decode prog_12_method_5_code 229 = .ok (.aload_n 0, 1) := fx_dat dk_Sha_compress 135 rfl
theorem d_Sha_compress_230 : decode prog_12_method_5_code 230 = .ok (.getfield 7, 3) := fx_dat dk_Sha_compress 136 rfl
theorem d_Sha_compress_233 : decode prog_12_method_5_code 233 = .ok (.iconst 0, 1) := fx_dat dk_Sha_compress 137 rfl
theorem d_Sha_compress_234 : decode prog_12_method_5_code 234 = .ok (.dup2, 1) := fx_dat dk_Sha_compress 138 rfl
theorem d_Sha_compress_235 : decode prog_12_method_5_code 235 = .ok (.iaload, 1) := fx_dat dk_Sha_compress 139 rfl
theorem d_Sha_compress_236 : decode prog_12_method_5_code 236 = .ok (.iload_n 3, 1) := fx_dat dk_Sha_compress 140 rfl
theorem d_Sha_compress_237 : decode prog_12_method_5_code 237 = .ok (.iadd, 1) := fx_dat dk_Sha_compress 141 rfl
theorem d_Sha_compress_238 : decode prog_12_method_5_code 238 = .ok (.iastore, 1) := fx_dat dk_Sha_compress 142 rfl
theorem d_Sha_compress_239 : decode prog_12_method_5_code 239 = .ok (.aload_n 0, 1) := fx_dat dk_Sha_compress 143 rfl
theorem d_Sha_compress_240 : decode prog_12_method_5_code 240 = .ok (.getfield 7, 3) := fx_dat dk_Sha_compress 144 rfl
theorem d_Sha_compress_243 : decode prog_12_method_5_code 243 = .ok (.iconst 1, 1) := fx_dat dk_Sha_compress 145 rfl
theorem d_Sha_compress_244 : decode prog_12_method_5_code 244 = .ok (.dup2, 1) := fx_dat dk_Sha_compress 146 rfl
theorem d_Sha_compress_245 : decode prog_12_method_5_code 245 = .ok (.iaload, 1) := fx_dat dk_Sha_compress 147 rfl
theorem d_Sha_compress_246 : decode prog_12_method_5_code 246 = .ok (.iload 4, 2) := fx_dat dk_Sha_compress 148 rfl
theorem d_Sha_compress_248 : decode prog_12_method_5_code 248 = .ok (.iadd, 1) := fx_dat dk_Sha_compress 149 rfl
theorem d_Sha_compress_249 : decode prog_12_method_5_code 249 = .ok (.iastore, 1) := fx_dat dk_Sha_compress 150 rfl
theorem d_Sha_compress_250 : decode prog_12_method_5_code 250 = .ok (.aload_n 0, 1) := fx_dat dk_Sha_compress 151 rfl
theorem d_Sha_compress_251 : decode prog_12_method_5_code 251 = .ok (.getfield 7, 3) := fx_dat dk_Sha_compress 152 rfl
theorem d_Sha_compress_254 : decode prog_12_method_5_code 254 = .ok (.iconst 2, 1) := fx_dat dk_Sha_compress 153 rfl
theorem d_Sha_compress_255 : decode prog_12_method_5_code 255 = .ok (.dup2, 1) := fx_dat dk_Sha_compress 154 rfl
theorem d_Sha_compress_256 : decode prog_12_method_5_code 256 = .ok (.iaload, 1) := fx_dat dk_Sha_compress 155 rfl
theorem d_Sha_compress_257 : decode prog_12_method_5_code 257 = .ok (.iload 5, 2) := fx_dat dk_Sha_compress 156 rfl
theorem d_Sha_compress_259 : decode prog_12_method_5_code 259 = .ok (.iadd, 1) := fx_dat dk_Sha_compress 157 rfl
theorem d_Sha_compress_260 : decode prog_12_method_5_code 260 = .ok (.iastore, 1) := fx_dat dk_Sha_compress 158 rfl
theorem d_Sha_compress_261 : decode prog_12_method_5_code 261 = .ok (.aload_n 0, 1) := fx_dat dk_Sha_compress 159 rfl
theorem d_Sha_compress_262 : decode prog_12_method_5_code 262 = .ok (.getfield 7, 3) := fx_dat dk_Sha_compress 160 rfl
theorem d_Sha_compress_265 : decode prog_12_method_5_code 265 = .ok (.iconst 3, 1) := fx_dat dk_Sha_compress 161 rfl
theorem d_Sha_compress_266 : decode prog_12_method_5_code 266 = .ok (.dup2, 1) := fx_dat dk_Sha_compress 162 rfl
theorem d_Sha_compress_267 : decode prog_12_method_5_code 267 = .ok (.iaload, 1) := fx_dat dk_Sha_compress 163 rfl
theorem d_Sha_compress_268 : decode prog_12_method_5_code 268 = .ok (.iload 6, 2) := fx_dat dk_Sha_compress 164 rfl
theorem d_Sha_compress_270 : decode prog_12_method_5_code 270 = .ok (.iadd, 1) := fx_dat dk_Sha_compress 165 rfl
theorem d_Sha_compress_271 : decode prog_12_method_5_code 271 = .ok (.iastore, 1) := fx_dat dk_Sha_compress 166 rfl
theorem d_Sha_compress_272 : decode prog_12_method_5_code 272 = .ok (.aload_n 0, 1) := fx_dat dk_Sha_compress 167 rfl
theorem d_Sha_compress_273 : decode prog_12_method_5_code 273 = .ok (.getfield 7, 3) := fx_dat dk_Sha_compress 168 rfl
theorem d_Sha_compress_276 : decode prog_12_method_5_code 276 = .ok (.iconst 4, 1) := fx_dat dk_Sha_compress 169 rfl
theorem d_Sha_compress_277 : decode prog_12_method_5_code 277 = .ok (.dup2, 1) := fx_dat dk_Sha_compress 170 rfl
theorem d_Sha_compress_278 : decode prog_12_method_5_code 278 = .ok (.iaload, 1) := fx_dat dk_Sha_compress 171 rfl
theorem d_Sha_compress_279 : decode prog_12_method_5_code 279 = .ok (.iload 7, 2) := fx_dat dk_Sha_compress 172 rfl
theorem d_Sha_compress_281 : decode prog_12_method_5_code 281 = .ok (.iadd, 1) := fx_dat dk_Sha_compress 173 rfl
theorem d_Sha_compress_282 : decode prog_12_method_5_code 282 = .ok (.iastore, 1) := fx_dat dk_Sha_compress 174 rfl
theorem d_Sha_compress_283 : decode prog_12_method_5_code 283 = .ok (.aload_n 0, 1) := fx_dat dk_Sha_compress 175 rfl
theorem d_Sha_compress_284 : decode prog_12_method_5_code 284 = .ok (.getfield 7, 3) := fx_dat dk_Sha_compress 176 rfl
theorem d_Sha_compress_287 : decode prog_12_method_5_code 287 = .ok (.iconst 5, 1) := fx_dat dk_Sha_compress 177 rfl
theorem d_Sha_compress_288 : decode prog_12_method_5_code 288 = .ok (.dup2, 1) := fx_dat dk_Sha_compress 178 rfl
theorem d_Sha_compress_289 : decode prog_12_method_5_code 289 = .ok (.iaload, 1) := fx_dat dk_Sha_compress 179 rfl
theorem d_Sha_compress_290 : decode prog_12_method_5_code 290 = .ok (.iload 8, 2) := fx_dat dk_Sha_compress 180 rfl
theorem d_Sha_compress_292 : decode prog_12_method_5_code 292 = .ok (.iadd, 1) := fx_dat dk_Sha_compress 181 rfl
theorem d_Sha_compress_293 : decode prog_12_method_5_code 293 = .ok (.iastore, 1) := fx_dat dk_Sha_compress 182 rfl
theorem d_Sha_compress_294 : decode prog_12_method_5_code 294 = .ok (.aload_n 0, 1) := fx_dat dk_Sha_compress 183 rfl
theorem d_Sha_compress_295 : decode prog_12_method_5_code 295 = .ok (.getfield 7, 3) := fx_dat dk_Sha_compress 184 rfl
theorem d_Sha_compress_298 : decode prog_12_method_5_code 298 = .ok (.bipush 6, 2) := fx_dat dk_Sha_compress 185 rfl
theorem d_Sha_compress_300 : decode prog_12_method_5_code 300 = .ok (.dup2, 1) := fx_dat dk_Sha_compress 186 rfl
theorem d_Sha_compress_301 : decode prog_12_method_5_code 301 = .ok (.iaload, 1) := fx_dat dk_Sha_compress 187 rfl
theorem d_Sha_compress_302 : decode prog_12_method_5_code 302 = .ok (.iload 9, 2) := fx_dat dk_Sha_compress 188 rfl
theorem d_Sha_compress_304 : decode prog_12_method_5_code 304 = .ok (.iadd, 1) := fx_dat dk_Sha_compress 189 rfl
theorem d_Sha_compress_305 : decode prog_12_method_5_code 305 = .ok (.iastore, 1) := fx_dat dk_Sha_compress 190 rfl
theorem d_Sha_compress_306 : decode prog_12_method_5_code 306 = .ok (.aload_n 0, 1) := fx_dat dk_Sha_compress 191 rfl
theorem d_Sha_compress_307 : decode prog_12_method_5_code 307 = .ok (.getfield 7, 3) := fx_dat dk_Sha_compress 192 rfl
theorem d_Sha_compress_310 : decode prog_12_method_5_code 310 = .ok (.bipush 7, 2) := fx_dat dk_Sha_compress 193 rfl
theorem d_Sha_compress_312 : decode prog_12_method_5_code 312 = .ok (.dup2, 1) := fx_dat dk_Sha_compress 194 rfl
theorem d_Sha_compress_313 : decode prog_12_method_5_code 313 = .ok (.iaload, 1) := fx_dat dk_Sha_compress 195 rfl
theorem d_Sha_compress_314 : decode prog_12_method_5_code 314 = .ok (.iload 10, 2) := fx_dat dk_Sha_compress 196 rfl
theorem d_Sha_compress_316 : decode prog_12_method_5_code 316 = .ok (.iadd, 1) := fx_dat dk_Sha_compress 197 rfl
theorem d_Sha_compress_317 : decode prog_12_method_5_code 317 = .ok (.iastore, 1) := fx_dat dk_Sha_compress 198 rfl
theorem d_Sha_compress_318 : decode prog_12_method_5_code 318 = .ok (.return_, 1) := fx_dat dk_Sha_compress 199 rfl
def m_Sha_compress_74_b (Q : AH → Prop) (X74 : Int32 × Int32 × Int32 × Int32 × Int32 × Int32 × Int32 × Int32 × Int32 × AH → Prop) (r0 : Nat) (x3 : Int32) (x4 : Int32) (x5 : Int32) (x6 : Int32) (x7 : Int32) (x8 : Int32) (x9 : Int32) (x10 : Int32) (x11 : Int32) (h : AH) : Prop := ((64 : Int32) ≤ x11 → hp_k h r0 = 6 ∧ ∃ b1, hp_R h r0 0 = some b1 ∧ ik (hp_k h b1) ∧ vp_in (0 : Int32) (hp_n h b1) ∧ hp_k h b1 = 102 ∧ vp_in (0 : Int32) (hp_n h b1) ∧ ∀ h1 : AH, h1 = up_I h b1 ((0 : Int32)).toNatClampNeg ((hp_I h b1 (0 : Int32).toNatClampNeg) + x3) → vp_in (1 : Int32) (hp_n h1 b1) ∧ vp_in (1 : Int32) (hp_n h1 b1) ∧ ∀ h2 : AH, h2 = up_I h1 b1 ((1 : Int32)).toNatClampNeg ((hp_I h1 b1 (1 : Int32).toNatClampNeg) + x4) → vp_in (2 : Int32) (hp_n h2 b1) ∧ vp_in (2 : Int32) (hp_n h2 b1) ∧ ∀ h3 : AH, h3 = up_I h2 b1 ((2 : Int32)).toNatClampNeg ((hp_I h2 b1 (2 : Int32).toNatClampNeg) + x5) → vp_in (3 : Int32) (hp_n h3 b1) ∧ vp_in (3 : Int32) (hp_n h3 b1) ∧ ∀ h4 : AH, h4 = up_I h3 b1 ((3 : Int32)).toNatClampNeg ((hp_I h3 b1 (3 : Int32).toNatClampNeg) + x6) → vp_in (4 : Int32) (hp_n h4 b1) ∧ vp_in (4 : Int32) (hp_n h4 b1) ∧ ∀ h5 : AH, h5 = up_I h4 b1 ((4 : Int32)).toNatClampNeg ((hp_I h4 b1 (4 : Int32).toNatClampNeg) + x7) → vp_in (5 : Int32) (hp_n h5 b1) ∧ vp_in (5 : Int32) (hp_n h5 b1) ∧ ∀ h6 : AH, h6 = up_I h5 b1 ((5 : Int32)).toNatClampNeg ((hp_I h5 b1 (5 : Int32).toNatClampNeg) + x8) → vp_in (6 : Int32) (hp_n h6 b1) ∧ vp_in (6 : Int32) (hp_n h6 b1) ∧ ∀ h7 : AH, h7 = up_I h6 b1 ((6 : Int32)).toNatClampNeg ((hp_I h6 b1 (6 : Int32).toNatClampNeg) + x9) → vp_in (7 : Int32) (hp_n h7 b1) ∧ vp_in (7 : Int32) (hp_n h7 b1) ∧ ∀ h8 : AH, h8 = up_I h7 b1 ((7 : Int32)).toNatClampNeg ((hp_I h7 b1 (7 : Int32).toNatClampNeg) + x10) → Q h8) ∧ (¬ (64 : Int32) ≤ x11 → m_Int_rotateRight (fun v1 h9 => fx_ext h h9 → m_Int_rotateRight (fun v2 h10 => fx_ext h9 h10 → m_Int_rotateRight (fun v3 h11 => fx_ext h10 h11 → ∀ v4 : Int32, v4 = ((v1 ^^^ v2) ^^^ v3) → lk (hp_k h11 (hp_c h11 0)) ∧ vp_in x11 (hp_n h11 (hp_c h11 0)) ∧ hp_k h11 r0 = 6 ∧ ∃ b2, hp_R h11 r0 1 = some b2 ∧ ik (hp_k h11 b2) ∧ vp_in x11 (hp_n h11 b2) ∧ ∀ v5 : Int32, v5 = ((((x10 + v4) + ((x7 &&& x8) ^^^ ((x7 ^^^ (-1 : Int32)) &&& x9))) + (((sh_lu (hp_L h11 (hp_c h11 0) x11.toNatClampNeg) (32 : Int32))).toInt32)) + (hp_I h11 b2 x11.toNatClampNeg)) → m_Int_rotateRight (fun v6 h12 => fx_ext h11 h12 → m_Int_rotateRight (fun v7 h13 => fx_ext h12 h13 → m_Int_rotateRight (fun v8 h14 => fx_ext h13 h14 → ∀ v9 : Int32, v9 = ((v6 ^^^ v7) ^^^ v8) → ∀ v10 : Int32, v10 = (v9 + (((x3 &&& x4) ^^^ (x3 &&& x5)) ^^^ (x4 &&& x5))) → ∀ v11 : Int32, v11 = (x6 + v5) → ∀ v12 : Int32, v12 = (v5 + v10) → ∀ v13 : Int32, v13 = (x11 + (1 : Int32)) → X74 (v12, x3, x4, x5, v11, x7, x8, x9, v13, h14)) x3 (22 : Int32) h13) x3 (13 : Int32) h12) x3 (2 : Int32) h11) x7 (25 : Int32) h10) x7 (11 : Int32) h9) x7 (6 : Int32) h)
def m_Sha_compress_74 (Q : AH → Prop) (r0 : Nat) (x3 : Int32) (x4 : Int32) (x5 : Int32) (x6 : Int32) (x7 : Int32) (x8 : Int32) (x9 : Int32) (x10 : Int32) (x11 : Int32) (h : AH) : Prop := fx_loop (fun (X74 : Int32 × Int32 × Int32 × Int32 × Int32 × Int32 × Int32 × Int32 × Int32 × AH → Prop) (st : Int32 × Int32 × Int32 × Int32 × Int32 × Int32 × Int32 × Int32 × Int32 × AH) => m_Sha_compress_74_b Q X74 r0 st.1 st.2.1 st.2.2.1 st.2.2.2.1 st.2.2.2.2.1 st.2.2.2.2.2.1 st.2.2.2.2.2.2.1 st.2.2.2.2.2.2.2.1 st.2.2.2.2.2.2.2.2.1 st.2.2.2.2.2.2.2.2.2) (x3, x4, x5, x6, x7, x8, x9, x10, x11, h)
def m_Sha_compress (Q : AH → Prop) (r0 : Nat) (r1 : Nat) (x2 : Int32) (h : AH) : Prop := hp_k h r0 = 6 ∧ m_Sha_spread (fun h1 => fx_ext h h1 → ∃ b1, hp_R h1 r0 0 = some b1 ∧ ik (hp_k h1 b1) ∧ vp_in (0 : Int32) (hp_n h1 b1) ∧ ∀ v1 : Int32, v1 = (hp_I h1 b1 (0 : Int32).toNatClampNeg) → vp_in (1 : Int32) (hp_n h1 b1) ∧ ∀ v2 : Int32, v2 = (hp_I h1 b1 (1 : Int32).toNatClampNeg) → vp_in (2 : Int32) (hp_n h1 b1) ∧ ∀ v3 : Int32, v3 = (hp_I h1 b1 (2 : Int32).toNatClampNeg) → vp_in (3 : Int32) (hp_n h1 b1) ∧ ∀ v4 : Int32, v4 = (hp_I h1 b1 (3 : Int32).toNatClampNeg) → vp_in (4 : Int32) (hp_n h1 b1) ∧ ∀ v5 : Int32, v5 = (hp_I h1 b1 (4 : Int32).toNatClampNeg) → vp_in (5 : Int32) (hp_n h1 b1) ∧ ∀ v6 : Int32, v6 = (hp_I h1 b1 (5 : Int32).toNatClampNeg) → vp_in (6 : Int32) (hp_n h1 b1) ∧ ∀ v7 : Int32, v7 = (hp_I h1 b1 (6 : Int32).toNatClampNeg) → vp_in (7 : Int32) (hp_n h1 b1) ∧ ∀ v8 : Int32, v8 = (hp_I h1 b1 (7 : Int32).toNatClampNeg) → m_Sha_compress_74 Q r0 v1 v2 v3 v4 v5 v6 v7 v8 (0 : Int32) h1) r0 r1 x2 h
theorem b_Sha_compress_74 {p : Program} {l : Launch} {e : Env} {R : Room} {s : State} {m : MethodId} {args : Array Value} {below : List Frame} {meth : Method} {c : Code} {D : DD} {h0 : AH} {Q : AH → Prop} (C : fx_CX D y_Sha_compress prog_12_method_5_code 16 2 38 (none) [] h0 p R s m meth c) (hl : l.flags = flags0) (r0 : Nat) (x3 : Int32) (x4 : Int32) (x5 : Int32) (x6 : Int32) (x7 : Int32) (x8 : Int32) (x9 : Int32) (x10 : Int32) (x11 : Int32) (h : AH) (hw : m_Sha_compress_74 Q r0 x3 x4 x5 x6 x7 x8 x9 x10 x11 h) : ∀ (ls : Array Slot) (H : Heap) (locs : List Loc) (cells slots : Nat), lv_has ls 16 [(0, .ref r0), (3, .int x3), (4, .int x4), (5, .int x5), (6, .int x6), (7, .int x7), (8, .int x8), (9, .int x9), (10, .int x10), (11, .int x11)] → fx_F D h0 h H locs cells slots → W p l e R s m args below meth c H locs cells slots (fx_Z D below s h0 (fx_oV Q fx_no)) (F0 m 74 ls []) := by
  refine fx_loop.use hw (fun st => ∀ (ls : Array Slot) (H : Heap) (locs : List Loc) (cells slots : Nat), lv_has ls 16 [(0, .ref r0), (3, .int st.1), (4, .int st.2.1), (5, .int st.2.2.1), (6, .int st.2.2.2.1), (7, .int st.2.2.2.2.1), (8, .int st.2.2.2.2.2.1), (9, .int st.2.2.2.2.2.2.1), (10, .int st.2.2.2.2.2.2.2.1), (11, .int st.2.2.2.2.2.2.2.2.1)] → fx_F D h0 st.2.2.2.2.2.2.2.2.2 H locs cells slots → W p l e R s m args below meth c H locs cells slots (fx_Z D below s h0 (fx_oV Q fx_no)) (F0 m 74 ls [])) (fun X74 st hX74 hw => ?_)
  obtain ⟨x3, x4, x5, x6, x7, x8, x9, x10, x11, h⟩ := st
  replace hw : m_Sha_compress_74_b Q X74 r0 x3 x4 x5 x6 x7 x8 x9 x10 x11 h := hw
  unfold m_Sha_compress_74_b at hw
  intro ls H locs cells slots hv F
  refine lv_iload C.ex C.by d_Sha_compress_74 (lv_at hv 9 rfl) ?_
  refine lv_bipush (v := (64 : Int32)) C.ex C.by d_Sha_compress_76 (by decide) ?_
  refine lv_icmp_ge C.ex C.by d_Sha_compress_78 rfl (fun hc => ?_) (fun hc => ?_)
  · replace hw := hw.1 hc
    refine lv_aload_n C.ex C.by d_Sha_compress_229 rfl (lv_at hv 0 rfl) ?_
    obtain ⟨hk1, hw⟩ := hw
    obtain ⟨b1, hb1, hw⟩ := hw
    refine fx_getR C F lf_Sha_7 hk1 rfl hb1 d_Sha_compress_230 ?_
    refine lv_iconst (v := (0 : Int32)) C.ex C.by d_Sha_compress_233 (by decide) ?_
    refine lv_dup2_11 C.ex C.by d_Sha_compress_234 rfl rfl ?_
    obtain ⟨hk2, hw⟩ := hw
    obtain ⟨hi1, hw⟩ := hw
    refine fx_iald C F hk2 hi1 d_Sha_compress_235 ?_
    refine lv_iload_n C.ex C.by d_Sha_compress_236 rfl (lv_at hv 1 rfl) ?_
    refine lv_iadd C.ex C.by d_Sha_compress_237 ?_
    obtain ⟨hk3, hw⟩ := hw
    obtain ⟨hi2, hw⟩ := hw
    let h1 : AH := up_I h b1 ((0 : Int32)).toNatClampNeg ((hp_I h b1 (0 : Int32).toNatClampNeg) + x3)
    replace hw := hw h1 rfl
    refine fx_iast C F hk3 hi2 d_Sha_compress_238 (fun H locs (F : fx_F D h0 h1 H locs _ _) => ?_)
    refine lv_aload_n C.ex C.by d_Sha_compress_239 rfl (lv_at hv 0 rfl) ?_
    refine fx_getR C F lf_Sha_7 hk1 rfl hb1 d_Sha_compress_240 ?_
    refine lv_iconst (v := (1 : Int32)) C.ex C.by d_Sha_compress_243 (by decide) ?_
    refine lv_dup2_11 C.ex C.by d_Sha_compress_244 rfl rfl ?_
    obtain ⟨hi3, hw⟩ := hw
    refine fx_iald C F (Or.inl hk3) hi3 d_Sha_compress_245 ?_
    refine lv_iload C.ex C.by d_Sha_compress_246 (lv_at hv 2 rfl) ?_
    refine lv_iadd C.ex C.by d_Sha_compress_248 ?_
    obtain ⟨hi4, hw⟩ := hw
    let h2 : AH := up_I h1 b1 ((1 : Int32)).toNatClampNeg ((hp_I h1 b1 (1 : Int32).toNatClampNeg) + x4)
    replace hw := hw h2 rfl
    refine fx_iast C F hk3 hi4 d_Sha_compress_249 (fun H locs (F : fx_F D h0 h2 H locs _ _) => ?_)
    refine lv_aload_n C.ex C.by d_Sha_compress_250 rfl (lv_at hv 0 rfl) ?_
    refine fx_getR C F lf_Sha_7 hk1 rfl hb1 d_Sha_compress_251 ?_
    refine lv_iconst (v := (2 : Int32)) C.ex C.by d_Sha_compress_254 (by decide) ?_
    refine lv_dup2_11 C.ex C.by d_Sha_compress_255 rfl rfl ?_
    obtain ⟨hi5, hw⟩ := hw
    refine fx_iald C F (Or.inl hk3) hi5 d_Sha_compress_256 ?_
    refine lv_iload C.ex C.by d_Sha_compress_257 (lv_at hv 3 rfl) ?_
    refine lv_iadd C.ex C.by d_Sha_compress_259 ?_
    obtain ⟨hi6, hw⟩ := hw
    let h3 : AH := up_I h2 b1 ((2 : Int32)).toNatClampNeg ((hp_I h2 b1 (2 : Int32).toNatClampNeg) + x5)
    replace hw := hw h3 rfl
    refine fx_iast C F hk3 hi6 d_Sha_compress_260 (fun H locs (F : fx_F D h0 h3 H locs _ _) => ?_)
    refine lv_aload_n C.ex C.by d_Sha_compress_261 rfl (lv_at hv 0 rfl) ?_
    refine fx_getR C F lf_Sha_7 hk1 rfl hb1 d_Sha_compress_262 ?_
    refine lv_iconst (v := (3 : Int32)) C.ex C.by d_Sha_compress_265 (by decide) ?_
    refine lv_dup2_11 C.ex C.by d_Sha_compress_266 rfl rfl ?_
    obtain ⟨hi7, hw⟩ := hw
    refine fx_iald C F (Or.inl hk3) hi7 d_Sha_compress_267 ?_
    refine lv_iload C.ex C.by d_Sha_compress_268 (lv_at hv 4 rfl) ?_
    refine lv_iadd C.ex C.by d_Sha_compress_270 ?_
    obtain ⟨hi8, hw⟩ := hw
    let h4 : AH := up_I h3 b1 ((3 : Int32)).toNatClampNeg ((hp_I h3 b1 (3 : Int32).toNatClampNeg) + x6)
    replace hw := hw h4 rfl
    refine fx_iast C F hk3 hi8 d_Sha_compress_271 (fun H locs (F : fx_F D h0 h4 H locs _ _) => ?_)
    refine lv_aload_n C.ex C.by d_Sha_compress_272 rfl (lv_at hv 0 rfl) ?_
    refine fx_getR C F lf_Sha_7 hk1 rfl hb1 d_Sha_compress_273 ?_
    refine lv_iconst (v := (4 : Int32)) C.ex C.by d_Sha_compress_276 (by decide) ?_
    refine lv_dup2_11 C.ex C.by d_Sha_compress_277 rfl rfl ?_
    obtain ⟨hi9, hw⟩ := hw
    refine fx_iald C F (Or.inl hk3) hi9 d_Sha_compress_278 ?_
    refine lv_iload C.ex C.by d_Sha_compress_279 (lv_at hv 5 rfl) ?_
    refine lv_iadd C.ex C.by d_Sha_compress_281 ?_
    obtain ⟨hi10, hw⟩ := hw
    let h5 : AH := up_I h4 b1 ((4 : Int32)).toNatClampNeg ((hp_I h4 b1 (4 : Int32).toNatClampNeg) + x7)
    replace hw := hw h5 rfl
    refine fx_iast C F hk3 hi10 d_Sha_compress_282 (fun H locs (F : fx_F D h0 h5 H locs _ _) => ?_)
    refine lv_aload_n C.ex C.by d_Sha_compress_283 rfl (lv_at hv 0 rfl) ?_
    refine fx_getR C F lf_Sha_7 hk1 rfl hb1 d_Sha_compress_284 ?_
    refine lv_iconst (v := (5 : Int32)) C.ex C.by d_Sha_compress_287 (by decide) ?_
    refine lv_dup2_11 C.ex C.by d_Sha_compress_288 rfl rfl ?_
    obtain ⟨hi11, hw⟩ := hw
    refine fx_iald C F (Or.inl hk3) hi11 d_Sha_compress_289 ?_
    refine lv_iload C.ex C.by d_Sha_compress_290 (lv_at hv 6 rfl) ?_
    refine lv_iadd C.ex C.by d_Sha_compress_292 ?_
    obtain ⟨hi12, hw⟩ := hw
    let h6 : AH := up_I h5 b1 ((5 : Int32)).toNatClampNeg ((hp_I h5 b1 (5 : Int32).toNatClampNeg) + x8)
    replace hw := hw h6 rfl
    refine fx_iast C F hk3 hi12 d_Sha_compress_293 (fun H locs (F : fx_F D h0 h6 H locs _ _) => ?_)
    refine lv_aload_n C.ex C.by d_Sha_compress_294 rfl (lv_at hv 0 rfl) ?_
    refine fx_getR C F lf_Sha_7 hk1 rfl hb1 d_Sha_compress_295 ?_
    refine lv_bipush (v := (6 : Int32)) C.ex C.by d_Sha_compress_298 (by decide) ?_
    refine lv_dup2_11 C.ex C.by d_Sha_compress_300 rfl rfl ?_
    obtain ⟨hi13, hw⟩ := hw
    refine fx_iald C F (Or.inl hk3) hi13 d_Sha_compress_301 ?_
    refine lv_iload C.ex C.by d_Sha_compress_302 (lv_at hv 7 rfl) ?_
    refine lv_iadd C.ex C.by d_Sha_compress_304 ?_
    obtain ⟨hi14, hw⟩ := hw
    let h7 : AH := up_I h6 b1 ((6 : Int32)).toNatClampNeg ((hp_I h6 b1 (6 : Int32).toNatClampNeg) + x9)
    replace hw := hw h7 rfl
    refine fx_iast C F hk3 hi14 d_Sha_compress_305 (fun H locs (F : fx_F D h0 h7 H locs _ _) => ?_)
    refine lv_aload_n C.ex C.by d_Sha_compress_306 rfl (lv_at hv 0 rfl) ?_
    refine fx_getR C F lf_Sha_7 hk1 rfl hb1 d_Sha_compress_307 ?_
    refine lv_bipush (v := (7 : Int32)) C.ex C.by d_Sha_compress_310 (by decide) ?_
    refine lv_dup2_11 C.ex C.by d_Sha_compress_312 rfl rfl ?_
    obtain ⟨hi15, hw⟩ := hw
    refine fx_iald C F (Or.inl hk3) hi15 d_Sha_compress_313 ?_
    refine lv_iload C.ex C.by d_Sha_compress_314 (lv_at hv 8 rfl) ?_
    refine lv_iadd C.ex C.by d_Sha_compress_316 ?_
    obtain ⟨hi16, hw⟩ := hw
    let h8 : AH := up_I h7 b1 ((7 : Int32)).toNatClampNeg ((hp_I h7 b1 (7 : Int32).toNatClampNeg) + x10)
    replace hw := hw h8 rfl
    refine fx_iast C F hk3 hi16 d_Sha_compress_317 (fun H locs (F : fx_F D h0 h8 H locs _ _) => ?_)
    exact fx_vret C F d_Sha_compress_318 (Or.inl ⟨rfl, hw⟩)
  · replace hw := hw.2 hc
    refine lv_iload C.ex C.by d_Sha_compress_81 (lv_at hv 5 rfl) ?_
    refine lv_bipush (v := (6 : Int32)) C.ex C.by d_Sha_compress_83 (by decide) ?_
    refine fx_callI C F (c_Int_rotateRight hl hw) hm_Int_rotateRight hi_Int_rotateRight hv.1 (by decide) (Nat.le_of_ble_eq_true rfl) (iv_Int_rotateRight C F lm_Sha_32 d_Sha_compress_85) (fx_out0 _) fx_eno (fun v1 h9 H locs cells slots hw hx1 F => ?_)
    replace hw := hw hx1
    refine lv_iload C.ex C.by d_Sha_compress_88 (lv_at hv 5 rfl) ?_
    refine lv_bipush (v := (11 : Int32)) C.ex C.by d_Sha_compress_90 (by decide) ?_
    refine fx_callI C F (c_Int_rotateRight hl hw) hm_Int_rotateRight hi_Int_rotateRight hv.1 (by decide) (Nat.le_of_ble_eq_true rfl) (iv_Int_rotateRight C F lm_Sha_32 d_Sha_compress_92) (fx_out0 _) fx_eno (fun v2 h10 H locs cells slots hw hx2 F => ?_)
    replace hw := hw hx2
    refine lv_ixor C.ex C.by d_Sha_compress_95 ?_
    refine lv_iload C.ex C.by d_Sha_compress_96 (lv_at hv 5 rfl) ?_
    refine lv_bipush (v := (25 : Int32)) C.ex C.by d_Sha_compress_98 (by decide) ?_
    refine fx_callI C F (c_Int_rotateRight hl hw) hm_Int_rotateRight hi_Int_rotateRight hv.1 (by decide) (Nat.le_of_ble_eq_true rfl) (iv_Int_rotateRight C F lm_Sha_32 d_Sha_compress_100) (fx_out0 _) fx_eno (fun v3 h11 H locs cells slots hw hx3 F => ?_)
    replace hw := hw hx3
    refine lv_ixor C.ex C.by d_Sha_compress_103 ?_
    let v4 : Int32 := ((v1 ^^^ v2) ^^^ v3)
    replace hw := hw v4 rfl
    refine lv_istore (lv' := [(12, .int v4), (0, .ref r0), (3, .int x3), (4, .int x4), (5, .int x5), (6, .int x6), (7, .int x7), (8, .int x8), (9, .int x9), (10, .int x10), (11, .int x11)]) C.ex C.by d_Sha_compress_104 hv (by decide) rfl (fun ls hv => ?_)
    refine lv_iload C.ex C.by d_Sha_compress_106 (lv_at hv 9 rfl) ?_
    refine lv_iload C.ex C.by d_Sha_compress_108 (lv_at hv 0 rfl) ?_
    refine lv_iadd C.ex C.by d_Sha_compress_110 ?_
    refine lv_iload C.ex C.by d_Sha_compress_111 (lv_at hv 6 rfl) ?_
    refine lv_iload C.ex C.by d_Sha_compress_113 (lv_at hv 7 rfl) ?_
    refine lv_iand C.ex C.by d_Sha_compress_115 ?_
    refine lv_iload C.ex C.by d_Sha_compress_116 (lv_at hv 6 rfl) ?_
    refine lv_iconst (v := (-1 : Int32)) C.ex C.by d_Sha_compress_118 (by decide) ?_
    refine lv_ixor C.ex C.by d_Sha_compress_119 ?_
    refine lv_iload C.ex C.by d_Sha_compress_120 (lv_at hv 8 rfl) ?_
    refine lv_iand C.ex C.by d_Sha_compress_122 ?_
    refine lv_ixor C.ex C.by d_Sha_compress_123 ?_
    refine lv_iadd C.ex C.by d_Sha_compress_124 ?_
    refine fx_gets C F ls_Sha_42 d_Sha_compress_125 ?_
    refine lv_iload C.ex C.by d_Sha_compress_128 (lv_at hv 10 rfl) ?_
    obtain ⟨hk4, hw⟩ := hw
    obtain ⟨hi17, hw⟩ := hw
    refine fx_lald C F hk4 hi17 d_Sha_compress_130 ?_
    refine lv_bipush (v := (32 : Int32)) C.ex C.by d_Sha_compress_131 (by decide) ?_
    refine lv_lushr (v := (sh_lu (hp_L h11 (hp_c h11 0) x11.toNatClampNeg) (32 : Int32))) C.ex C.by d_Sha_compress_133 rfl ?_
    refine lv_l2i (v := (((sh_lu (hp_L h11 (hp_c h11 0) x11.toNatClampNeg) (32 : Int32))).toInt32)) C.ex C.by d_Sha_compress_134 rfl ?_
    refine lv_iadd C.ex C.by d_Sha_compress_135 ?_
    refine lv_aload_n C.ex C.by d_Sha_compress_136 rfl (lv_at hv 1 rfl) ?_
    obtain ⟨hk5, hw⟩ := hw
    obtain ⟨b2, hb2, hw⟩ := hw
    refine fx_getR C F lf_Sha_13 hk5 rfl hb2 d_Sha_compress_137 ?_
    refine lv_iload C.ex C.by d_Sha_compress_140 (lv_at hv 10 rfl) ?_
    obtain ⟨hk6, hw⟩ := hw
    obtain ⟨hi18, hw⟩ := hw
    refine fx_iald C F hk6 hi18 d_Sha_compress_142 ?_
    refine lv_iadd C.ex C.by d_Sha_compress_143 ?_
    let v5 : Int32 := ((((x10 + v4) + ((x7 &&& x8) ^^^ ((x7 ^^^ (-1 : Int32)) &&& x9))) + (((sh_lu (hp_L h11 (hp_c h11 0) x11.toNatClampNeg) (32 : Int32))).toInt32)) + (hp_I h11 b2 x11.toNatClampNeg))
    replace hw := hw v5 rfl
    refine lv_istore (lv' := [(13, .int v5), (12, .int v4), (0, .ref r0), (3, .int x3), (4, .int x4), (5, .int x5), (6, .int x6), (7, .int x7), (8, .int x8), (9, .int x9), (10, .int x10), (11, .int x11)]) C.ex C.by d_Sha_compress_144 hv (by decide) rfl (fun ls hv => ?_)
    refine lv_iload_n C.ex C.by d_Sha_compress_146 rfl (lv_at hv 3 rfl) ?_
    refine lv_iconst (v := (2 : Int32)) C.ex C.by d_Sha_compress_147 (by decide) ?_
    refine fx_callI C F (c_Int_rotateRight hl hw) hm_Int_rotateRight hi_Int_rotateRight hv.1 (by decide) (Nat.le_of_ble_eq_true rfl) (iv_Int_rotateRight C F lm_Sha_32 d_Sha_compress_148) (fx_out0 _) fx_eno (fun v6 h12 H locs cells slots hw hx4 F => ?_)
    replace hw := hw hx4
    have hk4 := (hx4).gl hk4
    have hk6 := (hx4).gi hk6
    have hk5 := (hx4).k hk5
    refine lv_iload_n C.ex C.by d_Sha_compress_151 rfl (lv_at hv 3 rfl) ?_
    refine lv_bipush (v := (13 : Int32)) C.ex C.by d_Sha_compress_152 (by decide) ?_
    refine fx_callI C F (c_Int_rotateRight hl hw) hm_Int_rotateRight hi_Int_rotateRight hv.1 (by decide) (Nat.le_of_ble_eq_true rfl) (iv_Int_rotateRight C F lm_Sha_32 d_Sha_compress_154) (fx_out0 _) fx_eno (fun v7 h13 H locs cells slots hw hx5 F => ?_)
    replace hw := hw hx5
    have hk4 := (hx5).gl hk4
    have hk6 := (hx5).gi hk6
    have hk5 := (hx5).k hk5
    refine lv_ixor C.ex C.by d_Sha_compress_157 ?_
    refine lv_iload_n C.ex C.by d_Sha_compress_158 rfl (lv_at hv 3 rfl) ?_
    refine lv_bipush (v := (22 : Int32)) C.ex C.by d_Sha_compress_159 (by decide) ?_
    refine fx_callI C F (c_Int_rotateRight hl hw) hm_Int_rotateRight hi_Int_rotateRight hv.1 (by decide) (Nat.le_of_ble_eq_true rfl) (iv_Int_rotateRight C F lm_Sha_32 d_Sha_compress_161) (fx_out0 _) fx_eno (fun v8 h14 H locs cells slots hw hx6 F => ?_)
    replace hw := hw hx6
    have hk4 := (hx6).gl hk4
    have hk6 := (hx6).gi hk6
    have hk5 := (hx6).k hk5
    refine lv_ixor C.ex C.by d_Sha_compress_164 ?_
    let v9 : Int32 := ((v6 ^^^ v7) ^^^ v8)
    replace hw := hw v9 rfl
    refine lv_istore (lv' := [(14, .int v9), (13, .int v5), (12, .int v4), (0, .ref r0), (3, .int x3), (4, .int x4), (5, .int x5), (6, .int x6), (7, .int x7), (8, .int x8), (9, .int x9), (10, .int x10), (11, .int x11)]) C.ex C.by d_Sha_compress_165 hv (by decide) rfl (fun ls hv => ?_)
    refine lv_iload C.ex C.by d_Sha_compress_167 (lv_at hv 0 rfl) ?_
    refine lv_iload_n C.ex C.by d_Sha_compress_169 rfl (lv_at hv 4 rfl) ?_
    refine lv_iload C.ex C.by d_Sha_compress_170 (lv_at hv 5 rfl) ?_
    refine lv_iand C.ex C.by d_Sha_compress_172 ?_
    refine lv_iload_n C.ex C.by d_Sha_compress_173 rfl (lv_at hv 4 rfl) ?_
    refine lv_iload C.ex C.by d_Sha_compress_174 (lv_at hv 6 rfl) ?_
    refine lv_iand C.ex C.by d_Sha_compress_176 ?_
    refine lv_ixor C.ex C.by d_Sha_compress_177 ?_
    refine lv_iload C.ex C.by d_Sha_compress_178 (lv_at hv 5 rfl) ?_
    refine lv_iload C.ex C.by d_Sha_compress_180 (lv_at hv 6 rfl) ?_
    refine lv_iand C.ex C.by d_Sha_compress_182 ?_
    refine lv_ixor C.ex C.by d_Sha_compress_183 ?_
    refine lv_iadd C.ex C.by d_Sha_compress_184 ?_
    let v10 : Int32 := (v9 + (((x3 &&& x4) ^^^ (x3 &&& x5)) ^^^ (x4 &&& x5)))
    replace hw := hw v10 rfl
    refine lv_istore (lv' := [(15, .int v10), (14, .int v9), (13, .int v5), (12, .int v4), (0, .ref r0), (3, .int x3), (4, .int x4), (5, .int x5), (6, .int x6), (7, .int x7), (8, .int x8), (9, .int x9), (10, .int x10), (11, .int x11)]) C.ex C.by d_Sha_compress_185 hv (by decide) rfl (fun ls hv => ?_)
    refine lv_iload C.ex C.by d_Sha_compress_187 (lv_at hv 11 rfl) ?_
    refine lv_istore (lv' := [(10, .int x9), (15, .int v10), (14, .int v9), (13, .int v5), (12, .int v4), (0, .ref r0), (3, .int x3), (4, .int x4), (5, .int x5), (6, .int x6), (7, .int x7), (8, .int x8), (9, .int x9), (11, .int x11)]) C.ex C.by d_Sha_compress_189 hv (by decide) rfl (fun ls hv => ?_)
    refine lv_iload C.ex C.by d_Sha_compress_191 (lv_at hv 11 rfl) ?_
    refine lv_istore (lv' := [(9, .int x8), (10, .int x9), (15, .int v10), (14, .int v9), (13, .int v5), (12, .int v4), (0, .ref r0), (3, .int x3), (4, .int x4), (5, .int x5), (6, .int x6), (7, .int x7), (8, .int x8), (11, .int x11)]) C.ex C.by d_Sha_compress_193 hv (by decide) rfl (fun ls hv => ?_)
    refine lv_iload C.ex C.by d_Sha_compress_195 (lv_at hv 11 rfl) ?_
    refine lv_istore (lv' := [(8, .int x7), (9, .int x8), (10, .int x9), (15, .int v10), (14, .int v9), (13, .int v5), (12, .int v4), (0, .ref r0), (3, .int x3), (4, .int x4), (5, .int x5), (6, .int x6), (7, .int x7), (11, .int x11)]) C.ex C.by d_Sha_compress_197 hv (by decide) rfl (fun ls hv => ?_)
    refine lv_iload C.ex C.by d_Sha_compress_199 (lv_at hv 11 rfl) ?_
    refine lv_iload C.ex C.by d_Sha_compress_201 (lv_at hv 5 rfl) ?_
    refine lv_iadd C.ex C.by d_Sha_compress_203 ?_
    let v11 : Int32 := (x6 + v5)
    replace hw := hw v11 rfl
    refine lv_istore (lv' := [(7, .int v11), (8, .int x7), (9, .int x8), (10, .int x9), (15, .int v10), (14, .int v9), (13, .int v5), (12, .int v4), (0, .ref r0), (3, .int x3), (4, .int x4), (5, .int x5), (6, .int x6), (11, .int x11)]) C.ex C.by d_Sha_compress_204 hv (by decide) rfl (fun ls hv => ?_)
    refine lv_iload C.ex C.by d_Sha_compress_206 (lv_at hv 11 rfl) ?_
    refine lv_istore (lv' := [(6, .int x5), (7, .int v11), (8, .int x7), (9, .int x8), (10, .int x9), (15, .int v10), (14, .int v9), (13, .int v5), (12, .int v4), (0, .ref r0), (3, .int x3), (4, .int x4), (5, .int x5), (11, .int x11)]) C.ex C.by d_Sha_compress_208 hv (by decide) rfl (fun ls hv => ?_)
    refine lv_iload C.ex C.by d_Sha_compress_210 (lv_at hv 11 rfl) ?_
    refine lv_istore (lv' := [(5, .int x4), (6, .int x5), (7, .int v11), (8, .int x7), (9, .int x8), (10, .int x9), (15, .int v10), (14, .int v9), (13, .int v5), (12, .int v4), (0, .ref r0), (3, .int x3), (4, .int x4), (11, .int x11)]) C.ex C.by d_Sha_compress_212 hv (by decide) rfl (fun ls hv => ?_)
    refine lv_iload_n C.ex C.by d_Sha_compress_214 rfl (lv_at hv 11 rfl) ?_
    refine lv_istore (lv' := [(4, .int x3), (5, .int x4), (6, .int x5), (7, .int v11), (8, .int x7), (9, .int x8), (10, .int x9), (15, .int v10), (14, .int v9), (13, .int v5), (12, .int v4), (0, .ref r0), (3, .int x3), (11, .int x11)]) C.ex C.by d_Sha_compress_215 hv (by decide) rfl (fun ls hv => ?_)
    refine lv_iload C.ex C.by d_Sha_compress_217 (lv_at hv 9 rfl) ?_
    refine lv_iload C.ex C.by d_Sha_compress_219 (lv_at hv 7 rfl) ?_
    refine lv_iadd C.ex C.by d_Sha_compress_221 ?_
    let v12 : Int32 := (v5 + v10)
    replace hw := hw v12 rfl
    refine lv_istore_n (lv' := [(3, .int v12), (4, .int x3), (5, .int x4), (6, .int x5), (7, .int v11), (8, .int x7), (9, .int x8), (10, .int x9), (15, .int v10), (14, .int v9), (13, .int v5), (12, .int v4), (0, .ref r0), (11, .int x11)]) C.ex C.by d_Sha_compress_222 rfl hv (by decide) rfl (fun ls hv => ?_)
    let v13 : Int32 := (x11 + (1 : Int32))
    replace hw := hw v13 rfl
    refine lv_iinc (v := v13) (k := 13) (lv' := [(11, .int v13), (3, .int v12), (4, .int x3), (5, .int x4), (6, .int x5), (7, .int v11), (8, .int x7), (9, .int x8), (10, .int x9), (15, .int v10), (14, .int v9), (13, .int v5), (12, .int v4), (0, .ref r0)]) C.ex C.by d_Sha_compress_223 hv rfl (congrArg (fun z => x11 + z) (by decide)) (by decide) rfl (fun ls hv => ?_)
    refine lv_goto C.ex C.by d_Sha_compress_226 rfl ?_
    exact hX74 _ hw _ _ _ _ _ (lv_sub hv [13, 1, 2, 3, 4, 5, 6, 7, 8, 0] rfl) F
theorem b_Sha_compress_0 {p : Program} {l : Launch} {e : Env} {R : Room} {s : State} {m : MethodId} {args : Array Value} {below : List Frame} {meth : Method} {c : Code} {D : DD} {h0 : AH} {Q : AH → Prop} (C : fx_CX D y_Sha_compress prog_12_method_5_code 16 2 38 (none) [] h0 p R s m meth c) (hl : l.flags = flags0) (r0 : Nat) (r1 : Nat) (x2 : Int32) (h : AH) (hw : m_Sha_compress Q r0 r1 x2 h) : ∀ (ls : Array Slot) (H : Heap) (locs : List Loc) (cells slots : Nat), lv_has ls 16 [(0, .ref r0), (1, .ref r1), (2, .int x2)] → fx_F D h0 h H locs cells slots → W p l e R s m args below meth c H locs cells slots (fx_Z D below s h0 (fx_oV Q fx_no)) (F0 m 0 ls []) := by
  unfold m_Sha_compress at hw
  intro ls H locs cells slots hv F
  refine lv_aload_n C.ex C.by d_Sha_compress_0 rfl (lv_at hv 0 rfl) ?_
  refine lv_aload_n C.ex C.by d_Sha_compress_1 rfl (lv_at hv 1 rfl) ?_
  refine lv_iload_n C.ex C.by d_Sha_compress_2 rfl (lv_at hv 2 rfl) ?_
  obtain ⟨hk1, hw⟩ := hw
  refine fx_callV C F (c_Sha_spread hl hw) hm_Sha_spread hi_Sha_spread hv.1 (by decide) (Nat.le_of_ble_eq_true rfl) (iv_Sha_spread C F lm_Sha_38 hk1 d_Sha_compress_3) (fx_out0 _) fx_eno (fun h1 H locs cells slots hw hx1 F => ?_)
  replace hw := hw hx1
  have hk1 := (hx1).k hk1
  refine lv_aload_n C.ex C.by d_Sha_compress_6 rfl (lv_at hv 0 rfl) ?_
  obtain ⟨b1, hb1, hw⟩ := hw
  refine fx_getR C F lf_Sha_7 hk1 rfl hb1 d_Sha_compress_7 ?_
  refine lv_iconst (v := (0 : Int32)) C.ex C.by d_Sha_compress_10 (by decide) ?_
  obtain ⟨hk2, hw⟩ := hw
  obtain ⟨hi1, hw⟩ := hw
  refine fx_iald C F hk2 hi1 d_Sha_compress_11 ?_
  let v1 : Int32 := (hp_I h1 b1 (0 : Int32).toNatClampNeg)
  replace hw := hw v1 rfl
  refine lv_istore_n (lv' := [(3, .int v1), (0, .ref r0), (1, .ref r1), (2, .int x2)]) C.ex C.by d_Sha_compress_12 rfl hv (by decide) rfl (fun ls hv => ?_)
  refine lv_aload_n C.ex C.by d_Sha_compress_13 rfl (lv_at hv 1 rfl) ?_
  refine fx_getR C F lf_Sha_7 hk1 rfl hb1 d_Sha_compress_14 ?_
  refine lv_iconst (v := (1 : Int32)) C.ex C.by d_Sha_compress_17 (by decide) ?_
  obtain ⟨hi2, hw⟩ := hw
  refine fx_iald C F hk2 hi2 d_Sha_compress_18 ?_
  let v2 : Int32 := (hp_I h1 b1 (1 : Int32).toNatClampNeg)
  replace hw := hw v2 rfl
  refine lv_istore (lv' := [(4, .int v2), (3, .int v1), (0, .ref r0), (1, .ref r1), (2, .int x2)]) C.ex C.by d_Sha_compress_19 hv (by decide) rfl (fun ls hv => ?_)
  refine lv_aload_n C.ex C.by d_Sha_compress_21 rfl (lv_at hv 2 rfl) ?_
  refine fx_getR C F lf_Sha_7 hk1 rfl hb1 d_Sha_compress_22 ?_
  refine lv_iconst (v := (2 : Int32)) C.ex C.by d_Sha_compress_25 (by decide) ?_
  obtain ⟨hi3, hw⟩ := hw
  refine fx_iald C F hk2 hi3 d_Sha_compress_26 ?_
  let v3 : Int32 := (hp_I h1 b1 (2 : Int32).toNatClampNeg)
  replace hw := hw v3 rfl
  refine lv_istore (lv' := [(5, .int v3), (4, .int v2), (3, .int v1), (0, .ref r0), (1, .ref r1), (2, .int x2)]) C.ex C.by d_Sha_compress_27 hv (by decide) rfl (fun ls hv => ?_)
  refine lv_aload_n C.ex C.by d_Sha_compress_29 rfl (lv_at hv 3 rfl) ?_
  refine fx_getR C F lf_Sha_7 hk1 rfl hb1 d_Sha_compress_30 ?_
  refine lv_iconst (v := (3 : Int32)) C.ex C.by d_Sha_compress_33 (by decide) ?_
  obtain ⟨hi4, hw⟩ := hw
  refine fx_iald C F hk2 hi4 d_Sha_compress_34 ?_
  let v4 : Int32 := (hp_I h1 b1 (3 : Int32).toNatClampNeg)
  replace hw := hw v4 rfl
  refine lv_istore (lv' := [(6, .int v4), (5, .int v3), (4, .int v2), (3, .int v1), (0, .ref r0), (1, .ref r1), (2, .int x2)]) C.ex C.by d_Sha_compress_35 hv (by decide) rfl (fun ls hv => ?_)
  refine lv_aload_n C.ex C.by d_Sha_compress_37 rfl (lv_at hv 4 rfl) ?_
  refine fx_getR C F lf_Sha_7 hk1 rfl hb1 d_Sha_compress_38 ?_
  refine lv_iconst (v := (4 : Int32)) C.ex C.by d_Sha_compress_41 (by decide) ?_
  obtain ⟨hi5, hw⟩ := hw
  refine fx_iald C F hk2 hi5 d_Sha_compress_42 ?_
  let v5 : Int32 := (hp_I h1 b1 (4 : Int32).toNatClampNeg)
  replace hw := hw v5 rfl
  refine lv_istore (lv' := [(7, .int v5), (6, .int v4), (5, .int v3), (4, .int v2), (3, .int v1), (0, .ref r0), (1, .ref r1), (2, .int x2)]) C.ex C.by d_Sha_compress_43 hv (by decide) rfl (fun ls hv => ?_)
  refine lv_aload_n C.ex C.by d_Sha_compress_45 rfl (lv_at hv 5 rfl) ?_
  refine fx_getR C F lf_Sha_7 hk1 rfl hb1 d_Sha_compress_46 ?_
  refine lv_iconst (v := (5 : Int32)) C.ex C.by d_Sha_compress_49 (by decide) ?_
  obtain ⟨hi6, hw⟩ := hw
  refine fx_iald C F hk2 hi6 d_Sha_compress_50 ?_
  let v6 : Int32 := (hp_I h1 b1 (5 : Int32).toNatClampNeg)
  replace hw := hw v6 rfl
  refine lv_istore (lv' := [(8, .int v6), (7, .int v5), (6, .int v4), (5, .int v3), (4, .int v2), (3, .int v1), (0, .ref r0), (1, .ref r1), (2, .int x2)]) C.ex C.by d_Sha_compress_51 hv (by decide) rfl (fun ls hv => ?_)
  refine lv_aload_n C.ex C.by d_Sha_compress_53 rfl (lv_at hv 6 rfl) ?_
  refine fx_getR C F lf_Sha_7 hk1 rfl hb1 d_Sha_compress_54 ?_
  refine lv_bipush (v := (6 : Int32)) C.ex C.by d_Sha_compress_57 (by decide) ?_
  obtain ⟨hi7, hw⟩ := hw
  refine fx_iald C F hk2 hi7 d_Sha_compress_59 ?_
  let v7 : Int32 := (hp_I h1 b1 (6 : Int32).toNatClampNeg)
  replace hw := hw v7 rfl
  refine lv_istore (lv' := [(9, .int v7), (8, .int v6), (7, .int v5), (6, .int v4), (5, .int v3), (4, .int v2), (3, .int v1), (0, .ref r0), (1, .ref r1), (2, .int x2)]) C.ex C.by d_Sha_compress_60 hv (by decide) rfl (fun ls hv => ?_)
  refine lv_aload_n C.ex C.by d_Sha_compress_62 rfl (lv_at hv 7 rfl) ?_
  refine fx_getR C F lf_Sha_7 hk1 rfl hb1 d_Sha_compress_63 ?_
  refine lv_bipush (v := (7 : Int32)) C.ex C.by d_Sha_compress_66 (by decide) ?_
  obtain ⟨hi8, hw⟩ := hw
  refine fx_iald C F hk2 hi8 d_Sha_compress_68 ?_
  let v8 : Int32 := (hp_I h1 b1 (7 : Int32).toNatClampNeg)
  replace hw := hw v8 rfl
  refine lv_istore (lv' := [(10, .int v8), (9, .int v7), (8, .int v6), (7, .int v5), (6, .int v4), (5, .int v3), (4, .int v2), (3, .int v1), (0, .ref r0), (1, .ref r1), (2, .int x2)]) C.ex C.by d_Sha_compress_69 hv (by decide) rfl (fun ls hv => ?_)
  refine lv_iconst (v := (0 : Int32)) C.ex C.by d_Sha_compress_71 (by decide) ?_
  refine lv_istore (lv' := [(11, .int (0 : Int32)), (10, .int v8), (9, .int v7), (8, .int v6), (7, .int v5), (6, .int v4), (5, .int v3), (4, .int v2), (3, .int v1), (0, .ref r0), (1, .ref r1), (2, .int x2)]) C.ex C.by d_Sha_compress_72 hv (by decide) rfl (fun ls hv => ?_)
  exact b_Sha_compress_74 C hl _ _ _ _ _ _ _ _ _ _ _ hw _ _ _ _ _ (lv_sub hv [9, 8, 7, 6, 5, 4, 3, 2, 1, 0] rfl) F
theorem hm_Sha_compress : fx_hd y_Sha_compress prog_12_method_5_code 16 (none) [] ∈ tables_1 := (fx_m4 (List.mem_of_getElem? (i := 180) rfl))
theorem hi_Sha_compress : Cond.initialized y_Sha_compress.cls ∈ tables_1 := (fx_m1 (List.mem_of_getElem? (i := 9) rfl))
theorem c_Sha_compress {l : Launch} (hl : l.flags = flags0) {D : DD} {Q : AH → Prop} {r0 : Nat} {r1 : Nat} {x2 : Int32} {h : AH} (hw : m_Sha_compress Q r0 r1 x2 h) : fx_Mt l D y_Sha_compress (fx_hd y_Sha_compress prog_12_method_5_code 16 (none) []) 2 38 [.ref r0, .ref r1, .int x2] h (fx_oV Q fx_no) := by
  refine fx_ofW (plainFor_of_name (by decide)) (fun p e s m below meth c C F => ?_)
  have hv := lv_entry ([.ref r0, .ref r1, .int x2]) (n := 16) (Nat.le_of_ble_eq_true rfl)
  rw [lg_entry_eq]
  generalize (lg_sl ([.ref r0, .ref r1, .int x2]) ++ List.replicate (16 - (lg_sl ([.ref r0, .ref r1, .int x2])).length) Slot.unset).toArray = ls at hv ⊢
  have hv : lv_has ls 16 [(0, .ref r0), (1, .ref r1), (2, .int x2)] := hv
  exact b_Sha_compress_0 C hl _ _ _ _ hw _ _ _ _ _ hv F
/-! ChainJudge$Digest.turn()V: frames 3, words 65 -/
abbrev y_Dig_turn : MethodName := ⟨"ChainJudge$Digest", "turn", "()V"⟩
theorem lm_Dig_52 : Cond.methodLink "ChainJudge$Digest" 52 (⟨"ChainJudge$Digest", "compress", "([BI)V"⟩ : MethodName) ∈ tables_1 := (fx_m4 (List.mem_of_getElem? (i := 175) rfl))
section
variable {p : Program} {l : Launch} {e : Env} {R : Room} {s : State} {m : MethodId} {args : Array Value} {below : List Frame} {meth : Method} {c : Code} {H : Heap} {locs : List Loc} {cells slots : Nat}
variable {D : DD} {y : MethodName} {cc : ByteArray} {nL kf kw : Nat} {ret : Option FieldType} {hh : List (Nat × Nat × Nat × Nat)} {h0 h : AH} {pc : Nat} {ls : Array Slot} {rest : List Value} {b idx : Nat}
theorem iv_Sha_compress_u {r1 : Nat} {x2 : Int32} (C : fx_CX D y cc nL kf kw ret hh h0 p R s m meth c) (F : fx_F D h0 h H locs cells slots) (hw1 : Cond.methodLink y.cls idx (⟨"ChainJudge$Digest", "compress", "([BI)V"⟩ : MethodName) ∈ tables_1) (hk : hp_k h b = 6) (hd : decode cc pc = .ok (.invokevirtual idx, 3)) : fx_IV p l e R s m args below meth c H locs cells slots (F0 m pc ls (.int x2 :: .ref r1 :: .ref b :: rest)) rest y_Sha_compress [.ref b, .ref r1, .int x2] 3 := fun T hT X => fx_invU (As := [.ref r1, .int x2]) (x' := (⟨"ChainJudge$Digest", "compress", "([BI)V"⟩ : MethodName)) (owner := "ChainJudge$Digest") (Cn := "ChainJudge$Sha256") C X hw1 (fx_m4 (List.mem_of_getElem? (i := 177) rfl)) (fx_m4 (List.mem_of_getElem? (i := 176) rfl)) (fx_m4 (List.mem_of_getElem? (i := 179) rfl)) (fx_selW C (fx_m4 (List.mem_of_getElem? (i := 178) rfl))) ⟨by decide, by decide⟩ (by rw [hT]; exact fx_clsO (ci := 5) (r := ("ChainJudge$Sha256", fx_T5, 8)) C F rfl (by decide) hk) rfl (n := 2) (by decide +kernel) rfl rfl hd
end
def dl_Dig_turn : List (Nat × Instr × Nat) := [(0, .aload_n 0, 1), (1, .aload_n 0, 1), (2, .getfield 26, 3), (5, .iconst 0, 1), (6, .invokevirtual 52, 3), (9, .aload_n 0, 1), (10, .dup, 1), (11, .getfield 17, 3), (14, .iconst 1, 1), (15, .iadd, 1), (16, .putfield 17, 3), (19, .aload_n 0, 1), (20, .iconst 0, 1), (21, .putfield 7, 3), (24, .return_, 1)]
theorem dk_Dig_turn : fx_dec prog_3_method_10_code dl_Dig_turn = true := by decide +kernel
theorem d_Dig_turn_0 : decode prog_3_method_10_code 0 = .ok (.aload_n 0, 1) := fx_dat dk_Dig_turn 0 rfl
theorem d_Dig_turn_1 : decode prog_3_method_10_code 1 = .ok (.aload_n 0, 1) := fx_dat dk_Dig_turn 1 rfl
theorem d_Dig_turn_2 : decode prog_3_method_10_code 2 = .ok (.getfield 26, 3) := fx_dat dk_Dig_turn 2 rfl
theorem d_Dig_turn_5 : decode prog_3_method_10_code 5 = .ok (.iconst 0, 1) := fx_dat dk_Dig_turn 3 rfl
theorem d_Dig_turn_6 : decode prog_3_method_10_code 6 = .ok (.invokevirtual 52, 3) := fx_dat dk_Dig_turn 4 rfl
theorem d_Dig_turn_9 : decode prog_3_method_10_code 9 = .ok (.aload_n 0, 1) := fx_dat dk_Dig_turn 5 rfl
theorem d_Dig_turn_10 : decode prog_3_method_10_code 10 = .ok (.dup, 1) := fx_dat dk_Dig_turn 6 rfl
theorem d_Dig_turn_11 : decode prog_3_method_10_code 11 = .ok (.getfield 17, 3) := fx_dat dk_Dig_turn 7 rfl
theorem d_Dig_turn_14 : decode prog_3_method_10_code 14 = .ok (.iconst 1, 1) := fx_dat dk_Dig_turn 8 rfl
theorem d_Dig_turn_15 : decode prog_3_method_10_code 15 = .ok (.iadd, 1) := fx_dat dk_Dig_turn 9 rfl
theorem d_Dig_turn_16 : decode prog_3_method_10_code 16 = .ok (.putfield 17, 3) := fx_dat dk_Dig_turn 10 rfl
theorem d_Dig_turn_19 : decode prog_3_method_10_code 19 = .ok (.aload_n 0, 1) := fx_dat dk_Dig_turn 11 rfl
theorem d_Dig_turn_20 : decode prog_3_method_10_code 20 = .ok (.iconst 0, 1) := fx_dat dk_Dig_turn 12 rfl
theorem d_Dig_turn_21 : decode prog_3_method_10_code 21 = .ok (.putfield 7, 3) := fx_dat dk_Dig_turn 13 rfl
theorem d_Dig_turn_24 : decode prog_3_method_10_code 24 = .ok (.return_, 1) := fx_dat dk_Dig_turn 14 rfl
def m_Dig_turn (Q : AH → Prop) (r0 : Nat) (h : AH) : Prop := hp_k h r0 = 6 ∧ ∃ b1, hp_R h r0 4 = some b1 ∧ m_Sha_compress (fun h1 => fx_ext h h1 → ∀ h2 : AH, h2 = up_I h1 r0 7 ((hp_I h1 r0 7) + (1 : Int32)) → ∀ h3 : AH, h3 = up_I h2 r0 5 (0 : Int32) → Q h3) r0 b1 (0 : Int32) h
theorem b_Dig_turn_0 {p : Program} {l : Launch} {e : Env} {R : Room} {s : State} {m : MethodId} {args : Array Value} {below : List Frame} {meth : Method} {c : Code} {D : DD} {h0 : AH} {Q : AH → Prop} (C : fx_CX D y_Dig_turn prog_3_method_10_code 1 3 65 (none) [] h0 p R s m meth c) (hl : l.flags = flags0) (r0 : Nat) (h : AH) (hw : m_Dig_turn Q r0 h) : ∀ (ls : Array Slot) (H : Heap) (locs : List Loc) (cells slots : Nat), lv_has ls 1 [(0, .ref r0)] → fx_F D h0 h H locs cells slots → W p l e R s m args below meth c H locs cells slots (fx_Z D below s h0 (fx_oV Q fx_no)) (F0 m 0 ls []) := by
  unfold m_Dig_turn at hw
  intro ls H locs cells slots hv F
  refine lv_aload_n C.ex C.by d_Dig_turn_0 rfl (lv_at hv 0 rfl) ?_
  refine lv_aload_n C.ex C.by d_Dig_turn_1 rfl (lv_at hv 0 rfl) ?_
  obtain ⟨hk1, hw⟩ := hw
  obtain ⟨b1, hb1, hw⟩ := hw
  refine fx_getR C F lf_Dig_26 hk1 rfl hb1 d_Dig_turn_2 ?_
  refine lv_iconst (v := (0 : Int32)) C.ex C.by d_Dig_turn_5 (by decide) ?_
  refine fx_callV C F (c_Sha_compress hl hw) hm_Sha_compress hi_Sha_compress hv.1 (by decide) (Nat.le_of_ble_eq_true rfl) (iv_Sha_compress_u C F lm_Dig_52 hk1 d_Dig_turn_6) (fx_out0 _) fx_eno (fun h1 H locs cells slots hw hx1 F => ?_)
  replace hw := hw hx1
  have hk1 := (hx1).k hk1
  refine lv_aload_n C.ex C.by d_Dig_turn_9 rfl (lv_at hv 0 rfl) ?_
  refine lv_dup C.ex C.by d_Dig_turn_10 rfl ?_
  refine fx_getI C F lf_Dig_17 hk1 rfl d_Dig_turn_11 ?_
  refine lv_iconst (v := (1 : Int32)) C.ex C.by d_Dig_turn_14 (by decide) ?_
  refine lv_iadd C.ex C.by d_Dig_turn_15 ?_
  let h2 : AH := up_I h1 r0 7 ((hp_I h1 r0 7) + (1 : Int32))
  replace hw := hw h2 rfl
  refine fx_putI C F lf_Dig_17 hk1 rfl rfl (fx_mayF.no rfl rfl) d_Dig_turn_16 (fun H locs (F : fx_F D h0 h2 H locs _ _) => ?_)
  refine lv_aload_n C.ex C.by d_Dig_turn_19 rfl (lv_at hv 0 rfl) ?_
  refine lv_iconst (v := (0 : Int32)) C.ex C.by d_Dig_turn_20 (by decide) ?_
  let h3 : AH := up_I h2 r0 5 (0 : Int32)
  replace hw := hw h3 rfl
  refine fx_putI C F lf_Dig_7 hk1 rfl rfl (fx_mayF.no rfl rfl) d_Dig_turn_21 (fun H locs (F : fx_F D h0 h3 H locs _ _) => ?_)
  exact fx_vret C F d_Dig_turn_24 (Or.inl ⟨rfl, hw⟩)
theorem hm_Dig_turn : fx_hd y_Dig_turn prog_3_method_10_code 1 (none) [] ∈ tables_1 := (fx_m4 (List.mem_of_getElem? (i := 174) rfl))
theorem hi_Dig_turn : Cond.initialized y_Dig_turn.cls ∈ tables_1 := (fx_m1 (List.mem_of_getElem? (i := 8) rfl))
theorem c_Dig_turn {l : Launch} (hl : l.flags = flags0) {D : DD} {Q : AH → Prop} {r0 : Nat} {h : AH} (hw : m_Dig_turn Q r0 h) : fx_Mt l D y_Dig_turn (fx_hd y_Dig_turn prog_3_method_10_code 1 (none) []) 3 65 [.ref r0] h (fx_oV Q fx_no) := by
  refine fx_ofW (plainFor_of_name (by decide)) (fun p e s m below meth c C F => ?_)
  have hv := lv_entry ([.ref r0]) (n := 1) (Nat.le_of_ble_eq_true rfl)
  rw [lg_entry_eq]
  generalize (lg_sl ([.ref r0]) ++ List.replicate (1 - (lg_sl ([.ref r0])).length) Slot.unset).toArray = ls at hv ⊢
  have hv : lv_has ls 1 [(0, .ref r0)] := hv
  exact b_Dig_turn_0 C hl _ _ hw _ _ _ _ _ hv F
/-! ChainJudge$Digest.update([BII)V: frames 4, words 77 -/
abbrev y_Dig_update : MethodName := ⟨"ChainJudge$Digest", "update", "([BII)V"⟩
theorem lm_Dig_43 : Cond.methodLink "ChainJudge$Digest" 43 y_Math_min ∈ tables_1 ∨ ∃ host, Cond.methodLinkNest "ChainJudge$Digest" 43 y_Math_min host ∈ tables_1 := Or.inl (fx_m4 (List.mem_of_getElem? (i := 169) rfl))
theorem lm_Dig_49 : Cond.methodLink "ChainJudge$Digest" 49 y_Dig_turn ∈ tables_1 ∨ ∃ host, Cond.methodLinkNest "ChainJudge$Digest" 49 y_Dig_turn host ∈ tables_1 := Or.inl (fx_m4 (List.mem_of_getElem? (i := 171) rfl))
section
variable {p : Program} {l : Launch} {e : Env} {R : Room} {s : State} {m : MethodId} {args : Array Value} {below : List Frame} {meth : Method} {c : Code} {H : Heap} {locs : List Loc} {cells slots : Nat}
variable {D : DD} {y : MethodName} {cc : ByteArray} {nL kf kw : Nat} {ret : Option FieldType} {hh : List (Nat × Nat × Nat × Nat)} {h0 h : AH} {pc : Nat} {ls : Array Slot} {rest : List Value} {b idx : Nat}
theorem iv_Dig_turn (C : fx_CX D y cc nL kf kw ret hh h0 p R s m meth c) (F : fx_F D h0 h H locs cells slots) (hw1 : Cond.methodLink y.cls idx y_Dig_turn ∈ tables_1 ∨ ∃ host, Cond.methodLinkNest y.cls idx y_Dig_turn host ∈ tables_1) (hk : hp_k h b = 6) (hd : decode cc pc = .ok (.invokevirtual idx, 3)) : fx_IV p l e R s m args below meth c H locs cells slots (F0 m pc ls (.ref b :: rest)) rest y_Dig_turn [.ref b] 3 := fun T hT X => fx_invV (As := []) (Cn := "ChainJudge$Sha256") C X hw1 (fx_m4 (List.mem_of_getElem? (i := 173) rfl)) (fx_selQ C ⟨by decide, by decide⟩ (fx_m1 (List.mem_of_getElem? (i := 93) rfl)) (fx_m4 (List.mem_of_getElem? (i := 172) rfl)) (fx_m4 (List.mem_of_getElem? (i := 173) rfl)) (fx_m8 (List.mem_of_getElem? (i := 6) rfl))) hm_Dig_turn ⟨by decide, by decide⟩ (by rw [hT]; exact fx_clsO (ci := 5) (r := ("ChainJudge$Sha256", fx_T5, 8)) C F rfl (by decide) hk) rfl (n := 0) (by decide +kernel) rfl rfl hd
end
def dl_Dig_update : List (Nat × Instr × Nat) := [(0, .aload_n 0, 1), (1, .dup, 1), (2, .getfield 13, 3), (5, .iload_n 3, 1), (6, .i2l, 1), (7, .ladd, 1), (8, .putfield 13, 3), (11, .iload_n 2, 1), (12, .istore 4, 2), (14, .iload_n 3, 1), (15, .istore 5, 2), (17, .iload 5, 2), (19, .ifCond .le 78, 3), (22, .iload 5, 2), (24, .aload_n 0, 1), (25, .getfield 23, 3), (28, .aload_n 0, 1), (29, .getfield 7, 3), (32, .isub, 1), (33, .invokestatic 43, 3), (36, .istore 6, 2), (38, .aload_n 1, 1), (39, .iload 4, 2), (41, .aload_n 0, 1), (42, .getfield 26, 3), (45, .aload_n 0, 1), (46, .getfield 7, 3), (49, .iload 6, 2), (51, .invokestatic 33, 3), (54, .aload_n 0, 1), (55, .dup, 1), (56, .getfield 7, 3), (59, .iload 6, 2), (61, .iadd, 1), (62, .putfield 7, 3), (65, .iload 4, 2), (67, .iload 6, 2), (69, .iadd, 1), (70, .istore 4, 2), (72, .iload 5, 2), (74, .iload 6, 2), (76, .isub, 1), (77, .istore 5, 2), (79, .aload_n 0, 1), (80, .getfield 7, 3), (83, .aload_n 0, 1), (84, .getfield 23, 3), (87, .if_icmp .ne 7, 3), (90, .aload_n 0, 1), (91, .invokevirtual 49, 3), (94, .goto (-77), 3), (97, .return_, 1)]
theorem dk_Dig_update : fx_dec prog_3_method_8_code dl_Dig_update = true := by decide +kernel
theorem d_Dig_update_0 : decode prog_3_method_8_code 0 = .ok (.aload_n 0, 1) := fx_dat dk_Dig_update 0 rfl
theorem d_Dig_update_1 : decode prog_3_method_8_code 1 = .ok (.dup, 1) := fx_dat dk_Dig_update 1 rfl
theorem d_Dig_update_2 : decode prog_3_method_8_code 2 = .ok (.getfield 13, 3) := fx_dat dk_Dig_update 2 rfl
theorem d_Dig_update_5 : decode prog_3_method_8_code 5 = .ok (.iload_n 3, 1) := fx_dat dk_Dig_update 3 rfl
theorem d_Dig_update_6 : decode prog_3_method_8_code 6 = .ok (.i2l, 1) := fx_dat dk_Dig_update 4 rfl
theorem d_Dig_update_7 : decode prog_3_method_8_code 7 = .ok (.ladd, 1) := fx_dat dk_Dig_update 5 rfl
theorem d_Dig_update_8 : decode prog_3_method_8_code 8 = .ok (.putfield 13, 3) := fx_dat dk_Dig_update 6 rfl
theorem d_Dig_update_11 : decode prog_3_method_8_code 11 = .ok (.iload_n 2, 1) := fx_dat dk_Dig_update 7 rfl
theorem d_Dig_update_12 : decode prog_3_method_8_code 12 = .ok (.istore 4, 2) := fx_dat dk_Dig_update 8 rfl
theorem d_Dig_update_14 : decode prog_3_method_8_code 14 = .ok (.iload_n 3, 1) := fx_dat dk_Dig_update 9 rfl
theorem d_Dig_update_15 : decode prog_3_method_8_code 15 = .ok (.istore 5, 2) := fx_dat dk_Dig_update 10 rfl
theorem d_Dig_update_17 : decode prog_3_method_8_code 17 = .ok (.iload 5, 2) := fx_dat dk_Dig_update 11 rfl
theorem d_Dig_update_19 : decode prog_3_method_8_code 19 = .ok (.ifCond .le 78, 3) := fx_dat dk_Dig_update 12 rfl
theorem d_Dig_update_22 : decode prog_3_method_8_code 22 = .ok (.iload 5, 2) := fx_dat dk_Dig_update 13 rfl
theorem d_Dig_update_24 : decode prog_3_method_8_code 24 = .ok (.aload_n 0, 1) := fx_dat dk_Dig_update 14 rfl
theorem d_Dig_update_25 : decode prog_3_method_8_code 25 = .ok (.getfield 23, 3) := fx_dat dk_Dig_update 15 rfl
theorem d_Dig_update_28 : decode prog_3_method_8_code 28 = .ok (.aload_n 0, 1) := fx_dat dk_Dig_update 16 rfl
theorem d_Dig_update_29 : decode prog_3_method_8_code 29 = .ok (.getfield 7, 3) := fx_dat dk_Dig_update 17 rfl
theorem d_Dig_update_32 : decode prog_3_method_8_code 32 = .ok (.isub, 1) := fx_dat dk_Dig_update 18 rfl
theorem d_Dig_update_33 : decode prog_3_method_8_code 33 = .ok (.invokestatic 43, 3) := fx_dat dk_Dig_update 19 rfl
theorem d_Dig_update_36 : decode prog_3_method_8_code 36 = .ok (.istore 6, 2) := fx_dat dk_Dig_update 20 rfl
theorem d_Dig_update_38 : decode prog_3_method_8_code 38 = .ok (.aload_n 1, 1) := fx_dat dk_Dig_update 21 rfl
theorem d_Dig_update_39 : decode prog_3_method_8_code 39 = .ok (.iload 4, 2) := fx_dat dk_Dig_update 22 rfl
theorem d_Dig_update_41 : decode prog_3_method_8_code 41 = .ok (.aload_n 0, 1) := fx_dat dk_Dig_update 23 rfl
theorem d_Dig_update_42 : decode prog_3_method_8_code 42 = .ok (.getfield 26, 3) := fx_dat dk_Dig_update 24 rfl
theorem d_Dig_update_45 : decode prog_3_method_8_code 45 = .ok (.aload_n 0, 1) := fx_dat dk_Dig_update 25 rfl
theorem d_Dig_update_46 : decode prog_3_method_8_code 46 = .ok (.getfield 7, 3) := fx_dat dk_Dig_update 26 rfl
theorem d_Dig_update_49 : decode prog_3_method_8_code 49 = .ok (.iload 6, 2) := fx_dat dk_Dig_update 27 rfl
theorem d_Dig_update_51 : decode prog_3_method_8_code 51 = .ok (.invokestatic 33, 3) := fx_dat dk_Dig_update 28 rfl
theorem d_Dig_update_54 : decode prog_3_method_8_code 54 = .ok (.aload_n 0, 1) := fx_dat dk_Dig_update 29 rfl
theorem d_Dig_update_55 : decode prog_3_method_8_code 55 = .ok (.dup, 1) := fx_dat dk_Dig_update 30 rfl
theorem d_Dig_update_56 : decode prog_3_method_8_code 56 = .ok (.getfield 7, 3) := fx_dat dk_Dig_update 31 rfl
theorem d_Dig_update_59 : decode prog_3_method_8_code 59 = .ok (.iload 6, 2) := fx_dat dk_Dig_update 32 rfl
theorem d_Dig_update_61 : decode prog_3_method_8_code 61 = .ok (.iadd, 1) := fx_dat dk_Dig_update 33 rfl
theorem d_Dig_update_62 : decode prog_3_method_8_code 62 = .ok (.putfield 7, 3) := fx_dat dk_Dig_update 34 rfl
theorem d_Dig_update_65 : decode prog_3_method_8_code 65 = .ok (.iload 4, 2) := fx_dat dk_Dig_update 35 rfl
theorem d_Dig_update_67 : decode prog_3_method_8_code 67 = .ok (.iload 6, 2) := fx_dat dk_Dig_update 36 rfl
theorem d_Dig_update_69 : decode prog_3_method_8_code 69 = .ok (.iadd, 1) := fx_dat dk_Dig_update 37 rfl
theorem d_Dig_update_70 : decode prog_3_method_8_code 70 = .ok (.istore 4, 2) := fx_dat dk_Dig_update 38 rfl
theorem d_Dig_update_72 : decode prog_3_method_8_code 72 = .ok (.iload 5, 2) := fx_dat dk_Dig_update 39 rfl
theorem d_Dig_update_74 : decode prog_3_method_8_code 74 = .ok (.iload 6, 2) := fx_dat dk_Dig_update 40 rfl
theorem d_Dig_update_76 : decode prog_3_method_8_code 76 = .ok (.isub, 1) := fx_dat dk_Dig_update 41 rfl
theorem d_Dig_update_77 : decode prog_3_method_8_code 77 = .ok (.istore 5, 2) := fx_dat dk_Dig_update 42 rfl
theorem d_Dig_update_79 : decode prog_3_method_8_code 79 = .ok (.aload_n 0, 1) := fx_dat dk_Dig_update 43 rfl
theorem d_Dig_update_80 : decode prog_3_method_8_code 80 = .ok (.getfield 7, 3) := fx_dat dk_Dig_update 44 rfl
theorem d_Dig_update_83 : decode prog_3_method_8_code 83 = .ok (.aload_n 0, 1) := fx_dat dk_Dig_update 45 rfl
theorem d_Dig_update_84 : decode prog_3_method_8_code 84 = .ok (.getfield 23, 3) := fx_dat dk_Dig_update 46 rfl
theorem d_Dig_update_87 : decode prog_3_method_8_code 87 = .ok (.if_icmp .ne 7, 3) := fx_dat dk_Dig_update 47 rfl
theorem d_Dig_update_90 : decode prog_3_method_8_code 90 = .ok (.aload_n 0, 1) := fx_dat dk_Dig_update 48 rfl
theorem d_Dig_update_91 : decode prog_3_method_8_code 91 = .ok (.invokevirtual 49, 3) := fx_dat dk_Dig_update 49 rfl
theorem d_Dig_update_94 : decode prog_3_method_8_code 94 = .ok (.goto (-77), 3) := fx_dat dk_Dig_update 50 rfl
theorem d_Dig_update_97 : decode prog_3_method_8_code 97 = .ok (.return_, 1) := fx_dat dk_Dig_update 51 rfl
def m_Dig_update_94 (Q : AH → Prop) (X17 : Int32 × Int32 × AH → Prop) (r0 : Nat) (r1 : Nat) (x4 : Int32) (x5 : Int32) (h : AH) : Prop := X17 (x4, x5, h)
def m_Dig_update_17_b (Q : AH → Prop) (X17 : Int32 × Int32 × AH → Prop) (r0 : Nat) (r1 : Nat) (x4 : Int32) (x5 : Int32) (h : AH) : Prop := (x5 ≤ 0 → Q h) ∧ (¬ x5 ≤ 0 → hp_k h r0 = 6 ∧ m_Math_min (fun v1 h1 => fx_ext h h1 → ∃ b1, hp_R h1 r0 4 = some b1 ∧ bk (hp_k h1 r1) ∧ hp_k h1 b1 = 101 ∧ ¬ x4 < 0 ∧ ¬ (hp_I h1 r0 5) < 0 ∧ ¬ v1 < 0 ∧ x4.toNatClampNeg + v1.toNatClampNeg ≤ hp_n h1 r1 ∧ (hp_I h1 r0 5).toNatClampNeg + v1.toNatClampNeg ≤ hp_n h1 b1 ∧ ∀ h2 : AH, h2 = up_CI h1 r1 x4.toNatClampNeg b1 (hp_I h1 r0 5).toNatClampNeg v1.toNatClampNeg → ∀ h3 : AH, h3 = up_I h2 r0 5 ((hp_I h2 r0 5) + v1) → ∀ v2 : Int32, v2 = (x4 + v1) → ∀ v3 : Int32, v3 = (x5 - v1) → (¬ (hp_I h3 r0 5) = (hp_I h3 r0 3) → m_Dig_update_94 Q X17 r0 r1 v2 v3 h3) ∧ ((hp_I h3 r0 5) = (hp_I h3 r0 3) → m_Dig_turn (fun h4 => fx_ext h3 h4 → m_Dig_update_94 Q X17 r0 r1 v2 v3 h4) r0 h3)) x5 ((hp_I h r0 3) - (hp_I h r0 5)) h)
def m_Dig_update_17 (Q : AH → Prop) (r0 : Nat) (r1 : Nat) (x4 : Int32) (x5 : Int32) (h : AH) : Prop := fx_loop (fun (X17 : Int32 × Int32 × AH → Prop) (st : Int32 × Int32 × AH) => m_Dig_update_17_b Q X17 r0 r1 st.1 st.2.1 st.2.2) (x4, x5, h)
def m_Dig_update (Q : AH → Prop) (r0 : Nat) (r1 : Nat) (x2 : Int32) (x3 : Int32) (h : AH) : Prop := hp_k h r0 = 6 ∧ ∀ h1 : AH, h1 = up_L h r0 6 ((hp_L h r0 6) + ((x3).toInt64)) → m_Dig_update_17 Q r0 r1 x2 x3 h1
theorem b_Dig_update_94 {p : Program} {l : Launch} {e : Env} {R : Room} {s : State} {m : MethodId} {args : Array Value} {below : List Frame} {meth : Method} {c : Code} {D : DD} {h0 : AH} {Q : AH → Prop} {X17 : Int32 × Int32 × AH → Prop} (C : fx_CX D y_Dig_update prog_3_method_8_code 7 4 77 (none) [] h0 p R s m meth c) (hl : l.flags = flags0) (r0 : Nat) (r1 : Nat) (x4 : Int32) (x5 : Int32) (h : AH) (hX17 : ∀ st, X17 st → ∀ (ls : Array Slot) (H : Heap) (locs : List Loc) (cells slots : Nat), lv_has ls 7 [(0, .ref r0), (1, .ref r1), (4, .int st.1), (5, .int st.2.1)] → fx_F D h0 st.2.2 H locs cells slots → W p l e R s m args below meth c H locs cells slots (fx_Z D below s h0 (fx_oV Q fx_no)) (F0 m 17 ls [])) (hw : m_Dig_update_94 Q X17 r0 r1 x4 x5 h) : ∀ (ls : Array Slot) (H : Heap) (locs : List Loc) (cells slots : Nat), lv_has ls 7 [(0, .ref r0), (1, .ref r1), (4, .int x4), (5, .int x5)] → fx_F D h0 h H locs cells slots → W p l e R s m args below meth c H locs cells slots (fx_Z D below s h0 (fx_oV Q fx_no)) (F0 m 94 ls []) := by
  unfold m_Dig_update_94 at hw
  intro ls H locs cells slots hv F
  refine lv_goto C.ex C.by d_Dig_update_94 rfl ?_
  exact hX17 _ hw _ _ _ _ _ hv F
theorem b_Dig_update_17 {p : Program} {l : Launch} {e : Env} {R : Room} {s : State} {m : MethodId} {args : Array Value} {below : List Frame} {meth : Method} {c : Code} {D : DD} {h0 : AH} {Q : AH → Prop} (C : fx_CX D y_Dig_update prog_3_method_8_code 7 4 77 (none) [] h0 p R s m meth c) (hl : l.flags = flags0) (r0 : Nat) (r1 : Nat) (x4 : Int32) (x5 : Int32) (h : AH) (hw : m_Dig_update_17 Q r0 r1 x4 x5 h) : ∀ (ls : Array Slot) (H : Heap) (locs : List Loc) (cells slots : Nat), lv_has ls 7 [(0, .ref r0), (1, .ref r1), (4, .int x4), (5, .int x5)] → fx_F D h0 h H locs cells slots → W p l e R s m args below meth c H locs cells slots (fx_Z D below s h0 (fx_oV Q fx_no)) (F0 m 17 ls []) := by
  refine fx_loop.use hw (fun st => ∀ (ls : Array Slot) (H : Heap) (locs : List Loc) (cells slots : Nat), lv_has ls 7 [(0, .ref r0), (1, .ref r1), (4, .int st.1), (5, .int st.2.1)] → fx_F D h0 st.2.2 H locs cells slots → W p l e R s m args below meth c H locs cells slots (fx_Z D below s h0 (fx_oV Q fx_no)) (F0 m 17 ls [])) (fun X17 st hX17 hw => ?_)
  obtain ⟨x4, x5, h⟩ := st
  replace hw : m_Dig_update_17_b Q X17 r0 r1 x4 x5 h := hw
  unfold m_Dig_update_17_b at hw
  intro ls H locs cells slots hv F
  refine lv_iload C.ex C.by d_Dig_update_17 (lv_at hv 3 rfl) ?_
  refine lv_if_le C.ex C.by d_Dig_update_19 rfl (fun hc => ?_) (fun hc => ?_)
  · replace hw := hw.1 hc
    exact fx_vret C F d_Dig_update_97 (Or.inl ⟨rfl, hw⟩)
  · replace hw := hw.2 hc
    refine lv_iload C.ex C.by d_Dig_update_22 (lv_at hv 3 rfl) ?_
    refine lv_aload_n C.ex C.by d_Dig_update_24 rfl (lv_at hv 0 rfl) ?_
    obtain ⟨hk1, hw⟩ := hw
    refine fx_getI C F lf_Dig_23 hk1 rfl d_Dig_update_25 ?_
    refine lv_aload_n C.ex C.by d_Dig_update_28 rfl (lv_at hv 0 rfl) ?_
    refine fx_getI C F lf_Dig_7 hk1 rfl d_Dig_update_29 ?_
    refine lv_isub C.ex C.by d_Dig_update_32 ?_
    refine fx_callI C F (c_Math_min hl hw) hm_Math_min hi_Math_min hv.1 (by decide) (Nat.le_of_ble_eq_true rfl) (iv_Math_min C F lm_Dig_43 d_Dig_update_33) (fx_out0 _) fx_eno (fun v1 h1 H locs cells slots hw hx1 F => ?_)
    replace hw := hw hx1
    have hk1 := (hx1).k hk1
    refine lv_istore (lv' := [(6, .int v1), (0, .ref r0), (1, .ref r1), (4, .int x4), (5, .int x5)]) C.ex C.by d_Dig_update_36 hv (by decide) rfl (fun ls hv => ?_)
    refine lv_aload_n C.ex C.by d_Dig_update_38 rfl (lv_at hv 2 rfl) ?_
    refine lv_iload C.ex C.by d_Dig_update_39 (lv_at hv 3 rfl) ?_
    refine lv_aload_n C.ex C.by d_Dig_update_41 rfl (lv_at hv 1 rfl) ?_
    obtain ⟨b1, hb1, hw⟩ := hw
    refine fx_getR C F lf_Dig_26 hk1 rfl hb1 d_Dig_update_42 ?_
    refine lv_aload_n C.ex C.by d_Dig_update_45 rfl (lv_at hv 1 rfl) ?_
    refine fx_getI C F lf_Dig_7 hk1 rfl d_Dig_update_46 ?_
    refine lv_iload C.ex C.by d_Dig_update_49 (lv_at hv 0 rfl) ?_
    obtain ⟨hk2, hw⟩ := hw
    obtain ⟨hk3, hw⟩ := hw
    obtain ⟨g1, g2, g3, g4, g5, hw⟩ := hw
    let h2 : AH := up_CI h1 r1 x4.toNatClampNeg b1 (hp_I h1 r0 5).toNatClampNeg v1.toNatClampNeg
    replace hw := hw h2 rfl
    refine fx_copyB C F (fx_m4 (List.mem_of_getElem? (i := 170) rfl)) (fx_m3 (List.mem_of_getElem? (i := 27) rfl)) (fx_m3 (List.mem_of_getElem? (i := 26) rfl)) (fx_m1 (List.mem_of_getElem? (i := 21) rfl)) hv.1 hk2 hk3 g1 g2 g3 g4 g5 (by decide) (Nat.le_of_ble_eq_true rfl) d_Dig_update_51 (fun H locs (F : fx_F D h0 h2 H locs _ _) => ?_)
    refine lv_aload_n C.ex C.by d_Dig_update_54 rfl (lv_at hv 1 rfl) ?_
    refine lv_dup C.ex C.by d_Dig_update_55 rfl ?_
    refine fx_getI C F lf_Dig_7 hk1 rfl d_Dig_update_56 ?_
    refine lv_iload C.ex C.by d_Dig_update_59 (lv_at hv 0 rfl) ?_
    refine lv_iadd C.ex C.by d_Dig_update_61 ?_
    let h3 : AH := up_I h2 r0 5 ((hp_I h2 r0 5) + v1)
    replace hw := hw h3 rfl
    refine fx_putI C F lf_Dig_7 hk1 rfl rfl (fx_mayF.no rfl rfl) d_Dig_update_62 (fun H locs (F : fx_F D h0 h3 H locs _ _) => ?_)
    refine lv_iload C.ex C.by d_Dig_update_65 (lv_at hv 3 rfl) ?_
    refine lv_iload C.ex C.by d_Dig_update_67 (lv_at hv 0 rfl) ?_
    refine lv_iadd C.ex C.by d_Dig_update_69 ?_
    let v2 : Int32 := (x4 + v1)
    replace hw := hw v2 rfl
    refine lv_istore (lv' := [(4, .int v2), (6, .int v1), (0, .ref r0), (1, .ref r1), (5, .int x5)]) C.ex C.by d_Dig_update_70 hv (by decide) rfl (fun ls hv => ?_)
    refine lv_iload C.ex C.by d_Dig_update_72 (lv_at hv 4 rfl) ?_
    refine lv_iload C.ex C.by d_Dig_update_74 (lv_at hv 1 rfl) ?_
    refine lv_isub C.ex C.by d_Dig_update_76 ?_
    let v3 : Int32 := (x5 - v1)
    replace hw := hw v3 rfl
    refine lv_istore (lv' := [(5, .int v3), (4, .int v2), (6, .int v1), (0, .ref r0), (1, .ref r1)]) C.ex C.by d_Dig_update_77 hv (by decide) rfl (fun ls hv => ?_)
    refine lv_aload_n C.ex C.by d_Dig_update_79 rfl (lv_at hv 3 rfl) ?_
    refine fx_getI C F lf_Dig_7 hk1 rfl d_Dig_update_80 ?_
    refine lv_aload_n C.ex C.by d_Dig_update_83 rfl (lv_at hv 3 rfl) ?_
    refine fx_getI C F lf_Dig_23 hk1 rfl d_Dig_update_84 ?_
    refine lv_icmp_ne C.ex C.by d_Dig_update_87 rfl (fun hc => ?_) (fun hc => ?_)
    · replace hw := hw.1 hc
      exact b_Dig_update_94 C hl _ _ _ _ _ hX17 hw _ _ _ _ _ (lv_sub hv [3, 4, 1, 0] rfl) F
    · replace hw := hw.2 hc
      refine lv_aload_n C.ex C.by d_Dig_update_90 rfl (lv_at hv 3 rfl) ?_
      refine fx_callV C F (c_Dig_turn hl hw) hm_Dig_turn hi_Dig_turn hv.1 (by decide) (Nat.le_of_ble_eq_true rfl) (iv_Dig_turn C F lm_Dig_49 hk1 d_Dig_update_91) (fx_out0 _) fx_eno (fun h4 H locs cells slots hw hx2 F => ?_)
      replace hw := hw hx2
      have hk3 := (hx2).k hk3
      have hk1 := (hx2).k hk1
      have hk2 := (hx2).gb hk2
      exact b_Dig_update_94 C hl _ _ _ _ _ hX17 hw _ _ _ _ _ (lv_sub hv [3, 4, 1, 0] rfl) F
theorem b_Dig_update_0 {p : Program} {l : Launch} {e : Env} {R : Room} {s : State} {m : MethodId} {args : Array Value} {below : List Frame} {meth : Method} {c : Code} {D : DD} {h0 : AH} {Q : AH → Prop} (C : fx_CX D y_Dig_update prog_3_method_8_code 7 4 77 (none) [] h0 p R s m meth c) (hl : l.flags = flags0) (r0 : Nat) (r1 : Nat) (x2 : Int32) (x3 : Int32) (h : AH) (hw : m_Dig_update Q r0 r1 x2 x3 h) : ∀ (ls : Array Slot) (H : Heap) (locs : List Loc) (cells slots : Nat), lv_has ls 7 [(0, .ref r0), (1, .ref r1), (2, .int x2), (3, .int x3)] → fx_F D h0 h H locs cells slots → W p l e R s m args below meth c H locs cells slots (fx_Z D below s h0 (fx_oV Q fx_no)) (F0 m 0 ls []) := by
  unfold m_Dig_update at hw
  intro ls H locs cells slots hv F
  refine lv_aload_n C.ex C.by d_Dig_update_0 rfl (lv_at hv 0 rfl) ?_
  refine lv_dup C.ex C.by d_Dig_update_1 rfl ?_
  obtain ⟨hk1, hw⟩ := hw
  refine fx_getL C F lf_Dig_13 hk1 rfl d_Dig_update_2 ?_
  refine lv_iload_n C.ex C.by d_Dig_update_5 rfl (lv_at hv 3 rfl) ?_
  refine lv_i2l (v := ((x3).toInt64)) C.ex C.by d_Dig_update_6 rfl ?_
  refine lv_ladd C.ex C.by d_Dig_update_7 ?_
  let h1 : AH := up_L h r0 6 ((hp_L h r0 6) + ((x3).toInt64))
  replace hw := hw h1 rfl
  refine fx_putL C F lf_Dig_13 hk1 rfl rfl (fx_mayF.no rfl rfl) d_Dig_update_8 (fun H locs (F : fx_F D h0 h1 H locs _ _) => ?_)
  refine lv_iload_n C.ex C.by d_Dig_update_11 rfl (lv_at hv 2 rfl) ?_
  refine lv_istore (lv' := [(4, .int x2), (0, .ref r0), (1, .ref r1), (2, .int x2), (3, .int x3)]) C.ex C.by d_Dig_update_12 hv (by decide) rfl (fun ls hv => ?_)
  refine lv_iload_n C.ex C.by d_Dig_update_14 rfl (lv_at hv 4 rfl) ?_
  refine lv_istore (lv' := [(5, .int x3), (4, .int x2), (0, .ref r0), (1, .ref r1), (2, .int x2), (3, .int x3)]) C.ex C.by d_Dig_update_15 hv (by decide) rfl (fun ls hv => ?_)
  exact b_Dig_update_17 C hl _ _ _ _ _ hw _ _ _ _ _ (lv_sub hv [2, 3, 1, 0] rfl) F
theorem hm_Dig_update : fx_hd y_Dig_update prog_3_method_8_code 7 (none) [] ∈ tables_1 := (fx_m4 (List.mem_of_getElem? (i := 168) rfl))
theorem hi_Dig_update : Cond.initialized y_Dig_update.cls ∈ tables_1 := (fx_m1 (List.mem_of_getElem? (i := 8) rfl))
theorem c_Dig_update {l : Launch} (hl : l.flags = flags0) {D : DD} {Q : AH → Prop} {r0 : Nat} {r1 : Nat} {x2 : Int32} {x3 : Int32} {h : AH} (hw : m_Dig_update Q r0 r1 x2 x3 h) : fx_Mt l D y_Dig_update (fx_hd y_Dig_update prog_3_method_8_code 7 (none) []) 4 77 [.ref r0, .ref r1, .int x2, .int x3] h (fx_oV Q fx_no) := by
  refine fx_ofW (plainFor_of_name (by decide)) (fun p e s m below meth c C F => ?_)
  have hv := lv_entry ([.ref r0, .ref r1, .int x2, .int x3]) (n := 7) (Nat.le_of_ble_eq_true rfl)
  rw [lg_entry_eq]
  generalize (lg_sl ([.ref r0, .ref r1, .int x2, .int x3]) ++ List.replicate (7 - (lg_sl ([.ref r0, .ref r1, .int x2, .int x3])).length) Slot.unset).toArray = ls at hv ⊢
  have hv : lv_has ls 7 [(0, .ref r0), (1, .ref r1), (2, .int x2), (3, .int x3)] := hv
  exact b_Dig_update_0 C hl _ _ _ _ _ hw _ _ _ _ _ hv F
/-! ChainJudge$Digest.one(I)V: frames 4, words 77 -/
abbrev y_Dig_one : MethodName := ⟨"ChainJudge$Digest", "one", "(I)V"⟩
def dl_Dig_one : List (Nat × Instr × Nat) := [(0, .aload_n 0, 1), (1, .dup, 1), (2, .getfield 13, 3), (5, .lconst 1, 1), (6, .ladd, 1), (7, .putfield 13, 3), (10, .aload_n 0, 1), (11, .getfield 26, 3), (14, .aload_n 0, 1), (15, .dup, 1), (16, .getfield 7, 3), (19, .dup_x1, 1), (20, .iconst 1, 1), (21, .iadd, 1), (22, .putfield 7, 3), (25, .iload_n 1, 1), (26, .i2b, 1), (27, .bastore, 1), (28, .aload_n 0, 1), (29, .getfield 7, 3), (32, .aload_n 0, 1), (33, .getfield 23, 3), (36, .if_icmp .ne 7, 3), (39, .aload_n 0, 1), (40, .invokevirtual 49, 3), (43, .return_, 1)]
theorem dk_Dig_one : fx_dec prog_3_method_9_code dl_Dig_one = true := by decide +kernel
theorem d_Dig_one_0 : decode prog_3_method_9_code 0 = .ok (.aload_n 0, 1) := fx_dat dk_Dig_one 0 rfl
theorem d_Dig_one_1 : decode prog_3_method_9_code 1 = .ok (.dup, 1) := fx_dat dk_Dig_one 1 rfl
theorem d_Dig_one_2 : decode prog_3_method_9_code 2 = .ok (.getfield 13, 3) := fx_dat dk_Dig_one 2 rfl
theorem d_Dig_one_5 : decode prog_3_method_9_code 5 = .ok (.lconst 1, 1) := fx_dat dk_Dig_one 3 rfl
theorem d_Dig_one_6 : decode prog_3_method_9_code 6 = .ok (.ladd, 1) := fx_dat dk_Dig_one 4 rfl
theorem d_Dig_one_7 : decode prog_3_method_9_code 7 = .ok (.putfield 13, 3) := fx_dat dk_Dig_one 5 rfl
theorem d_Dig_one_10 : decode prog_3_method_9_code 10 = .ok (.aload_n 0, 1) := fx_dat dk_Dig_one 6 rfl
theorem d_Dig_one_11 : decode prog_3_method_9_code 11 = .ok (.getfield 26, 3) := fx_dat dk_Dig_one 7 rfl
theorem d_Dig_one_14 : decode prog_3_method_9_code 14 = .ok (.aload_n 0, 1) := fx_dat dk_Dig_one 8 rfl
theorem d_Dig_one_15 : decode prog_3_method_9_code 15 = .ok (.dup, 1) := fx_dat dk_Dig_one 9 rfl
theorem d_Dig_one_16 : decode prog_3_method_9_code 16 = .ok (.getfield 7, 3) := fx_dat dk_Dig_one 10 rfl
theorem d_Dig_one_19 : decode prog_3_method_9_code 19 = .ok (.dup_x1, 1) := fx_dat dk_Dig_one 11 rfl
theorem d_Dig_one_20 : decode prog_3_method_9_code 20 = .ok (.iconst 1, 1) := fx_dat dk_Dig_one 12 rfl
theorem d_Dig_one_21 : decode prog_3_method_9_code 21 = .ok (.iadd, 1) := fx_dat dk_Dig_one 13 rfl
theorem d_Dig_one_22 : decode prog_3_method_9_code 22 = .ok (.putfield 7, 3) := fx_dat dk_Dig_one 14 rfl
theorem d_Dig_one_25 : decode prog_3_method_9_code 25 = .ok (.iload_n 1, 1) := fx_dat dk_Dig_one 15 rfl
theorem d_Dig_one_26 : decode prog_3_method_9_code 26 = .ok (.i2b, 1) := fx_dat dk_Dig_one 16 rfl
theorem d_Dig_one_27 : decode prog_3_method_9_code 27 = .ok (.bastore, 1) := fx_dat dk_Dig_one 17 rfl
theorem d_Dig_one_28 : decode prog_3_method_9_code 28 = .ok (.aload_n 0, 1) := fx_dat dk_Dig_one 18 rfl
theorem d_Dig_one_29 : decode prog_3_method_9_code 29 = .ok (.getfield 7, 3) := fx_dat dk_Dig_one 19 rfl
theorem d_Dig_one_32 : decode prog_3_method_9_code 32 = .ok (.aload_n 0, 1) := fx_dat dk_Dig_one 20 rfl
theorem d_Dig_one_33 : decode prog_3_method_9_code 33 = .ok (.getfield 23, 3) := fx_dat dk_Dig_one 21 rfl
theorem d_Dig_one_36 : decode prog_3_method_9_code 36 = .ok (.if_icmp .ne 7, 3) := fx_dat dk_Dig_one 22 rfl
theorem d_Dig_one_39 : decode prog_3_method_9_code 39 = .ok (.aload_n 0, 1) := fx_dat dk_Dig_one 23 rfl
theorem d_Dig_one_40 : decode prog_3_method_9_code 40 = .ok (.invokevirtual 49, 3) := fx_dat dk_Dig_one 24 rfl
theorem d_Dig_one_43 : decode prog_3_method_9_code 43 = .ok (.return_, 1) := fx_dat dk_Dig_one 25 rfl
def m_Dig_one_43 (Q : AH → Prop) (h : AH) : Prop := Q h
def m_Dig_one (Q : AH → Prop) (r0 : Nat) (x1 : Int32) (h : AH) : Prop := hp_k h r0 = 6 ∧ ∀ h1 : AH, h1 = up_L h r0 6 ((hp_L h r0 6) + (1 : Int64)) → ∃ b1, hp_R h1 r0 4 = some b1 ∧ ∀ h2 : AH, h2 = up_I h1 r0 5 ((hp_I h1 r0 5) + (1 : Int32)) → hp_k h2 b1 = 101 ∧ vp_in (hp_I h1 r0 5) (hp_n h2 b1) ∧ ∀ h3 : AH, h3 = up_I h2 b1 ((hp_I h1 r0 5)).toNatClampNeg (((x1).toInt8.toInt32)).toInt8.toInt32 → (¬ (hp_I h3 r0 5) = (hp_I h3 r0 3) → m_Dig_one_43 Q h3) ∧ ((hp_I h3 r0 5) = (hp_I h3 r0 3) → m_Dig_turn (fun h4 => fx_ext h3 h4 → m_Dig_one_43 Q h4) r0 h3)
theorem b_Dig_one_43 {p : Program} {l : Launch} {e : Env} {R : Room} {s : State} {m : MethodId} {args : Array Value} {below : List Frame} {meth : Method} {c : Code} {D : DD} {h0 : AH} {Q : AH → Prop} (C : fx_CX D y_Dig_one prog_3_method_9_code 2 4 77 (none) [] h0 p R s m meth c) (hl : l.flags = flags0) (h : AH) (hw : m_Dig_one_43 Q h) : ∀ (ls : Array Slot) (H : Heap) (locs : List Loc) (cells slots : Nat), lv_has ls 2 [] → fx_F D h0 h H locs cells slots → W p l e R s m args below meth c H locs cells slots (fx_Z D below s h0 (fx_oV Q fx_no)) (F0 m 43 ls []) := by
  unfold m_Dig_one_43 at hw
  intro ls H locs cells slots hv F
  exact fx_vret C F d_Dig_one_43 (Or.inl ⟨rfl, hw⟩)
theorem b_Dig_one_0 {p : Program} {l : Launch} {e : Env} {R : Room} {s : State} {m : MethodId} {args : Array Value} {below : List Frame} {meth : Method} {c : Code} {D : DD} {h0 : AH} {Q : AH → Prop} (C : fx_CX D y_Dig_one prog_3_method_9_code 2 4 77 (none) [] h0 p R s m meth c) (hl : l.flags = flags0) (r0 : Nat) (x1 : Int32) (h : AH) (hw : m_Dig_one Q r0 x1 h) : ∀ (ls : Array Slot) (H : Heap) (locs : List Loc) (cells slots : Nat), lv_has ls 2 [(0, .ref r0), (1, .int x1)] → fx_F D h0 h H locs cells slots → W p l e R s m args below meth c H locs cells slots (fx_Z D below s h0 (fx_oV Q fx_no)) (F0 m 0 ls []) := by
  unfold m_Dig_one at hw
  intro ls H locs cells slots hv F
  refine lv_aload_n C.ex C.by d_Dig_one_0 rfl (lv_at hv 0 rfl) ?_
  refine lv_dup C.ex C.by d_Dig_one_1 rfl ?_
  obtain ⟨hk1, hw⟩ := hw
  refine fx_getL C F lf_Dig_13 hk1 rfl d_Dig_one_2 ?_
  refine lv_lconst (v := (1 : Int64)) C.ex C.by d_Dig_one_5 (by decide) ?_
  refine lv_ladd C.ex C.by d_Dig_one_6 ?_
  let h1 : AH := up_L h r0 6 ((hp_L h r0 6) + (1 : Int64))
  replace hw := hw h1 rfl
  refine fx_putL C F lf_Dig_13 hk1 rfl rfl (fx_mayF.no rfl rfl) d_Dig_one_7 (fun H locs (F : fx_F D h0 h1 H locs _ _) => ?_)
  refine lv_aload_n C.ex C.by d_Dig_one_10 rfl (lv_at hv 0 rfl) ?_
  obtain ⟨b1, hb1, hw⟩ := hw
  refine fx_getR C F lf_Dig_26 hk1 rfl hb1 d_Dig_one_11 ?_
  refine lv_aload_n C.ex C.by d_Dig_one_14 rfl (lv_at hv 0 rfl) ?_
  refine lv_dup C.ex C.by d_Dig_one_15 rfl ?_
  refine fx_getI C F lf_Dig_7 hk1 rfl d_Dig_one_16 ?_
  refine lv_dup_x1 C.ex C.by d_Dig_one_19 rfl rfl ?_
  refine lv_iconst (v := (1 : Int32)) C.ex C.by d_Dig_one_20 (by decide) ?_
  refine lv_iadd C.ex C.by d_Dig_one_21 ?_
  let h2 : AH := up_I h1 r0 5 ((hp_I h1 r0 5) + (1 : Int32))
  replace hw := hw h2 rfl
  refine fx_putI C F lf_Dig_7 hk1 rfl rfl (fx_mayF.no rfl rfl) d_Dig_one_22 (fun H locs (F : fx_F D h0 h2 H locs _ _) => ?_)
  refine lv_iload_n C.ex C.by d_Dig_one_25 rfl (lv_at hv 1 rfl) ?_
  refine lv_i2b (v := ((x1).toInt8.toInt32)) C.ex C.by d_Dig_one_26 rfl ?_
  obtain ⟨hk2, hw⟩ := hw
  obtain ⟨hi1, hw⟩ := hw
  let h3 : AH := up_I h2 b1 ((hp_I h1 r0 5)).toNatClampNeg (((x1).toInt8.toInt32)).toInt8.toInt32
  replace hw := hw h3 rfl
  refine fx_bast C F hk2 hi1 d_Dig_one_27 (fun H locs (F : fx_F D h0 h3 H locs _ _) => ?_)
  refine lv_aload_n C.ex C.by d_Dig_one_28 rfl (lv_at hv 0 rfl) ?_
  refine fx_getI C F lf_Dig_7 hk1 rfl d_Dig_one_29 ?_
  refine lv_aload_n C.ex C.by d_Dig_one_32 rfl (lv_at hv 0 rfl) ?_
  refine fx_getI C F lf_Dig_23 hk1 rfl d_Dig_one_33 ?_
  refine lv_icmp_ne C.ex C.by d_Dig_one_36 rfl (fun hc => ?_) (fun hc => ?_)
  · replace hw := hw.1 hc
    exact b_Dig_one_43 C hl _ hw _ _ _ _ _ (lv_sub hv [] rfl) F
  · replace hw := hw.2 hc
    refine lv_aload_n C.ex C.by d_Dig_one_39 rfl (lv_at hv 0 rfl) ?_
    refine fx_callV C F (c_Dig_turn hl hw) hm_Dig_turn hi_Dig_turn hv.1 (by decide) (Nat.le_of_ble_eq_true rfl) (iv_Dig_turn C F lm_Dig_49 hk1 d_Dig_one_40) (fx_out0 _) fx_eno (fun h4 H locs cells slots hw hx1 F => ?_)
    replace hw := hw hx1
    have hk2 := (hx1).k hk2
    have hk1 := (hx1).k hk1
    exact b_Dig_one_43 C hl _ hw _ _ _ _ _ (lv_sub hv [] rfl) F
theorem hm_Dig_one : fx_hd y_Dig_one prog_3_method_9_code 2 (none) [] ∈ tables_1 := (fx_m4 (List.mem_of_getElem? (i := 201) rfl))
theorem hi_Dig_one : Cond.initialized y_Dig_one.cls ∈ tables_1 := (fx_m1 (List.mem_of_getElem? (i := 8) rfl))
theorem c_Dig_one {l : Launch} (hl : l.flags = flags0) {D : DD} {Q : AH → Prop} {r0 : Nat} {x1 : Int32} {h : AH} (hw : m_Dig_one Q r0 x1 h) : fx_Mt l D y_Dig_one (fx_hd y_Dig_one prog_3_method_9_code 2 (none) []) 4 77 [.ref r0, .int x1] h (fx_oV Q fx_no) := by
  refine fx_ofW (plainFor_of_name (by decide)) (fun p e s m below meth c C F => ?_)
  have hv := lv_entry ([.ref r0, .int x1]) (n := 2) (Nat.le_of_ble_eq_true rfl)
  rw [lg_entry_eq]
  generalize (lg_sl ([.ref r0, .int x1]) ++ List.replicate (2 - (lg_sl ([.ref r0, .int x1])).length) Slot.unset).toArray = ls at hv ⊢
  have hv : lv_has ls 2 [(0, .ref r0), (1, .int x1)] := hv
  exact b_Dig_one_0 C hl _ _ _ hw _ _ _ _ _ hv F
/-! ChainJudge$Sha256.put([BI)V: frames 0, words 0 -/
abbrev y_Sha_put : MethodName := ⟨"ChainJudge$Sha256", "put", "([BI)V"⟩
def dl_Sha_put : List (Nat × Instr × Nat) := [(0, .iconst 0, 1), (1, .istore_n 3, 1), (2, .iload_n 3, 1), (3, .bipush 32, 2), (5, .if_icmp .ge 33, 3), (8, .aload_n 1, 1), (9, .iload_n 2, 1), (10, .iload_n 3, 1), (11, .iadd, 1), (12, .aload_n 0, 1), (13, .getfield 7, 3), (16, .iload_n 3, 1), (17, .iconst 4, 1), (18, .idiv, 1), (19, .iaload, 1), (20, .bipush 24, 2), (22, .bipush 8, 2), (24, .iload_n 3, 1), (25, .iconst 4, 1), (26, .irem, 1), (27, .imul, 1), (28, .isub, 1), (29, .iushr, 1), (30, .i2b, 1), (31, .bastore, 1), (32, .iinc 3 1, 3), (35, .goto (-33), 3), (38, .return_, 1)]
theorem dk_Sha_put : fx_dec prog_12_method_6_code dl_Sha_put = true := by decide +kernel
theorem d_Sha_put_0 : decode prog_12_method_6_code 0 = .ok (.iconst 0, 1) := fx_dat dk_Sha_put 0 rfl
theorem d_Sha_put_1 : decode prog_12_method_6_code 1 = .ok (.istore_n 3, 1) := fx_dat dk_Sha_put 1 rfl
theorem d_Sha_put_2 : decode prog_12_method_6_code 2 = .ok (.iload_n 3, 1) := fx_dat dk_Sha_put 2 rfl
theorem d_Sha_put_3 : decode prog_12_method_6_code 3 = .ok (.bipush 32, 2) := fx_dat dk_Sha_put 3 rfl
theorem d_Sha_put_5 : decode prog_12_method_6_code 5 = .ok (.if_icmp .ge 33, 3) := fx_dat dk_Sha_put 4 rfl
theorem d_Sha_put_8 : decode prog_12_method_6_code 8 = .ok (.aload_n 1, 1) := fx_dat dk_Sha_put 5 rfl
theorem d_Sha_put_9 : decode prog_12_method_6_code 9 = .ok (.iload_n 2, 1) := fx_dat dk_Sha_put 6 rfl
theorem d_Sha_put_10 : decode prog_12_method_6_code 10 = .ok (.iload_n 3, 1) := fx_dat dk_Sha_put 7 rfl
theorem d_Sha_put_11 : decode prog_12_method_6_code 11 = .ok (.iadd, 1) := fx_dat dk_Sha_put 8 rfl
theorem d_Sha_put_12 : decode prog_12_method_6_code 12 = .ok (.aload_n 0, 1) := fx_dat dk_Sha_put 9 rfl
theorem d_Sha_put_13 : decode prog_12_method_6_code 13 = .ok (.getfield 7, 3) := fx_dat dk_Sha_put 10 rfl
theorem d_Sha_put_16 : decode prog_12_method_6_code 16 = .ok (.iload_n 3, 1) := fx_dat dk_Sha_put 11 rfl
theorem d_Sha_put_17 : decode prog_12_method_6_code 17 = .ok (.iconst 4, 1) := fx_dat dk_Sha_put 12 rfl
theorem d_Sha_put_18 : decode prog_12_method_6_code 18 = .ok (.idiv, 1) := fx_dat dk_Sha_put 13 rfl
theorem d_Sha_put_19 : decode prog_12_method_6_code 19 = .ok (.iaload, 1) := fx_dat dk_Sha_put 14 rfl
theorem d_Sha_put_20 : decode prog_12_method_6_code 20 = .ok (.bipush 24, 2) := fx_dat dk_Sha_put 15 rfl
theorem d_Sha_put_22 : decode prog_12_method_6_code 22 = .ok (.bipush 8, 2) := fx_dat dk_Sha_put 16 rfl
theorem d_Sha_put_24 : decode prog_12_method_6_code 24 = .ok (.iload_n 3, 1) := fx_dat dk_Sha_put 17 rfl
theorem d_Sha_put_25 : decode prog_12_method_6_code 25 = .ok (.iconst 4, 1) := fx_dat dk_Sha_put 18 rfl
theorem d_Sha_put_26 : decode prog_12_method_6_code 26 = .ok (.irem, 1) := fx_dat dk_Sha_put 19 rfl
theorem d_Sha_put_27 : decode prog_12_method_6_code 27 = .ok (.imul, 1) := fx_dat dk_Sha_put 20 rfl
theorem d_Sha_put_28 : decode prog_12_method_6_code 28 = .ok (.isub, 1) := fx_dat dk_Sha_put 21 rfl
theorem d_Sha_put_29 : decode prog_12_method_6_code 29 = .ok (.iushr, 1) := fx_dat dk_Sha_put 22 rfl
theorem d_Sha_put_30 : decode prog_12_method_6_code 30 = .ok (.i2b, 1) := fx_dat dk_Sha_put 23 rfl
theorem d_Sha_put_31 : decode prog_12_method_6_code 31 = .ok (.bastore, 1) := fx_dat dk_Sha_put 24 rfl
theorem d_Sha_put_32 : decode prog_12_method_6_code 32 = .ok (.iinc 3 1, 3) := fx_dat dk_Sha_put 25 rfl
theorem d_Sha_put_35 : decode prog_12_method_6_code 35 = .ok (.goto (-33), 3) := fx_dat dk_Sha_put 26 rfl
theorem d_Sha_put_38 : decode prog_12_method_6_code 38 = .ok (.return_, 1) := fx_dat dk_Sha_put 27 rfl
def m_Sha_put_2_b (Q : AH → Prop) (X2 : Int32 × AH → Prop) (r0 : Nat) (r1 : Nat) (x2 : Int32) (x3 : Int32) (h : AH) : Prop := ((32 : Int32) ≤ x3 → Q h) ∧ (¬ (32 : Int32) ≤ x3 → hp_k h r0 = 6 ∧ ∃ b1, hp_R h r0 0 = some b1 ∧ ik (hp_k h b1) ∧ vp_in (x3 / (4 : Int32)) (hp_n h b1) ∧ hp_k h r1 = 101 ∧ vp_in (x2 + x3) (hp_n h r1) ∧ ∀ h1 : AH, h1 = up_I h r1 ((x2 + x3)).toNatClampNeg ((((sh_iu (hp_I h b1 ((x3 / (4 : Int32))).toNatClampNeg) ((24 : Int32) - ((8 : Int32) * (x3 - x3 / (4 : Int32) * (4 : Int32)))))).toInt8.toInt32)).toInt8.toInt32 → ∀ v1 : Int32, v1 = (x3 + (1 : Int32)) → X2 (v1, h1))
def m_Sha_put_2 (Q : AH → Prop) (r0 : Nat) (r1 : Nat) (x2 : Int32) (x3 : Int32) (h : AH) : Prop := fx_loop (fun (X2 : Int32 × AH → Prop) (st : Int32 × AH) => m_Sha_put_2_b Q X2 r0 r1 x2 st.1 st.2) (x3, h)
def m_Sha_put (Q : AH → Prop) (r0 : Nat) (r1 : Nat) (x2 : Int32) (h : AH) : Prop := m_Sha_put_2 Q r0 r1 x2 (0 : Int32) h
theorem b_Sha_put_2 {p : Program} {l : Launch} {e : Env} {R : Room} {s : State} {m : MethodId} {args : Array Value} {below : List Frame} {meth : Method} {c : Code} {D : DD} {h0 : AH} {Q : AH → Prop} (C : fx_CX D y_Sha_put prog_12_method_6_code 4 0 0 (none) [] h0 p R s m meth c) (hl : l.flags = flags0) (r0 : Nat) (r1 : Nat) (x2 : Int32) (x3 : Int32) (h : AH) (hw : m_Sha_put_2 Q r0 r1 x2 x3 h) : ∀ (ls : Array Slot) (H : Heap) (locs : List Loc) (cells slots : Nat), lv_has ls 4 [(0, .ref r0), (1, .ref r1), (2, .int x2), (3, .int x3)] → fx_F D h0 h H locs cells slots → W p l e R s m args below meth c H locs cells slots (fx_Z D below s h0 (fx_oV Q fx_no)) (F0 m 2 ls []) := by
  refine fx_loop.use hw (fun st => ∀ (ls : Array Slot) (H : Heap) (locs : List Loc) (cells slots : Nat), lv_has ls 4 [(0, .ref r0), (1, .ref r1), (2, .int x2), (3, .int st.1)] → fx_F D h0 st.2 H locs cells slots → W p l e R s m args below meth c H locs cells slots (fx_Z D below s h0 (fx_oV Q fx_no)) (F0 m 2 ls [])) (fun X2 st hX2 hw => ?_)
  obtain ⟨x3, h⟩ := st
  replace hw : m_Sha_put_2_b Q X2 r0 r1 x2 x3 h := hw
  unfold m_Sha_put_2_b at hw
  intro ls H locs cells slots hv F
  refine lv_iload_n C.ex C.by d_Sha_put_2 rfl (lv_at hv 3 rfl) ?_
  refine lv_bipush (v := (32 : Int32)) C.ex C.by d_Sha_put_3 (by decide) ?_
  refine lv_icmp_ge C.ex C.by d_Sha_put_5 rfl (fun hc => ?_) (fun hc => ?_)
  · replace hw := hw.1 hc
    exact fx_vret C F d_Sha_put_38 (Or.inl ⟨rfl, hw⟩)
  · replace hw := hw.2 hc
    refine lv_aload_n C.ex C.by d_Sha_put_8 rfl (lv_at hv 1 rfl) ?_
    refine lv_iload_n C.ex C.by d_Sha_put_9 rfl (lv_at hv 2 rfl) ?_
    refine lv_iload_n C.ex C.by d_Sha_put_10 rfl (lv_at hv 3 rfl) ?_
    refine lv_iadd C.ex C.by d_Sha_put_11 ?_
    refine lv_aload_n C.ex C.by d_Sha_put_12 rfl (lv_at hv 0 rfl) ?_
    obtain ⟨hk1, hw⟩ := hw
    obtain ⟨b1, hb1, hw⟩ := hw
    refine fx_getR C F lf_Sha_7 hk1 rfl hb1 d_Sha_put_13 ?_
    refine lv_iload_n C.ex C.by d_Sha_put_16 rfl (lv_at hv 3 rfl) ?_
    refine lv_iconst (v := (4 : Int32)) C.ex C.by d_Sha_put_17 (by decide) ?_
    refine lv_idiv C.ex C.by d_Sha_put_18 (by decide) ?_
    obtain ⟨hk2, hw⟩ := hw
    obtain ⟨hi1, hw⟩ := hw
    refine fx_iald C F hk2 hi1 d_Sha_put_19 ?_
    refine lv_bipush (v := (24 : Int32)) C.ex C.by d_Sha_put_20 (by decide) ?_
    refine lv_bipush (v := (8 : Int32)) C.ex C.by d_Sha_put_22 (by decide) ?_
    refine lv_iload_n C.ex C.by d_Sha_put_24 rfl (lv_at hv 3 rfl) ?_
    refine lv_iconst (v := (4 : Int32)) C.ex C.by d_Sha_put_25 (by decide) ?_
    refine lv_irem C.ex C.by d_Sha_put_26 (by decide) ?_
    refine lv_imul C.ex C.by d_Sha_put_27 ?_
    refine lv_isub C.ex C.by d_Sha_put_28 ?_
    refine lv_iushr (v := (sh_iu (hp_I h b1 ((x3 / (4 : Int32))).toNatClampNeg) ((24 : Int32) - ((8 : Int32) * (x3 - x3 / (4 : Int32) * (4 : Int32)))))) C.ex C.by d_Sha_put_29 rfl ?_
    refine lv_i2b (v := (((sh_iu (hp_I h b1 ((x3 / (4 : Int32))).toNatClampNeg) ((24 : Int32) - ((8 : Int32) * (x3 - x3 / (4 : Int32) * (4 : Int32)))))).toInt8.toInt32)) C.ex C.by d_Sha_put_30 rfl ?_
    obtain ⟨hk3, hw⟩ := hw
    obtain ⟨hi2, hw⟩ := hw
    let h1 : AH := up_I h r1 ((x2 + x3)).toNatClampNeg ((((sh_iu (hp_I h b1 ((x3 / (4 : Int32))).toNatClampNeg) ((24 : Int32) - ((8 : Int32) * (x3 - x3 / (4 : Int32) * (4 : Int32)))))).toInt8.toInt32)).toInt8.toInt32
    replace hw := hw h1 rfl
    refine fx_bast C F hk3 hi2 d_Sha_put_31 (fun H locs (F : fx_F D h0 h1 H locs _ _) => ?_)
    let v1 : Int32 := (x3 + (1 : Int32))
    replace hw := hw v1 rfl
    refine lv_iinc (v := v1) (k := 3) (lv' := [(3, .int v1), (0, .ref r0), (1, .ref r1), (2, .int x2)]) C.ex C.by d_Sha_put_32 hv rfl (congrArg (fun z => x3 + z) (by decide)) (by decide) rfl (fun ls hv => ?_)
    refine lv_goto C.ex C.by d_Sha_put_35 rfl ?_
    exact hX2 _ hw _ _ _ _ _ (lv_sub hv [1, 2, 3, 0] rfl) F
theorem b_Sha_put_0 {p : Program} {l : Launch} {e : Env} {R : Room} {s : State} {m : MethodId} {args : Array Value} {below : List Frame} {meth : Method} {c : Code} {D : DD} {h0 : AH} {Q : AH → Prop} (C : fx_CX D y_Sha_put prog_12_method_6_code 4 0 0 (none) [] h0 p R s m meth c) (hl : l.flags = flags0) (r0 : Nat) (r1 : Nat) (x2 : Int32) (h : AH) (hw : m_Sha_put Q r0 r1 x2 h) : ∀ (ls : Array Slot) (H : Heap) (locs : List Loc) (cells slots : Nat), lv_has ls 4 [(0, .ref r0), (1, .ref r1), (2, .int x2)] → fx_F D h0 h H locs cells slots → W p l e R s m args below meth c H locs cells slots (fx_Z D below s h0 (fx_oV Q fx_no)) (F0 m 0 ls []) := by
  unfold m_Sha_put at hw
  intro ls H locs cells slots hv F
  refine lv_iconst (v := (0 : Int32)) C.ex C.by d_Sha_put_0 (by decide) ?_
  refine lv_istore_n (lv' := [(3, .int (0 : Int32)), (0, .ref r0), (1, .ref r1), (2, .int x2)]) C.ex C.by d_Sha_put_1 rfl hv (by decide) rfl (fun ls hv => ?_)
  exact b_Sha_put_2 C hl _ _ _ _ _ hw _ _ _ _ _ (lv_sub hv [1, 2, 3, 0] rfl) F
theorem hm_Sha_put : fx_hd y_Sha_put prog_12_method_6_code 4 (none) [] ∈ tables_1 := (fx_m4 (List.mem_of_getElem? (i := 207) rfl))
theorem hi_Sha_put : Cond.initialized y_Sha_put.cls ∈ tables_1 := (fx_m1 (List.mem_of_getElem? (i := 9) rfl))
theorem c_Sha_put {l : Launch} (hl : l.flags = flags0) {D : DD} {Q : AH → Prop} {r0 : Nat} {r1 : Nat} {x2 : Int32} {h : AH} (hw : m_Sha_put Q r0 r1 x2 h) : fx_Mt l D y_Sha_put (fx_hd y_Sha_put prog_12_method_6_code 4 (none) []) 0 0 [.ref r0, .ref r1, .int x2] h (fx_oV Q fx_no) := by
  refine fx_ofW (plainFor_of_name (by decide)) (fun p e s m below meth c C F => ?_)
  have hv := lv_entry ([.ref r0, .ref r1, .int x2]) (n := 4) (Nat.le_of_ble_eq_true rfl)
  rw [lg_entry_eq]
  generalize (lg_sl ([.ref r0, .ref r1, .int x2]) ++ List.replicate (4 - (lg_sl ([.ref r0, .ref r1, .int x2])).length) Slot.unset).toArray = ls at hv ⊢
  have hv : lv_has ls 4 [(0, .ref r0), (1, .ref r1), (2, .int x2)] := hv
  exact b_Sha_put_0 C hl _ _ _ _ hw _ _ _ _ _ hv F
