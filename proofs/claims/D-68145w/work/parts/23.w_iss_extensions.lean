set_option maxRecDepth 10000
/-! ChainJudge$Issuer.extensions(I[BII)V: frames 7, words 113 -/
abbrev y_Iss_extensions : MethodName := ⟨"ChainJudge$Issuer", "extensions", "(I[BII)V"⟩
theorem ls_Iss_56 : fx_Ls "ChainJudge$Issuer" 56 9 := ⟨_, rfl, Or.inr ⟨_, (fx_m4 (List.mem_of_getElem? (i := 67) rfl))⟩⟩
theorem ls_Iss_59 : fx_Ls "ChainJudge$Issuer" 59 8 := ⟨_, rfl, Or.inr ⟨_, (fx_m4 (List.mem_of_getElem? (i := 87) rfl))⟩⟩
theorem ls_Iss_62 : fx_Ls "ChainJudge$Issuer" 62 7 := ⟨_, rfl, Or.inr ⟨_, (fx_m4 (List.mem_of_getElem? (i := 88) rfl))⟩⟩
theorem ls_Iss_65 : fx_Ls "ChainJudge$Issuer" 65 6 := ⟨_, rfl, Or.inr ⟨_, (fx_m4 (List.mem_of_getElem? (i := 89) rfl))⟩⟩
theorem ls_Iss_72 : fx_Ls "ChainJudge$Issuer" 72 4 := ⟨_, rfl, Or.inr ⟨_, (fx_m4 (List.mem_of_getElem? (i := 95) rfl))⟩⟩
theorem ls_Iss_78 : fx_Ls "ChainJudge$Issuer" 78 3 := ⟨_, rfl, Or.inr ⟨_, (fx_m4 (List.mem_of_getElem? (i := 100) rfl))⟩⟩
theorem lm_Iss_68 : Cond.methodLink "ChainJudge$Issuer" 68 y_Iss_hosts ∈ tables_1 ∨ ∃ host, Cond.methodLinkNest "ChainJudge$Issuer" 68 y_Iss_hosts host ∈ tables_1 := Or.inl (fx_m4 (List.mem_of_getElem? (i := 90) rfl))
theorem lm_Iss_75 : Cond.methodLink "ChainJudge$Issuer" 75 y_Wr_number ∈ tables_1 ∨ ∃ host, Cond.methodLinkNest "ChainJudge$Issuer" 75 y_Wr_number host ∈ tables_1 := Or.inl (fx_m4 (List.mem_of_getElem? (i := 96) rfl))
section
variable {p : Program} {l : Launch} {e : Env} {R : Room} {s : State} {m : MethodId} {args : Array Value} {below : List Frame} {meth : Method} {c : Code} {H : Heap} {locs : List Loc} {cells slots : Nat}
variable {D : DD} {y : MethodName} {cc : ByteArray} {nL kf kw : Nat} {ret : Option FieldType} {hh : List (Nat × Nat × Nat × Nat)} {h0 h : AH} {pc : Nat} {ls : Array Slot} {rest : List Value} {b idx : Nat}
theorem iv_Iss_hosts {r1 : Nat} {x2 : Int32} {x3 : Int32} (C : fx_CX D y cc nL kf kw ret hh h0 p R s m meth c) (F : fx_F D h0 h H locs cells slots) (hw1 : Cond.methodLink y.cls idx y_Iss_hosts ∈ tables_1 ∨ ∃ host, Cond.methodLinkNest y.cls idx y_Iss_hosts host ∈ tables_1) (hk : hp_k h b = 10) (hd : decode cc pc = .ok (.invokevirtual idx, 3)) : fx_IV p l e R s m args below meth c H locs cells slots (F0 m pc ls (.int x3 :: .int x2 :: .ref r1 :: .ref b :: rest)) rest y_Iss_hosts [.ref b, .ref r1, .int x2, .int x3] 3 := fun T hT X => fx_invV (As := [.ref r1, .int x2, .int x3]) (Cn := "ChainJudge$Issuer") C X hw1 (fx_m4 (List.mem_of_getElem? (i := 92) rfl)) (fx_selP C ⟨by decide, by decide⟩ (fx_m2 (List.mem_of_getElem? (i := 85) rfl)) (fx_m4 (List.mem_of_getElem? (i := 91) rfl)) (fx_m4 (List.mem_of_getElem? (i := 92) rfl))) hm_Iss_hosts ⟨by decide, by decide⟩ (by rw [hT]; exact fx_clsO (ci := 9) (r := ("ChainJudge$Issuer", fx_T9, 2)) C F rfl (by decide) hk) rfl (n := 3) (by decide +kernel) rfl rfl hd
theorem iv_Wr_number {x1 : Int32} (C : fx_CX D y cc nL kf kw ret hh h0 p R s m meth c) (F : fx_F D h0 h H locs cells slots) (hw1 : Cond.methodLink y.cls idx y_Wr_number ∈ tables_1 ∨ ∃ host, Cond.methodLinkNest y.cls idx y_Wr_number host ∈ tables_1) (hk : hp_k h b = 11) (hd : decode cc pc = .ok (.invokevirtual idx, 3)) : fx_IV p l e R s m args below meth c H locs cells slots (F0 m pc ls (.int x1 :: .ref b :: rest)) rest y_Wr_number [.ref b, .int x1] 3 := fun T hT X => fx_invV (As := [.int x1]) (Cn := "ChainJudge$Writer") C X hw1 (fx_m4 (List.mem_of_getElem? (i := 97) rfl)) (fx_selW C (fx_m4 (List.mem_of_getElem? (i := 98) rfl))) hm_Wr_number ⟨by decide, by decide⟩ (by rw [hT]; exact fx_clsO (ci := 10) (r := ("ChainJudge$Writer", fx_T10, 2)) C F rfl (by decide) hk) rfl (n := 1) (by decide +kernel) rfl rfl hd
end
def dl_Iss_extensions : List (Nat × Instr × Nat) := [(0, .aload_n 0, 1), (1, .getfield 10, 3), (4, .invokevirtual 30, 3), (7, .istore 5, 2), (9, .iload_n 1, 1), (10, .sipush 1024, 3), (13, .iand, 1), (14, .ifCond .eq 38, 3), (17, .aload_n 0, 1), (18, .getfield 10, 3), (21, .invokevirtual 30, 3), (24, .istore 6, 2), (26, .aload_n 0, 1), (27, .getfield 10, 3), (30, .iconst 0, 1), (31, .invokevirtual 34, 3), (34, .aload_n 0, 1), (35, .getfield 10, 3), (38, .iconst 5, 1), (39, .invokevirtual 34, 3), (42, .aload_n 0, 1), (43, .getstatic 56, 3), (46, .iconst 1, 1), (47, .iload 6, 2), (49, .invokevirtual 52, 3), (52, .iload_n 1, 1), (53, .sipush 768, 3), (56, .iand, 1), (57, .ifCond .eq 83, 3), (60, .aload_n 0, 1), (61, .getfield 10, 3), (64, .invokevirtual 30, 3), (67, .istore 6, 2), (69, .iload_n 1, 1), (70, .sipush 512, 3), (73, .iand, 1), (74, .ifCond .eq 20, 3), (77, .aload_n 0, 1), (78, .getfield 10, 3), (81, .bipush 6, 2), (83, .getstatic 59, 3), (86, .iconst 0, 1), (87, .getstatic 59, 3), (90, .arraylength, 1), (91, .invokevirtual 45, 3), (94, .iload_n 1, 1), (95, .sipush 256, 3), (98, .iand, 1), (99, .ifCond .eq 20, 3), (102, .aload_n 0, 1), (103, .getfield 10, 3), (106, .bipush 6, 2), (108, .getstatic 62, 3), (111, .iconst 0, 1), (112, .getstatic 62, 3), (115, .arraylength, 1), (116, .invokevirtual 45, 3), (119, .aload_n 0, 1), (120, .getfield 10, 3), (123, .bipush 48, 2), (125, .iload 6, 2), (127, .invokevirtual 41, 3), (130, .aload_n 0, 1), (131, .getstatic 65, 3), (134, .iconst 0, 1), (135, .iload 6, 2), (137, .invokevirtual 52, 3), (140, .iload_n 3, 1), (141, .iload 4, 2), (143, .if_icmp .ge 13, 3), (146, .aload_n 0, 1), (147, .aload_n 2, 1), (148, .iload_n 3, 1), (149, .iconst 1, 1), (150, .iadd, 1), (151, .iload 4, 2), (153, .invokevirtual 68, 3), (156, .aload_n 0, 1), (157, .getfield 10, 3), (160, .invokevirtual 30, 3), (163, .istore 6, 2), (165, .aload_n 0, 1), (166, .getfield 10, 3), (169, .iload_n 1, 1), (170, .iconst 1, 1), (171, .iand, 1), (172, .ifCond .eq 8, 3), (175, .bipush 6, 2), (177, .goto 6, 3), (180, .sipush 128, 3), (183, .invokevirtual 34, 3), (186, .aload_n 0, 1), (187, .getfield 10, 3), (190, .iload_n 1, 1), (191, .iconst 1, 1), (192, .iand, 1), (193, .ifCond .eq 7, 3), (196, .iconst 1, 1), (197, .goto 5, 3), (200, .bipush 7, 2), (202, .invokevirtual 34, 3), (205, .aload_n 0, 1), (206, .getfield 10, 3), (209, .iconst 3, 1), (210, .iload 6, 2), (212, .invokevirtual 41, 3), (215, .aload_n 0, 1), (216, .getstatic 72, 3), (219, .iconst 1, 1), (220, .iload 6, 2), (222, .invokevirtual 52, 3), (225, .aload_n 0, 1), (226, .getfield 10, 3), (229, .invokevirtual 30, 3), (232, .istore 6, 2), (234, .iload_n 1, 1), (235, .iconst 1, 1), (236, .ishr, 1), (237, .bipush 127, 2), (239, .iand, 1), (240, .iconst 1, 1), (241, .isub, 1), (242, .istore 7, 2), (244, .iload_n 1, 1), (245, .iconst 1, 1), (246, .iand, 1), (247, .ifCond .eq 43, 3), (250, .iload 7, 2), (252, .ifCond .lt 12, 3), (255, .aload_n 0, 1), (256, .getfield 10, 3), (259, .iload 7, 2), (261, .invokevirtual 75, 3), (264, .aload_n 0, 1), (265, .getfield 10, 3), (268, .sipush 255, 3), (271, .invokevirtual 34, 3), (274, .aload_n 0, 1), (275, .getfield 10, 3), (278, .iconst 1, 1), (279, .invokevirtual 34, 3), (282, .aload_n 0, 1), (283, .getfield 10, 3), (286, .iconst 1, 1), (287, .invokevirtual 34, 3), (290, .aload_n 0, 1), (291, .getfield 10, 3), (294, .bipush 48, 2), (296, .iload 6, 2), (298, .invokevirtual 41, 3), (301, .aload_n 0, 1), (302, .getstatic 78, 3), (305, .iconst 1, 1), (306, .iload 6, 2), (308, .invokevirtual 52, 3), (311, .aload_n 0, 1), (312, .getfield 10, 3), (315, .bipush 48, 2), (317, .iload 5, 2), (319, .invokevirtual 41, 3), (322, .aload_n 0, 1), (323, .getfield 10, 3), (326, .sipush 163, 3), (329, .iload 5, 2), (331, .invokevirtual 41, 3), (334, .return_, 1)]
theorem dk_Iss_extensions : fx_dec prog_5_method_6_code dl_Iss_extensions = true := by decide +kernel
theorem d_Iss_extensions_0 : decode prog_5_method_6_code 0 = .ok (.aload_n 0, 1) := fx_dat dk_Iss_extensions 0 rfl
theorem d_Iss_extensions_1 : decode prog_5_method_6_code 1 = .ok (.getfield 10, 3) := fx_dat dk_Iss_extensions 1 rfl
theorem d_Iss_extensions_4 : decode prog_5_method_6_code 4 = .ok (.invokevirtual 30, 3) := fx_dat dk_Iss_extensions 2 rfl
theorem d_Iss_extensions_7 : decode prog_5_method_6_code 7 = .ok (.istore 5, 2) := fx_dat dk_Iss_extensions 3 rfl
theorem d_Iss_extensions_9 : decode prog_5_method_6_code 9 = .ok (.iload_n 1, 1) := fx_dat dk_Iss_extensions 4 rfl
theorem d_Iss_extensions_10 : decode prog_5_method_6_code 10 = .ok (.sipush 1024, 3) := fx_dat dk_Iss_extensions 5 rfl
theorem d_Iss_extensions_13 : decode prog_5_method_6_code 13 = .ok (.iand, 1) := fx_dat dk_Iss_extensions 6 rfl
theorem d_Iss_extensions_14 : decode prog_5_method_6_code 14 = .ok (.ifCond .eq 38, 3) := fx_dat dk_Iss_extensions 7 rfl
theorem d_Iss_extensions_17 : decode prog_5_method_6_code 17 = .ok (.aload_n 0, 1) := fx_dat dk_Iss_extensions 8 rfl
theorem d_Iss_extensions_18 : decode prog_5_method_6_code 18 = .ok (.getfield 10, 3) := fx_dat dk_Iss_extensions 9 rfl
theorem d_Iss_extensions_21 : decode prog_5_method_6_code 21 = .ok (.invokevirtual 30, 3) := fx_dat dk_Iss_extensions 10 rfl
theorem d_Iss_extensions_24 : decode prog_5_method_6_code 24 = .ok (.istore 6, 2) := fx_dat dk_Iss_extensions 11 rfl
theorem d_Iss_extensions_26 : decode prog_5_method_6_code 26 = .ok (.aload_n 0, 1) := fx_dat dk_Iss_extensions 12 rfl
theorem d_Iss_extensions_27 : decode prog_5_method_6_code 27 = .ok (.getfield 10, 3) := fx_dat dk_Iss_extensions 13 rfl
theorem d_Iss_extensions_30 : decode prog_5_method_6_code 30 = .ok (.iconst 0, 1) := fx_dat dk_Iss_extensions 14 rfl
theorem d_Iss_extensions_31 : decode prog_5_method_6_code 31 = .ok (.invokevirtual 34, 3) := fx_dat dk_Iss_extensions 15 rfl
theorem d_Iss_extensions_34 : decode prog_5_method_6_code 34 = .ok (.aload_n 0, 1) := fx_dat dk_Iss_extensions 16 rfl
theorem d_Iss_extensions_35 : decode prog_5_method_6_code 35 = .ok (.getfield 10, 3) := fx_dat dk_Iss_extensions 17 rfl
theorem d_Iss_extensions_38 : decode prog_5_method_6_code 38 = .ok (.iconst 5, 1) := fx_dat dk_Iss_extensions 18 rfl
theorem d_Iss_extensions_39 : decode prog_5_method_6_code 39 = .ok (.invokevirtual 34, 3) := fx_dat dk_Iss_extensions 19 rfl
theorem d_Iss_extensions_42 : decode prog_5_method_6_code 42 = .ok (.aload_n 0, 1) := fx_dat dk_Iss_extensions 20 rfl
theorem d_Iss_extensions_43 : decode prog_5_method_6_code 43 = .ok (.getstatic 56, 3) := fx_dat dk_Iss_extensions 21 rfl
theorem d_Iss_extensions_46 : decode prog_5_method_6_code 46 = .ok (.iconst 1, 1) := fx_dat dk_Iss_extensions 22 rfl
theorem d_Iss_extensions_47 : decode prog_5_method_6_code 47 = .ok (.iload 6, 2) := fx_dat dk_Iss_extensions 23 rfl
theorem d_Iss_extensions_49 : decode prog_5_method_6_code 49 = .ok (.invokevirtual 52, 3) := fx_dat dk_Iss_extensions 24 rfl
theorem d_Iss_extensions_52 : decode prog_5_method_6_code 52 = .ok (.iload_n 1, 1) := fx_dat dk_Iss_extensions 25 rfl
theorem d_Iss_extensions_53 : decode prog_5_method_6_code 53 = .ok (.sipush 768, 3) := fx_dat dk_Iss_extensions 26 rfl
theorem d_Iss_extensions_56 : decode prog_5_method_6_code 56 = .ok (.iand, 1) := fx_dat dk_Iss_extensions 27 rfl
theorem d_Iss_extensions_57 : decode prog_5_method_6_code 57 = .ok (.ifCond .eq 83, 3) := fx_dat dk_Iss_extensions 28 rfl
theorem d_Iss_extensions_60 : decode prog_5_method_6_code 60 = .ok (.aload_n 0, 1) := fx_dat dk_Iss_extensions 29 rfl
theorem d_Iss_extensions_61 : decode prog_5_method_6_code 61 = .ok (.getfield 10, 3) := fx_dat dk_Iss_extensions 30 rfl
theorem d_Iss_extensions_64 : decode prog_5_method_6_code 64 = .ok (.invokevirtual 30, 3) := fx_dat dk_Iss_extensions 31 rfl
theorem d_Iss_extensions_67 : decode prog_5_method_6_code 67 = .ok (.istore 6, 2) := fx_dat dk_Iss_extensions 32 rfl
theorem d_Iss_extensions_69 : decode prog_5_method_6_code 69 = .ok (.iload_n 1, 1) := fx_dat dk_Iss_extensions 33 rfl
theorem d_Iss_extensions_70 : decode prog_5_method_6_code 70 = .ok (.sipush 512, 3) := fx_dat dk_Iss_extensions 34 rfl
theorem d_Iss_extensions_73 : decode prog_5_method_6_code 73 = .ok (.iand, 1) := fx_dat dk_Iss_extensions 35 rfl
theorem d_Iss_extensions_74 : decode prog_5_method_6_code 74 = .ok (.ifCond .eq 20, 3) := fx_dat dk_Iss_extensions 36 rfl
theorem d_Iss_extensions_77 : decode prog_5_method_6_code 77 = .ok (.aload_n 0, 1) := fx_dat dk_Iss_extensions 37 rfl
theorem d_Iss_extensions_78 : decode prog_5_method_6_code 78 = .ok (.getfield 10, 3) := fx_dat dk_Iss_extensions 38 rfl
theorem d_Iss_extensions_81 : decode prog_5_method_6_code 81 = .ok (.bipush 6, 2) := fx_dat dk_Iss_extensions 39 rfl
theorem d_Iss_extensions_83 : decode prog_5_method_6_code 83 = .ok (.getstatic 59, 3) := fx_dat dk_Iss_extensions 40 rfl
theorem d_Iss_extensions_86 : decode prog_5_method_6_code 86 = .ok (.iconst 0, 1) := fx_dat dk_Iss_extensions 41 rfl
theorem d_Iss_extensions_87 : decode prog_5_method_6_code 87 = .ok (.getstatic 59, 3) := fx_dat dk_Iss_extensions 42 rfl
theorem d_Iss_extensions_90 : decode prog_5_method_6_code 90 = .ok (.arraylength, 1) := fx_dat dk_Iss_extensions 43 rfl
theorem d_Iss_extensions_91 : decode prog_5_method_6_code 91 = .ok (.invokevirtual 45, 3) := fx_dat dk_Iss_extensions 44 rfl
theorem d_Iss_extensions_94 : decode prog_5_method_6_code 94 = .ok (.iload_n 1, 1) := fx_dat dk_Iss_extensions 45 rfl
theorem d_Iss_extensions_95 : decode prog_5_method_6_code 95 = .ok (.sipush 256, 3) := fx_dat dk_Iss_extensions 46 rfl
theorem d_Iss_extensions_98 : decode prog_5_method_6_code 98 = .ok (.iand, 1) := fx_dat dk_Iss_extensions 47 rfl
theorem d_Iss_extensions_99 : decode prog_5_method_6_code 99 = .ok (.ifCond .eq 20, 3) := fx_dat dk_Iss_extensions 48 rfl
theorem d_Iss_extensions_102 : decode prog_5_method_6_code 102 = .ok (.aload_n 0, 1) := fx_dat dk_Iss_extensions 49 rfl
theorem d_Iss_extensions_103 : decode prog_5_method_6_code 103 = .ok (.getfield 10, 3) := fx_dat dk_Iss_extensions 50 rfl
theorem d_Iss_extensions_106 : decode prog_5_method_6_code 106 = .ok (.bipush 6, 2) := fx_dat dk_Iss_extensions 51 rfl
theorem d_Iss_extensions_108 : decode prog_5_method_6_code 108 = .ok (.getstatic 62, 3) := fx_dat dk_Iss_extensions 52 rfl
theorem d_Iss_extensions_111 : decode prog_5_method_6_code 111 = .ok (.iconst 0, 1) := fx_dat dk_Iss_extensions 53 rfl
theorem d_Iss_extensions_112 : decode prog_5_method_6_code 112 = .ok (.getstatic 62, 3) := fx_dat dk_Iss_extensions 54 rfl
theorem d_Iss_extensions_115 : decode prog_5_method_6_code 115 = .ok (.arraylength, 1) := fx_dat dk_Iss_extensions 55 rfl
theorem d_Iss_extensions_116 : decode prog_5_method_6_code 116 = .ok (.invokevirtual 45, 3) := fx_dat dk_Iss_extensions 56 rfl
theorem d_Iss_extensions_119 : decode prog_5_method_6_code 119 = .ok (.aload_n 0, 1) := fx_dat dk_Iss_extensions 57 rfl
theorem d_Iss_extensions_120 : decode prog_5_method_6_code 120 = .ok (.getfield 10, 3) := fx_dat dk_Iss_extensions 58 rfl
theorem d_Iss_extensions_123 : decode prog_5_method_6_code 123 = .ok (.bipush 48, 2) := fx_dat dk_Iss_extensions 59 rfl
theorem d_Iss_extensions_125 : decode prog_5_method_6_code 125 = .ok (.iload 6, 2) := fx_dat dk_Iss_extensions 60 rfl
theorem d_Iss_extensions_127 : decode prog_5_method_6_code 127 = .ok (.invokevirtual 41, 3) := fx_dat dk_Iss_extensions 61 rfl
theorem d_Iss_extensions_130 : decode prog_5_method_6_code 130 = .ok (.aload_n 0, 1) := fx_dat dk_Iss_extensions 62 rfl
theorem d_Iss_extensions_131 : decode prog_5_method_6_code 131 = .ok (.getstatic 65, 3) := fx_dat dk_Iss_extensions 63 rfl
theorem d_Iss_extensions_134 : decode prog_5_method_6_code 134 = .ok (.iconst 0, 1) := fx_dat dk_Iss_extensions 64 rfl
theorem d_Iss_extensions_135 : decode prog_5_method_6_code 135 = .ok (.iload 6, 2) := fx_dat dk_Iss_extensions 65 rfl
theorem d_Iss_extensions_137 : decode prog_5_method_6_code 137 = .ok (.invokevirtual 52, 3) := fx_dat dk_Iss_extensions 66 rfl
theorem d_Iss_extensions_140 : decode prog_5_method_6_code 140 = .ok (.iload_n 3, 1) := fx_dat dk_Iss_extensions 67 rfl
theorem d_Iss_extensions_141 : decode prog_5_method_6_code 141 = .ok (.iload 4, 2) := fx_dat dk_Iss_extensions 68 rfl
theorem d_Iss_extensions_143 : decode prog_5_method_6_code 143 = .ok (.if_icmp .ge 13, 3) := fx_dat dk_Iss_extensions 69 rfl
theorem d_Iss_extensions_146 : decode prog_5_method_6_code 146 = .ok (.aload_n 0, 1) := fx_dat dk_Iss_extensions 70 rfl
theorem d_Iss_extensions_147 : decode prog_5_method_6_code 147 = .ok (.aload_n 2, 1) := fx_dat dk_Iss_extensions 71 rfl
theorem d_Iss_extensions_148 : decode prog_5_method_6_code 148 = .ok (.iload_n 3, 1) := fx_dat dk_Iss_extensions 72 rfl
theorem d_Iss_extensions_149 : decode prog_5_method_6_code 149 = .ok (.iconst 1, 1) := fx_dat dk_Iss_extensions 73 rfl
theorem d_Iss_extensions_150 : decode prog_5_method_6_code 150 = .ok (.iadd, 1) := fx_dat dk_Iss_extensions 74 rfl
theorem d_Iss_extensions_151 : decode prog_5_method_6_code 151 = .ok (.iload 4, 2) := fx_dat dk_Iss_extensions 75 rfl
theorem d_Iss_extensions_153 : decode prog_5_method_6_code 153 = .ok (.invokevirtual 68, 3) := fx_dat dk_Iss_extensions 76 rfl
theorem d_Iss_extensions_156 : decode prog_5_method_6_code 156 = .ok (.aload_n 0, 1) := fx_dat dk_Iss_extensions 77 rfl
theorem d_Iss_extensions_157 : decode prog_5_method_6_code 157 = .ok (.getfield 10, 3) := fx_dat dk_Iss_extensions 78 rfl
theorem d_Iss_extensions_160 : decode prog_5_method_6_code 160 = .ok (.invokevirtual 30, 3) := fx_dat dk_Iss_extensions 79 rfl
theorem d_Iss_extensions_163 : decode prog_5_method_6_code 163 = .ok (.istore 6, 2) := fx_dat dk_Iss_extensions 80 rfl
theorem d_Iss_extensions_165 : decode prog_5_method_6_code 165 = .ok (.aload_n 0, 1) := fx_dat dk_Iss_extensions 81 rfl
theorem d_Iss_extensions_166 : decode prog_5_method_6_code 166 = .ok (.getfield 10, 3) := fx_dat dk_Iss_extensions 82 rfl
theorem d_Iss_extensions_169 : decode prog_5_method_6_code 169 = .ok (.iload_n 1, 1) := fx_dat dk_Iss_extensions 83 rfl
theorem d_Iss_extensions_170 : decode prog_5_method_6_code 170 = .ok (.iconst 1, 1) := fx_dat dk_Iss_extensions 84 rfl
theorem d_Iss_extensions_171 : decode prog_5_method_6_code 171 = .ok (.iand, 1) := fx_dat dk_Iss_extensions 85 rfl
theorem d_Iss_extensions_172 : decode prog_5_method_6_code 172 = .ok (.ifCond .eq 8, 3) := fx_dat dk_Iss_extensions 86 rfl
theorem d_Iss_extensions_175 : decode prog_5_method_6_code 175 = .ok (.bipush 6, 2) := fx_dat dk_Iss_extensions 87 rfl
theorem d_Iss_extensions_177 : decode prog_5_method_6_code 177 = .ok (.goto 6, 3) := fx_dat dk_Iss_extensions 88 rfl
theorem d_Iss_extensions_180 : decode prog_5_method_6_code 180 = .ok (.sipush 128, 3) := fx_dat dk_Iss_extensions 89 rfl
theorem d_Iss_extensions_183 : decode prog_5_method_6_code 183 = .ok (.invokevirtual 34, 3) := fx_dat dk_Iss_extensions 90 rfl
theorem d_Iss_extensions_186 : decode prog_5_method_6_code 186 = .ok (.aload_n 0, 1) := fx_dat dk_Iss_extensions 91 rfl
theorem d_Iss_extensions_187 : decode prog_5_method_6_code 187 = .ok (.getfield 10, 3) := fx_dat dk_Iss_extensions 92 rfl
theorem d_Iss_extensions_190 : decode prog_5_method_6_code 190 = .ok (.iload_n 1, 1) := fx_dat dk_Iss_extensions 93 rfl
theorem d_Iss_extensions_191 : decode prog_5_method_6_code 191 = .ok (.iconst 1, 1) := fx_dat dk_Iss_extensions 94 rfl
theorem d_Iss_extensions_192 : decode prog_5_method_6_code 192 = .ok (.iand, 1) := fx_dat dk_Iss_extensions 95 rfl
theorem d_Iss_extensions_193 : decode prog_5_method_6_code 193 = .ok (.ifCond .eq 7, 3) := fx_dat dk_Iss_extensions 96 rfl
theorem d_Iss_extensions_196 : decode prog_5_method_6_code 196 = .ok (.iconst 1, 1) := fx_dat dk_Iss_extensions 97 rfl
theorem d_Iss_extensions_197 : decode prog_5_method_6_code 197 = .ok (.goto 5, 3) := fx_dat dk_Iss_extensions 98 rfl
theorem d_Iss_extensions_200 : decode prog_5_method_6_code 200 = .ok (.bipush 7, 2) := fx_dat dk_Iss_extensions 99 rfl
theorem d_Iss_extensions_202 : decode prog_5_method_6_code 202 = .ok (.invokevirtual 34, 3) := fx_dat dk_Iss_extensions 100 rfl
theorem d_Iss_extensions_205 : decode prog_5_method_6_code 205 = .ok (.aload_n 0, 1) := fx_dat dk_Iss_extensions 101 rfl
theorem d_Iss_extensions_206 : decode prog_5_method_6_code 206 = .ok (.getfield 10, 3) := fx_dat dk_Iss_extensions 102 rfl
theorem d_Iss_extensions_209 : decode prog_5_method_6_code 209 = .ok (.iconst 3, 1) := fx_dat dk_Iss_extensions 103 rfl
theorem d_Iss_extensions_210 : decode prog_5_method_6_code 210 = .ok (.iload 6, 2) := fx_dat dk_Iss_extensions 104 rfl
theorem d_Iss_extensions_212 : decode prog_5_method_6_code 212 = .ok (.invokevirtual 41, 3) := fx_dat dk_Iss_extensions 105 rfl
theorem d_Iss_extensions_215 : decode prog_5_method_6_code 215 = .ok (.aload_n 0, 1) := fx_dat dk_Iss_extensions 106 rfl
theorem d_Iss_extensions_216 : decode prog_5_method_6_code 216 = .ok (.getstatic 72, 3) := fx_dat dk_Iss_extensions 107 rfl
theorem d_Iss_extensions_219 : decode prog_5_method_6_code 219 = .ok (.iconst 1, 1) := fx_dat dk_Iss_extensions 108 rfl
theorem d_Iss_extensions_220 : decode prog_5_method_6_code 220 = .ok (.iload 6, 2) := fx_dat dk_Iss_extensions 109 rfl
theorem d_Iss_extensions_222 : decode prog_5_method_6_code 222 = .ok (.invokevirtual 52, 3) := fx_dat dk_Iss_extensions 110 rfl
theorem d_Iss_extensions_225 : decode prog_5_method_6_code 225 = .ok (.aload_n 0, 1) := fx_dat dk_Iss_extensions 111 rfl
theorem d_Iss_extensions_226 : decode prog_5_method_6_code 226 = .ok (.getfield 10, 3) := fx_dat dk_Iss_extensions 112 rfl
theorem d_Iss_extensions_229 : decode prog_5_method_6_code 229 = .ok (.invokevirtual 30, 3) := fx_dat dk_Iss_extensions 113 rfl
theorem d_Iss_extensions_232 : decode prog_5_method_6_code 232 = .ok (.istore 6, 2) := fx_dat dk_Iss_extensions 114 rfl
theorem d_Iss_extensions_234 : decode prog_5_method_6_code 234 = .ok (.iload_n 1, 1) := fx_dat dk_Iss_extensions 115 rfl
theorem d_Iss_extensions_235 : decode prog_5_method_6_code 235 = .ok (.iconst 1, 1) := fx_dat dk_Iss_extensions 116 rfl
theorem d_Iss_extensions_236 : decode prog_5_method_6_code 236 = .ok (.ishr, 1) := fx_dat dk_Iss_extensions 117 rfl
theorem d_Iss_extensions_237 : decode prog_5_method_6_code 237 = .ok (.bipush 127, 2) := fx_dat dk_Iss_extensions 118 rfl
theorem d_Iss_extensions_239 : decode prog_5_method_6_code 239 = .ok (.iand, 1) := fx_dat dk_Iss_extensions 119 rfl
theorem d_Iss_extensions_240 : decode prog_5_method_6_code 240 = .ok (.iconst 1, 1) := fx_dat dk_Iss_extensions 120 rfl
theorem d_Iss_extensions_241 : decode prog_5_method_6_code 241 = .ok (.isub, 1) := fx_dat dk_Iss_extensions 121 rfl
theorem d_Iss_extensions_242 : decode prog_5_method_6_code 242 = .ok (.istore 7, 2) := fx_dat dk_Iss_extensions 122 rfl
theorem d_Iss_extensions_244 : decode prog_5_method_6_code 244 = .ok (.iload_n 1, 1) := fx_dat dk_Iss_extensions 123 rfl
theorem d_Iss_extensions_245 : decode prog_5_method_6_code 245 = .ok (.iconst 1, 1) := fx_dat dk_Iss_extensions 124 rfl
theorem d_Iss_extensions_246 : decode prog_5_method_6_code 246 = .ok (.iand, 1) := fx_dat dk_Iss_extensions 125 rfl
theorem d_Iss_extensions_247 : decode prog_5_method_6_code 247 = .ok (.ifCond .eq 43, 3) := fx_dat dk_Iss_extensions 126 rfl
theorem d_Iss_extensions_250 : decode prog_5_method_6_code 250 = .ok (.iload 7, 2) := fx_dat dk_Iss_extensions 127 rfl
theorem d_Iss_extensions_252 : decode prog_5_method_6_code 252 = .ok (.ifCond .lt 12, 3) := fx_dat dk_Iss_extensions 128 rfl
theorem d_Iss_extensions_255 : decode prog_5_method_6_code 255 = .ok (.aload_n 0, 1) := fx_dat dk_Iss_extensions 129 rfl
theorem d_Iss_extensions_256 : decode prog_5_method_6_code 256 = .ok (.getfield 10, 3) := fx_dat dk_Iss_extensions 130 rfl
theorem d_Iss_extensions_259 : decode prog_5_method_6_code 259 = .ok (.iload 7, 2) := fx_dat dk_Iss_extensions 131 rfl
theorem d_Iss_extensions_261 : decode prog_5_method_6_code 261 = .ok (.invokevirtual 75, 3) := fx_dat dk_Iss_extensions 132 rfl
theorem d_Iss_extensions_264 : decode prog_5_method_6_code 264 = .ok (.aload_n 0, 1) := fx_dat dk_Iss_extensions 133 rfl
theorem d_Iss_extensions_265 : decode prog_5_method_6_code 265 = .ok (.getfield 10, 3) := fx_dat dk_Iss_extensions 134 rfl
theorem d_Iss_extensions_268 : decode prog_5_method_6_code 268 = .ok (.sipush 255, 3) := fx_dat dk_Iss_extensions 135 rfl
theorem d_Iss_extensions_271 : decode prog_5_method_6_code 271 = .ok (.invokevirtual 34, 3) := fx_dat dk_Iss_extensions 136 rfl
theorem d_Iss_extensions_274 : decode prog_5_method_6_code 274 = .ok (.aload_n 0, 1) := fx_dat dk_Iss_extensions 137 rfl
theorem d_Iss_extensions_275 : decode prog_5_method_6_code 275 = .ok (.getfield 10, 3) := fx_dat dk_Iss_extensions 138 rfl
theorem d_Iss_extensions_278 : decode prog_5_method_6_code 278 = .ok (.iconst 1, 1) := fx_dat dk_Iss_extensions 139 rfl
theorem d_Iss_extensions_279 : decode prog_5_method_6_code 279 = .ok (.invokevirtual 34, 3) := fx_dat dk_Iss_extensions 140 rfl
theorem d_Iss_extensions_282 : decode prog_5_method_6_code 282 = .ok (.aload_n 0, 1) := fx_dat dk_Iss_extensions 141 rfl
theorem d_Iss_extensions_283 : decode prog_5_method_6_code 283 = .ok (.getfield 10, 3) := fx_dat dk_Iss_extensions 142 rfl
theorem d_Iss_extensions_286 : decode prog_5_method_6_code 286 = .ok (.iconst 1, 1) := fx_dat dk_Iss_extensions 143 rfl
theorem d_Iss_extensions_287 : decode prog_5_method_6_code 287 = .ok (.invokevirtual 34, 3) := fx_dat dk_Iss_extensions 144 rfl
theorem d_Iss_extensions_290 : decode prog_5_method_6_code 290 = .ok (.aload_n 0, 1) := fx_dat dk_Iss_extensions 145 rfl
theorem d_Iss_extensions_291 : decode prog_5_method_6_code 291 = .ok (.getfield 10, 3) := fx_dat dk_Iss_extensions 146 rfl
theorem d_Iss_extensions_294 : decode prog_5_method_6_code 294 = .ok (.bipush 48, 2) := fx_dat dk_Iss_extensions 147 rfl
theorem d_Iss_extensions_296 : decode prog_5_method_6_code 296 = .ok (.iload 6, 2) := fx_dat dk_Iss_extensions 148 rfl
theorem d_Iss_extensions_298 : decode prog_5_method_6_code 298 = .ok (.invokevirtual 41, 3) := fx_dat dk_Iss_extensions 149 rfl
theorem d_Iss_extensions_301 : decode prog_5_method_6_code 301 = .ok (.aload_n 0, 1) := fx_dat dk_Iss_extensions 150 rfl
theorem d_Iss_extensions_302 : decode prog_5_method_6_code 302 = .ok (.getstatic 78, 3) := fx_dat dk_Iss_extensions 151 rfl
theorem d_Iss_extensions_305 : decode prog_5_method_6_code 305 = .ok (.iconst 1, 1) := fx_dat dk_Iss_extensions 152 rfl
theorem d_Iss_extensions_306 : decode prog_5_method_6_code 306 = .ok (.iload 6, 2) := fx_dat dk_Iss_extensions 153 rfl
theorem d_Iss_extensions_308 : decode prog_5_method_6_code 308 = .ok (.invokevirtual 52, 3) := fx_dat dk_Iss_extensions 154 rfl
theorem d_Iss_extensions_311 : decode prog_5_method_6_code 311 = .ok (.aload_n 0, 1) := fx_dat dk_Iss_extensions 155 rfl
theorem d_Iss_extensions_312 : decode prog_5_method_6_code 312 = .ok (.getfield 10, 3) := fx_dat dk_Iss_extensions 156 rfl
theorem d_Iss_extensions_315 : decode prog_5_method_6_code 315 = .ok (.bipush 48, 2) := fx_dat dk_Iss_extensions 157 rfl
theorem d_Iss_extensions_317 : decode prog_5_method_6_code 317 = .ok (.iload 5, 2) := fx_dat dk_Iss_extensions 158 rfl
theorem d_Iss_extensions_319 : decode prog_5_method_6_code 319 = .ok (.invokevirtual 41, 3) := fx_dat dk_Iss_extensions 159 rfl
theorem d_Iss_extensions_322 : decode prog_5_method_6_code 322 = .ok (.aload_n 0, 1) := fx_dat dk_Iss_extensions 160 rfl
theorem d_Iss_extensions_323 : decode prog_5_method_6_code 323 = .ok (.getfield 10, 3) := fx_dat dk_Iss_extensions 161 rfl
theorem d_Iss_extensions_326 : decode prog_5_method_6_code 326 = .ok (.sipush 163, 3) := fx_dat dk_Iss_extensions 162 rfl
theorem d_Iss_extensions_329 : decode prog_5_method_6_code 329 = .ok (.iload 5, 2) := fx_dat dk_Iss_extensions 163 rfl
theorem d_Iss_extensions_331 : decode prog_5_method_6_code 331 = .ok (.invokevirtual 41, 3) := fx_dat dk_Iss_extensions 164 rfl
theorem d_Iss_extensions_334 : decode prog_5_method_6_code 334 = .ok (.return_, 1) := fx_dat dk_Iss_extensions 165 rfl
def m_Iss_extensions_290 (Q : AH → Prop) (r0 : Nat) (x5 : Int32) (x6 : Int32) (h : AH) : Prop := hp_k h r0 = 10 ∧ ∃ b1, hp_R h r0 0 = some b1 ∧ hp_k h b1 = 11 ∧ m_Wr_wrap (fun h1 => fx_ext h h1 → m_Iss_extension (fun h2 => fx_ext h1 h2 → ∃ b2, hp_R h2 r0 0 = some b2 ∧ hp_k h2 b2 = 11 ∧ m_Wr_wrap (fun h3 => fx_ext h2 h3 → ∃ b3, hp_R h3 r0 0 = some b3 ∧ hp_k h3 b3 = 11 ∧ m_Wr_wrap (fun h4 => fx_ext h3 h4 → Q h4) b3 (163 : Int32) x5 h3) b2 (48 : Int32) x5 h2) r0 (hp_c h1 3) (1 : Int32) x6 h1) b1 (48 : Int32) x6 h
def m_Iss_extensions_264 (Q : AH → Prop) (r0 : Nat) (x5 : Int32) (x6 : Int32) (h : AH) : Prop := hp_k h r0 = 10 ∧ ∃ b1, hp_R h r0 0 = some b1 ∧ hp_k h b1 = 11 ∧ m_Wr_one (fun h1 => fx_ext h h1 → ∃ b2, hp_R h1 r0 0 = some b2 ∧ hp_k h1 b2 = 11 ∧ m_Wr_one (fun h2 => fx_ext h1 h2 → ∃ b3, hp_R h2 r0 0 = some b3 ∧ hp_k h2 b3 = 11 ∧ m_Wr_one (fun h3 => fx_ext h2 h3 → m_Iss_extensions_290 Q r0 x5 x6 h3) b3 (1 : Int32) h2) b2 (1 : Int32) h1) b1 (255 : Int32) h
def m_Iss_extensions_202 (Q : AH → Prop) (r0 : Nat) (x1 : Int32) (x5 : Int32) (x6 : Int32) (sr0 : Nat) (sx1 : Int32) (h : AH) : Prop := hp_k h sr0 = 11 ∧ m_Wr_one (fun h1 => fx_ext h h1 → hp_k h1 r0 = 10 ∧ ∃ b1, hp_R h1 r0 0 = some b1 ∧ hp_k h1 b1 = 11 ∧ m_Wr_wrap (fun h2 => fx_ext h1 h2 → m_Iss_extension (fun h3 => fx_ext h2 h3 → ∃ b2, hp_R h3 r0 0 = some b2 ∧ hp_k h3 b2 = 11 ∧ m_Wr_size (fun v1 h4 => fx_ext h3 h4 → ∀ v2 : Int32, v2 = (((x1 >>> ((1 : Int32) &&& 31)) &&& (127 : Int32)) - (1 : Int32)) → ((x1 &&& (1 : Int32)) = 0 → m_Iss_extensions_290 Q r0 x5 v1 h4) ∧ (¬ (x1 &&& (1 : Int32)) = 0 → (v2 < 0 → m_Iss_extensions_264 Q r0 x5 v1 h4) ∧ (¬ v2 < 0 → ∃ b3, hp_R h4 r0 0 = some b3 ∧ hp_k h4 b3 = 11 ∧ m_Wr_number (fun h5 => fx_ext h4 h5 → m_Iss_extensions_264 Q r0 x5 v1 h5) b3 v2 h4))) b2 h3) r0 (hp_c h2 4) (1 : Int32) x6 h2) b1 (3 : Int32) x6 h1) sr0 sx1 h
def m_Iss_extensions_183 (Q : AH → Prop) (r0 : Nat) (x1 : Int32) (x5 : Int32) (x6 : Int32) (sr0 : Nat) (sx1 : Int32) (h : AH) : Prop := hp_k h sr0 = 11 ∧ m_Wr_one (fun h1 => fx_ext h h1 → hp_k h1 r0 = 10 ∧ ∃ b1, hp_R h1 r0 0 = some b1 ∧ ((x1 &&& (1 : Int32)) = 0 → m_Iss_extensions_202 Q r0 x1 x5 x6 b1 (7 : Int32) h1) ∧ (¬ (x1 &&& (1 : Int32)) = 0 → m_Iss_extensions_202 Q r0 x1 x5 x6 b1 (1 : Int32) h1)) sr0 sx1 h
def m_Iss_extensions_156 (Q : AH → Prop) (r0 : Nat) (x1 : Int32) (x5 : Int32) (h : AH) : Prop := hp_k h r0 = 10 ∧ ∃ b1, hp_R h r0 0 = some b1 ∧ hp_k h b1 = 11 ∧ m_Wr_size (fun v1 h1 => fx_ext h h1 → ∃ b2, hp_R h1 r0 0 = some b2 ∧ ((x1 &&& (1 : Int32)) = 0 → m_Iss_extensions_183 Q r0 x1 x5 v1 b2 (128 : Int32) h1) ∧ (¬ (x1 &&& (1 : Int32)) = 0 → m_Iss_extensions_183 Q r0 x1 x5 v1 b2 (6 : Int32) h1)) b1 h
def m_Iss_extensions_140 (Q : AH → Prop) (r0 : Nat) (x1 : Int32) (r2 : Nat) (x3 : Int32) (x4 : Int32) (x5 : Int32) (h : AH) : Prop := (x4 ≤ x3 → m_Iss_extensions_156 Q r0 x1 x5 h) ∧ (¬ x4 ≤ x3 → hp_k h r0 = 10 ∧ m_Iss_hosts (fun h1 => fx_ext h h1 → m_Iss_extensions_156 Q r0 x1 x5 h1) r0 r2 (x3 + (1 : Int32)) x4 h)
def m_Iss_extensions_119 (Q : AH → Prop) (r0 : Nat) (x1 : Int32) (r2 : Nat) (x3 : Int32) (x4 : Int32) (x5 : Int32) (x6 : Int32) (h : AH) : Prop := hp_k h r0 = 10 ∧ ∃ b1, hp_R h r0 0 = some b1 ∧ hp_k h b1 = 11 ∧ m_Wr_wrap (fun h1 => fx_ext h h1 → m_Iss_extension (fun h2 => fx_ext h1 h2 → m_Iss_extensions_140 Q r0 x1 r2 x3 x4 x5 h2) r0 (hp_c h1 6) (0 : Int32) x6 h1) b1 (48 : Int32) x6 h
def m_Iss_extensions_94 (Q : AH → Prop) (r0 : Nat) (x1 : Int32) (r2 : Nat) (x3 : Int32) (x4 : Int32) (x5 : Int32) (x6 : Int32) (h : AH) : Prop := ((x1 &&& (256 : Int32)) = 0 → m_Iss_extensions_119 Q r0 x1 r2 x3 x4 x5 x6 h) ∧ (¬ (x1 &&& (256 : Int32)) = 0 → hp_k h r0 = 10 ∧ ∃ b1, hp_R h r0 0 = some b1 ∧ bk (hp_k h (hp_c h 7)) ∧ hp_k h b1 = 11 ∧ m_Wr_part (fun h1 => fx_ext h h1 → m_Iss_extensions_119 Q r0 x1 r2 x3 x4 x5 x6 h1) b1 (6 : Int32) (hp_c h 7) (0 : Int32) (nI (hp_n h (hp_c h 7))) h)
def m_Iss_extensions_52 (Q : AH → Prop) (r0 : Nat) (x1 : Int32) (r2 : Nat) (x3 : Int32) (x4 : Int32) (x5 : Int32) (h : AH) : Prop := ((x1 &&& (768 : Int32)) = 0 → m_Iss_extensions_140 Q r0 x1 r2 x3 x4 x5 h) ∧ (¬ (x1 &&& (768 : Int32)) = 0 → hp_k h r0 = 10 ∧ ∃ b1, hp_R h r0 0 = some b1 ∧ hp_k h b1 = 11 ∧ m_Wr_size (fun v1 h1 => fx_ext h h1 → ((x1 &&& (512 : Int32)) = 0 → m_Iss_extensions_94 Q r0 x1 r2 x3 x4 x5 v1 h1) ∧ (¬ (x1 &&& (512 : Int32)) = 0 → ∃ b2, hp_R h1 r0 0 = some b2 ∧ bk (hp_k h1 (hp_c h1 8)) ∧ hp_k h1 b2 = 11 ∧ m_Wr_part (fun h2 => fx_ext h1 h2 → m_Iss_extensions_94 Q r0 x1 r2 x3 x4 x5 v1 h2) b2 (6 : Int32) (hp_c h1 8) (0 : Int32) (nI (hp_n h1 (hp_c h1 8))) h1)) b1 h)
def m_Iss_extensions (Q : AH → Prop) (r0 : Nat) (x1 : Int32) (r2 : Nat) (x3 : Int32) (x4 : Int32) (h : AH) : Prop := hp_k h r0 = 10 ∧ ∃ b1, hp_R h r0 0 = some b1 ∧ hp_k h b1 = 11 ∧ m_Wr_size (fun v1 h1 => fx_ext h h1 → ((x1 &&& (1024 : Int32)) = 0 → m_Iss_extensions_52 Q r0 x1 r2 x3 x4 v1 h1) ∧ (¬ (x1 &&& (1024 : Int32)) = 0 → ∃ b2, hp_R h1 r0 0 = some b2 ∧ hp_k h1 b2 = 11 ∧ m_Wr_size (fun v2 h2 => fx_ext h1 h2 → ∃ b3, hp_R h2 r0 0 = some b3 ∧ hp_k h2 b3 = 11 ∧ m_Wr_one (fun h3 => fx_ext h2 h3 → ∃ b4, hp_R h3 r0 0 = some b4 ∧ hp_k h3 b4 = 11 ∧ m_Wr_one (fun h4 => fx_ext h3 h4 → m_Iss_extension (fun h5 => fx_ext h4 h5 → m_Iss_extensions_52 Q r0 x1 r2 x3 x4 v1 h5) r0 (hp_c h4 9) (1 : Int32) v2 h4) b4 (5 : Int32) h3) b3 (0 : Int32) h2) b2 h1)) b1 h
theorem b_Iss_extensions_290 {p : Program} {l : Launch} {e : Env} {R : Room} {s : State} {m : MethodId} {args : Array Value} {below : List Frame} {meth : Method} {c : Code} {D : DD} {h0 : AH} {Q : AH → Prop} (C : fx_CX D y_Iss_extensions prog_5_method_6_code 8 7 113 (none) [] h0 p R s m meth c) (hl : l.flags = flags0) (r0 : Nat) (x5 : Int32) (x6 : Int32) (h : AH) (hw : m_Iss_extensions_290 Q r0 x5 x6 h) : ∀ (ls : Array Slot) (H : Heap) (locs : List Loc) (cells slots : Nat), lv_has ls 8 [(0, .ref r0), (5, .int x5), (6, .int x6)] → fx_F D h0 h H locs cells slots → W p l e R s m args below meth c H locs cells slots (fx_Z D below s h0 (fx_oV Q fx_no)) (F0 m 290 ls []) := by
  unfold m_Iss_extensions_290 at hw
  intro ls H locs cells slots hv F
  refine lv_aload_n C.ex C.by d_Iss_extensions_290 rfl (lv_at hv 0 rfl) ?_
  obtain ⟨hk1, hw⟩ := hw
  obtain ⟨b1, hb1, hw⟩ := hw
  refine fx_getR C F lf_Iss_10 hk1 rfl hb1 d_Iss_extensions_291 ?_
  refine lv_bipush (v := (48 : Int32)) C.ex C.by d_Iss_extensions_294 (by decide) ?_
  refine lv_iload C.ex C.by d_Iss_extensions_296 (lv_at hv 2 rfl) ?_
  obtain ⟨hk2, hw⟩ := hw
  refine fx_callV C F (c_Wr_wrap hl hw) hm_Wr_wrap hi_Wr_wrap hv.1 (by decide) (Nat.le_of_ble_eq_true rfl) (iv_Wr_wrap C F lm_Iss_41 hk2 d_Iss_extensions_298) (fx_out0 _) fx_eno (fun h1 H locs cells slots hw hx1 F => ?_)
  replace hw := hw hx1
  have hk2 := (hx1).k hk2
  have hk1 := (hx1).k hk1
  refine lv_aload_n C.ex C.by d_Iss_extensions_301 rfl (lv_at hv 0 rfl) ?_
  refine fx_gets C F ls_Iss_78 d_Iss_extensions_302 ?_
  refine lv_iconst (v := (1 : Int32)) C.ex C.by d_Iss_extensions_305 (by decide) ?_
  refine lv_iload C.ex C.by d_Iss_extensions_306 (lv_at hv 2 rfl) ?_
  refine fx_callV C F (c_Iss_extension hl hw) hm_Iss_extension hi_Iss_extension hv.1 (by decide) (Nat.le_of_ble_eq_true rfl) (iv_Iss_extension C F lm_Iss_52 hk1 d_Iss_extensions_308) (fx_out0 _) fx_eno (fun h2 H locs cells slots hw hx2 F => ?_)
  replace hw := hw hx2
  have hk2 := (hx2).k hk2
  have hk1 := (hx2).k hk1
  refine lv_aload_n C.ex C.by d_Iss_extensions_311 rfl (lv_at hv 0 rfl) ?_
  obtain ⟨b2, hb2, hw⟩ := hw
  refine fx_getR C F lf_Iss_10 hk1 rfl hb2 d_Iss_extensions_312 ?_
  refine lv_bipush (v := (48 : Int32)) C.ex C.by d_Iss_extensions_315 (by decide) ?_
  refine lv_iload C.ex C.by d_Iss_extensions_317 (lv_at hv 1 rfl) ?_
  obtain ⟨hk3, hw⟩ := hw
  refine fx_callV C F (c_Wr_wrap hl hw) hm_Wr_wrap hi_Wr_wrap hv.1 (by decide) (Nat.le_of_ble_eq_true rfl) (iv_Wr_wrap C F lm_Iss_41 hk3 d_Iss_extensions_319) (fx_out0 _) fx_eno (fun h3 H locs cells slots hw hx3 F => ?_)
  replace hw := hw hx3
  have hk2 := (hx3).k hk2
  have hk3 := (hx3).k hk3
  have hk1 := (hx3).k hk1
  refine lv_aload_n C.ex C.by d_Iss_extensions_322 rfl (lv_at hv 0 rfl) ?_
  obtain ⟨b3, hb3, hw⟩ := hw
  refine fx_getR C F lf_Iss_10 hk1 rfl hb3 d_Iss_extensions_323 ?_
  refine lv_sipush (v := (163 : Int32)) C.ex C.by d_Iss_extensions_326 (by decide) ?_
  refine lv_iload C.ex C.by d_Iss_extensions_329 (lv_at hv 1 rfl) ?_
  obtain ⟨hk4, hw⟩ := hw
  refine fx_callV C F (c_Wr_wrap hl hw) hm_Wr_wrap hi_Wr_wrap hv.1 (by decide) (Nat.le_of_ble_eq_true rfl) (iv_Wr_wrap C F lm_Iss_41 hk4 d_Iss_extensions_331) (fx_out0 _) fx_eno (fun h4 H locs cells slots hw hx4 F => ?_)
  replace hw := hw hx4
  have hk2 := (hx4).k hk2
  have hk3 := (hx4).k hk3
  have hk4 := (hx4).k hk4
  have hk1 := (hx4).k hk1
  exact fx_vret C F d_Iss_extensions_334 (Or.inl ⟨rfl, hw⟩)
theorem b_Iss_extensions_264 {p : Program} {l : Launch} {e : Env} {R : Room} {s : State} {m : MethodId} {args : Array Value} {below : List Frame} {meth : Method} {c : Code} {D : DD} {h0 : AH} {Q : AH → Prop} (C : fx_CX D y_Iss_extensions prog_5_method_6_code 8 7 113 (none) [] h0 p R s m meth c) (hl : l.flags = flags0) (r0 : Nat) (x5 : Int32) (x6 : Int32) (h : AH) (hw : m_Iss_extensions_264 Q r0 x5 x6 h) : ∀ (ls : Array Slot) (H : Heap) (locs : List Loc) (cells slots : Nat), lv_has ls 8 [(0, .ref r0), (5, .int x5), (6, .int x6)] → fx_F D h0 h H locs cells slots → W p l e R s m args below meth c H locs cells slots (fx_Z D below s h0 (fx_oV Q fx_no)) (F0 m 264 ls []) := by
  unfold m_Iss_extensions_264 at hw
  intro ls H locs cells slots hv F
  refine lv_aload_n C.ex C.by d_Iss_extensions_264 rfl (lv_at hv 0 rfl) ?_
  obtain ⟨hk1, hw⟩ := hw
  obtain ⟨b1, hb1, hw⟩ := hw
  refine fx_getR C F lf_Iss_10 hk1 rfl hb1 d_Iss_extensions_265 ?_
  refine lv_sipush (v := (255 : Int32)) C.ex C.by d_Iss_extensions_268 (by decide) ?_
  obtain ⟨hk2, hw⟩ := hw
  refine fx_callV C F (c_Wr_one hl hw) hm_Wr_one hi_Wr_one hv.1 (by decide) (Nat.le_of_ble_eq_true rfl) (iv_Wr_one C F lm_Iss_34 hk2 d_Iss_extensions_271) (fx_out0 _) fx_eno (fun h1 H locs cells slots hw hx1 F => ?_)
  replace hw := hw hx1
  have hk2 := (hx1).k hk2
  have hk1 := (hx1).k hk1
  refine lv_aload_n C.ex C.by d_Iss_extensions_274 rfl (lv_at hv 0 rfl) ?_
  obtain ⟨b2, hb2, hw⟩ := hw
  refine fx_getR C F lf_Iss_10 hk1 rfl hb2 d_Iss_extensions_275 ?_
  refine lv_iconst (v := (1 : Int32)) C.ex C.by d_Iss_extensions_278 (by decide) ?_
  obtain ⟨hk3, hw⟩ := hw
  refine fx_callV C F (c_Wr_one hl hw) hm_Wr_one hi_Wr_one hv.1 (by decide) (Nat.le_of_ble_eq_true rfl) (iv_Wr_one C F lm_Iss_34 hk3 d_Iss_extensions_279) (fx_out0 _) fx_eno (fun h2 H locs cells slots hw hx2 F => ?_)
  replace hw := hw hx2
  have hk2 := (hx2).k hk2
  have hk3 := (hx2).k hk3
  have hk1 := (hx2).k hk1
  refine lv_aload_n C.ex C.by d_Iss_extensions_282 rfl (lv_at hv 0 rfl) ?_
  obtain ⟨b3, hb3, hw⟩ := hw
  refine fx_getR C F lf_Iss_10 hk1 rfl hb3 d_Iss_extensions_283 ?_
  refine lv_iconst (v := (1 : Int32)) C.ex C.by d_Iss_extensions_286 (by decide) ?_
  obtain ⟨hk4, hw⟩ := hw
  refine fx_callV C F (c_Wr_one hl hw) hm_Wr_one hi_Wr_one hv.1 (by decide) (Nat.le_of_ble_eq_true rfl) (iv_Wr_one C F lm_Iss_34 hk4 d_Iss_extensions_287) (fx_out0 _) fx_eno (fun h3 H locs cells slots hw hx3 F => ?_)
  replace hw := hw hx3
  have hk2 := (hx3).k hk2
  have hk3 := (hx3).k hk3
  have hk4 := (hx3).k hk4
  have hk1 := (hx3).k hk1
  exact b_Iss_extensions_290 C hl _ _ _ _ hw _ _ _ _ _ hv F
theorem b_Iss_extensions_202 {p : Program} {l : Launch} {e : Env} {R : Room} {s : State} {m : MethodId} {args : Array Value} {below : List Frame} {meth : Method} {c : Code} {D : DD} {h0 : AH} {Q : AH → Prop} (C : fx_CX D y_Iss_extensions prog_5_method_6_code 8 7 113 (none) [] h0 p R s m meth c) (hl : l.flags = flags0) (r0 : Nat) (x1 : Int32) (x5 : Int32) (x6 : Int32) (sr0 : Nat) (sx1 : Int32) (h : AH) (hw : m_Iss_extensions_202 Q r0 x1 x5 x6 sr0 sx1 h) : ∀ (ls : Array Slot) (H : Heap) (locs : List Loc) (cells slots : Nat), lv_has ls 8 [(0, .ref r0), (1, .int x1), (5, .int x5), (6, .int x6)] → fx_F D h0 h H locs cells slots → W p l e R s m args below meth c H locs cells slots (fx_Z D below s h0 (fx_oV Q fx_no)) (F0 m 202 ls [.int sx1, .ref sr0]) := by
  unfold m_Iss_extensions_202 at hw
  intro ls H locs cells slots hv F
  obtain ⟨hk1, hw⟩ := hw
  refine fx_callV C F (c_Wr_one hl hw) hm_Wr_one hi_Wr_one hv.1 (by decide) (Nat.le_of_ble_eq_true rfl) (iv_Wr_one C F lm_Iss_34 hk1 d_Iss_extensions_202) (fx_out0 _) fx_eno (fun h1 H locs cells slots hw hx1 F => ?_)
  replace hw := hw hx1
  have hk1 := (hx1).k hk1
  refine lv_aload_n C.ex C.by d_Iss_extensions_205 rfl (lv_at hv 0 rfl) ?_
  obtain ⟨hk2, hw⟩ := hw
  obtain ⟨b1, hb1, hw⟩ := hw
  refine fx_getR C F lf_Iss_10 hk2 rfl hb1 d_Iss_extensions_206 ?_
  refine lv_iconst (v := (3 : Int32)) C.ex C.by d_Iss_extensions_209 (by decide) ?_
  refine lv_iload C.ex C.by d_Iss_extensions_210 (lv_at hv 3 rfl) ?_
  obtain ⟨hk3, hw⟩ := hw
  refine fx_callV C F (c_Wr_wrap hl hw) hm_Wr_wrap hi_Wr_wrap hv.1 (by decide) (Nat.le_of_ble_eq_true rfl) (iv_Wr_wrap C F lm_Iss_41 hk3 d_Iss_extensions_212) (fx_out0 _) fx_eno (fun h2 H locs cells slots hw hx2 F => ?_)
  replace hw := hw hx2
  have hk3 := (hx2).k hk3
  have hk2 := (hx2).k hk2
  have hk1 := (hx2).k hk1
  refine lv_aload_n C.ex C.by d_Iss_extensions_215 rfl (lv_at hv 0 rfl) ?_
  refine fx_gets C F ls_Iss_72 d_Iss_extensions_216 ?_
  refine lv_iconst (v := (1 : Int32)) C.ex C.by d_Iss_extensions_219 (by decide) ?_
  refine lv_iload C.ex C.by d_Iss_extensions_220 (lv_at hv 3 rfl) ?_
  refine fx_callV C F (c_Iss_extension hl hw) hm_Iss_extension hi_Iss_extension hv.1 (by decide) (Nat.le_of_ble_eq_true rfl) (iv_Iss_extension C F lm_Iss_52 hk2 d_Iss_extensions_222) (fx_out0 _) fx_eno (fun h3 H locs cells slots hw hx3 F => ?_)
  replace hw := hw hx3
  have hk3 := (hx3).k hk3
  have hk2 := (hx3).k hk2
  have hk1 := (hx3).k hk1
  refine lv_aload_n C.ex C.by d_Iss_extensions_225 rfl (lv_at hv 0 rfl) ?_
  obtain ⟨b2, hb2, hw⟩ := hw
  refine fx_getR C F lf_Iss_10 hk2 rfl hb2 d_Iss_extensions_226 ?_
  obtain ⟨hk4, hw⟩ := hw
  refine fx_callI C F (c_Wr_size hl hw) hm_Wr_size hi_Wr_size hv.1 (by decide) (Nat.le_of_ble_eq_true rfl) (iv_Wr_size C F lm_Iss_30 hk4 d_Iss_extensions_229) (fx_out0 _) fx_eno (fun v1 h4 H locs cells slots hw hx4 F => ?_)
  replace hw := hw hx4
  have hk3 := (hx4).k hk3
  have hk4 := (hx4).k hk4
  have hk2 := (hx4).k hk2
  have hk1 := (hx4).k hk1
  refine lv_istore (lv' := [(6, .int v1), (0, .ref r0), (1, .int x1), (5, .int x5)]) C.ex C.by d_Iss_extensions_232 hv (by decide) rfl (fun ls hv => ?_)
  refine lv_iload_n C.ex C.by d_Iss_extensions_234 rfl (lv_at hv 2 rfl) ?_
  refine lv_iconst (v := (1 : Int32)) C.ex C.by d_Iss_extensions_235 (by decide) ?_
  refine lv_ishr C.ex C.by d_Iss_extensions_236 ?_
  refine lv_bipush (v := (127 : Int32)) C.ex C.by d_Iss_extensions_237 (by decide) ?_
  refine lv_iand C.ex C.by d_Iss_extensions_239 ?_
  refine lv_iconst (v := (1 : Int32)) C.ex C.by d_Iss_extensions_240 (by decide) ?_
  refine lv_isub C.ex C.by d_Iss_extensions_241 ?_
  let v2 : Int32 := (((x1 >>> ((1 : Int32) &&& 31)) &&& (127 : Int32)) - (1 : Int32))
  replace hw := hw v2 rfl
  refine lv_istore (lv' := [(7, .int v2), (6, .int v1), (0, .ref r0), (1, .int x1), (5, .int x5)]) C.ex C.by d_Iss_extensions_242 hv (by decide) rfl (fun ls hv => ?_)
  refine lv_iload_n C.ex C.by d_Iss_extensions_244 rfl (lv_at hv 3 rfl) ?_
  refine lv_iconst (v := (1 : Int32)) C.ex C.by d_Iss_extensions_245 (by decide) ?_
  refine lv_iand C.ex C.by d_Iss_extensions_246 ?_
  refine lv_if_eq C.ex C.by d_Iss_extensions_247 rfl (fun hc => ?_) (fun hc => ?_)
  · replace hw := hw.1 hc
    exact b_Iss_extensions_290 C hl _ _ _ _ hw _ _ _ _ _ (lv_sub hv [2, 4, 1] rfl) F
  · replace hw := hw.2 hc
    refine lv_iload C.ex C.by d_Iss_extensions_250 (lv_at hv 0 rfl) ?_
    refine lv_if_lt C.ex C.by d_Iss_extensions_252 rfl (fun hc => ?_) (fun hc => ?_)
    · replace hw := hw.1 hc
      exact b_Iss_extensions_264 C hl _ _ _ _ hw _ _ _ _ _ (lv_sub hv [2, 4, 1] rfl) F
    · replace hw := hw.2 hc
      refine lv_aload_n C.ex C.by d_Iss_extensions_255 rfl (lv_at hv 2 rfl) ?_
      obtain ⟨b3, hb3, hw⟩ := hw
      refine fx_getR C F lf_Iss_10 hk2 rfl hb3 d_Iss_extensions_256 ?_
      refine lv_iload C.ex C.by d_Iss_extensions_259 (lv_at hv 0 rfl) ?_
      obtain ⟨hk5, hw⟩ := hw
      refine fx_callV C F (c_Wr_number hl hw) hm_Wr_number hi_Wr_number hv.1 (by decide) (Nat.le_of_ble_eq_true rfl) (iv_Wr_number C F lm_Iss_75 hk5 d_Iss_extensions_261) (fx_out0 _) fx_eno (fun h5 H locs cells slots hw hx5 F => ?_)
      replace hw := hw hx5
      have hk3 := (hx5).k hk3
      have hk4 := (hx5).k hk4
      have hk5 := (hx5).k hk5
      have hk2 := (hx5).k hk2
      have hk1 := (hx5).k hk1
      exact b_Iss_extensions_264 C hl _ _ _ _ hw _ _ _ _ _ (lv_sub hv [2, 4, 1] rfl) F
theorem b_Iss_extensions_183 {p : Program} {l : Launch} {e : Env} {R : Room} {s : State} {m : MethodId} {args : Array Value} {below : List Frame} {meth : Method} {c : Code} {D : DD} {h0 : AH} {Q : AH → Prop} (C : fx_CX D y_Iss_extensions prog_5_method_6_code 8 7 113 (none) [] h0 p R s m meth c) (hl : l.flags = flags0) (r0 : Nat) (x1 : Int32) (x5 : Int32) (x6 : Int32) (sr0 : Nat) (sx1 : Int32) (h : AH) (hw : m_Iss_extensions_183 Q r0 x1 x5 x6 sr0 sx1 h) : ∀ (ls : Array Slot) (H : Heap) (locs : List Loc) (cells slots : Nat), lv_has ls 8 [(0, .ref r0), (1, .int x1), (5, .int x5), (6, .int x6)] → fx_F D h0 h H locs cells slots → W p l e R s m args below meth c H locs cells slots (fx_Z D below s h0 (fx_oV Q fx_no)) (F0 m 183 ls [.int sx1, .ref sr0]) := by
  unfold m_Iss_extensions_183 at hw
  intro ls H locs cells slots hv F
  obtain ⟨hk1, hw⟩ := hw
  refine fx_callV C F (c_Wr_one hl hw) hm_Wr_one hi_Wr_one hv.1 (by decide) (Nat.le_of_ble_eq_true rfl) (iv_Wr_one C F lm_Iss_34 hk1 d_Iss_extensions_183) (fx_out0 _) fx_eno (fun h1 H locs cells slots hw hx1 F => ?_)
  replace hw := hw hx1
  have hk1 := (hx1).k hk1
  refine lv_aload_n C.ex C.by d_Iss_extensions_186 rfl (lv_at hv 0 rfl) ?_
  obtain ⟨hk2, hw⟩ := hw
  obtain ⟨b1, hb1, hw⟩ := hw
  refine fx_getR C F lf_Iss_10 hk2 rfl hb1 d_Iss_extensions_187 ?_
  refine lv_iload_n C.ex C.by d_Iss_extensions_190 rfl (lv_at hv 1 rfl) ?_
  refine lv_iconst (v := (1 : Int32)) C.ex C.by d_Iss_extensions_191 (by decide) ?_
  refine lv_iand C.ex C.by d_Iss_extensions_192 ?_
  refine lv_if_eq C.ex C.by d_Iss_extensions_193 rfl (fun hc => ?_) (fun hc => ?_)
  · replace hw := hw.1 hc
    refine lv_bipush (v := (7 : Int32)) C.ex C.by d_Iss_extensions_200 (by decide) ?_
    exact b_Iss_extensions_202 C hl _ _ _ _ _ _ _ hw _ _ _ _ _ hv F
  · replace hw := hw.2 hc
    refine lv_iconst (v := (1 : Int32)) C.ex C.by d_Iss_extensions_196 (by decide) ?_
    refine lv_goto C.ex C.by d_Iss_extensions_197 rfl ?_
    exact b_Iss_extensions_202 C hl _ _ _ _ _ _ _ hw _ _ _ _ _ hv F
theorem b_Iss_extensions_156 {p : Program} {l : Launch} {e : Env} {R : Room} {s : State} {m : MethodId} {args : Array Value} {below : List Frame} {meth : Method} {c : Code} {D : DD} {h0 : AH} {Q : AH → Prop} (C : fx_CX D y_Iss_extensions prog_5_method_6_code 8 7 113 (none) [] h0 p R s m meth c) (hl : l.flags = flags0) (r0 : Nat) (x1 : Int32) (x5 : Int32) (h : AH) (hw : m_Iss_extensions_156 Q r0 x1 x5 h) : ∀ (ls : Array Slot) (H : Heap) (locs : List Loc) (cells slots : Nat), lv_has ls 8 [(0, .ref r0), (1, .int x1), (5, .int x5)] → fx_F D h0 h H locs cells slots → W p l e R s m args below meth c H locs cells slots (fx_Z D below s h0 (fx_oV Q fx_no)) (F0 m 156 ls []) := by
  unfold m_Iss_extensions_156 at hw
  intro ls H locs cells slots hv F
  refine lv_aload_n C.ex C.by d_Iss_extensions_156 rfl (lv_at hv 0 rfl) ?_
  obtain ⟨hk1, hw⟩ := hw
  obtain ⟨b1, hb1, hw⟩ := hw
  refine fx_getR C F lf_Iss_10 hk1 rfl hb1 d_Iss_extensions_157 ?_
  obtain ⟨hk2, hw⟩ := hw
  refine fx_callI C F (c_Wr_size hl hw) hm_Wr_size hi_Wr_size hv.1 (by decide) (Nat.le_of_ble_eq_true rfl) (iv_Wr_size C F lm_Iss_30 hk2 d_Iss_extensions_160) (fx_out0 _) fx_eno (fun v1 h1 H locs cells slots hw hx1 F => ?_)
  replace hw := hw hx1
  have hk2 := (hx1).k hk2
  have hk1 := (hx1).k hk1
  refine lv_istore (lv' := [(6, .int v1), (0, .ref r0), (1, .int x1), (5, .int x5)]) C.ex C.by d_Iss_extensions_163 hv (by decide) rfl (fun ls hv => ?_)
  refine lv_aload_n C.ex C.by d_Iss_extensions_165 rfl (lv_at hv 1 rfl) ?_
  obtain ⟨b2, hb2, hw⟩ := hw
  refine fx_getR C F lf_Iss_10 hk1 rfl hb2 d_Iss_extensions_166 ?_
  refine lv_iload_n C.ex C.by d_Iss_extensions_169 rfl (lv_at hv 2 rfl) ?_
  refine lv_iconst (v := (1 : Int32)) C.ex C.by d_Iss_extensions_170 (by decide) ?_
  refine lv_iand C.ex C.by d_Iss_extensions_171 ?_
  refine lv_if_eq C.ex C.by d_Iss_extensions_172 rfl (fun hc => ?_) (fun hc => ?_)
  · replace hw := hw.1 hc
    refine lv_sipush (v := (128 : Int32)) C.ex C.by d_Iss_extensions_180 (by decide) ?_
    exact b_Iss_extensions_183 C hl _ _ _ _ _ _ _ hw _ _ _ _ _ (lv_sub hv [1, 2, 3, 0] rfl) F
  · replace hw := hw.2 hc
    refine lv_bipush (v := (6 : Int32)) C.ex C.by d_Iss_extensions_175 (by decide) ?_
    refine lv_goto C.ex C.by d_Iss_extensions_177 rfl ?_
    exact b_Iss_extensions_183 C hl _ _ _ _ _ _ _ hw _ _ _ _ _ (lv_sub hv [1, 2, 3, 0] rfl) F
theorem b_Iss_extensions_140 {p : Program} {l : Launch} {e : Env} {R : Room} {s : State} {m : MethodId} {args : Array Value} {below : List Frame} {meth : Method} {c : Code} {D : DD} {h0 : AH} {Q : AH → Prop} (C : fx_CX D y_Iss_extensions prog_5_method_6_code 8 7 113 (none) [] h0 p R s m meth c) (hl : l.flags = flags0) (r0 : Nat) (x1 : Int32) (r2 : Nat) (x3 : Int32) (x4 : Int32) (x5 : Int32) (h : AH) (hw : m_Iss_extensions_140 Q r0 x1 r2 x3 x4 x5 h) : ∀ (ls : Array Slot) (H : Heap) (locs : List Loc) (cells slots : Nat), lv_has ls 8 [(0, .ref r0), (1, .int x1), (2, .ref r2), (3, .int x3), (4, .int x4), (5, .int x5)] → fx_F D h0 h H locs cells slots → W p l e R s m args below meth c H locs cells slots (fx_Z D below s h0 (fx_oV Q fx_no)) (F0 m 140 ls []) := by
  unfold m_Iss_extensions_140 at hw
  intro ls H locs cells slots hv F
  refine lv_iload_n C.ex C.by d_Iss_extensions_140 rfl (lv_at hv 3 rfl) ?_
  refine lv_iload C.ex C.by d_Iss_extensions_141 (lv_at hv 4 rfl) ?_
  refine lv_icmp_ge C.ex C.by d_Iss_extensions_143 rfl (fun hc => ?_) (fun hc => ?_)
  · replace hw := hw.1 hc
    exact b_Iss_extensions_156 C hl _ _ _ _ hw _ _ _ _ _ (lv_sub hv [0, 1, 5] rfl) F
  · replace hw := hw.2 hc
    refine lv_aload_n C.ex C.by d_Iss_extensions_146 rfl (lv_at hv 0 rfl) ?_
    refine lv_aload_n C.ex C.by d_Iss_extensions_147 rfl (lv_at hv 2 rfl) ?_
    refine lv_iload_n C.ex C.by d_Iss_extensions_148 rfl (lv_at hv 3 rfl) ?_
    refine lv_iconst (v := (1 : Int32)) C.ex C.by d_Iss_extensions_149 (by decide) ?_
    refine lv_iadd C.ex C.by d_Iss_extensions_150 ?_
    refine lv_iload C.ex C.by d_Iss_extensions_151 (lv_at hv 4 rfl) ?_
    obtain ⟨hk1, hw⟩ := hw
    refine fx_callV C F (c_Iss_hosts hl hw) hm_Iss_hosts hi_Iss_hosts hv.1 (by decide) (Nat.le_of_ble_eq_true rfl) (iv_Iss_hosts C F lm_Iss_68 hk1 d_Iss_extensions_153) (fx_out0 _) fx_eno (fun h1 H locs cells slots hw hx1 F => ?_)
    replace hw := hw hx1
    have hk1 := (hx1).k hk1
    exact b_Iss_extensions_156 C hl _ _ _ _ hw _ _ _ _ _ (lv_sub hv [0, 1, 5] rfl) F
theorem b_Iss_extensions_119 {p : Program} {l : Launch} {e : Env} {R : Room} {s : State} {m : MethodId} {args : Array Value} {below : List Frame} {meth : Method} {c : Code} {D : DD} {h0 : AH} {Q : AH → Prop} (C : fx_CX D y_Iss_extensions prog_5_method_6_code 8 7 113 (none) [] h0 p R s m meth c) (hl : l.flags = flags0) (r0 : Nat) (x1 : Int32) (r2 : Nat) (x3 : Int32) (x4 : Int32) (x5 : Int32) (x6 : Int32) (h : AH) (hw : m_Iss_extensions_119 Q r0 x1 r2 x3 x4 x5 x6 h) : ∀ (ls : Array Slot) (H : Heap) (locs : List Loc) (cells slots : Nat), lv_has ls 8 [(0, .ref r0), (1, .int x1), (2, .ref r2), (3, .int x3), (4, .int x4), (5, .int x5), (6, .int x6)] → fx_F D h0 h H locs cells slots → W p l e R s m args below meth c H locs cells slots (fx_Z D below s h0 (fx_oV Q fx_no)) (F0 m 119 ls []) := by
  unfold m_Iss_extensions_119 at hw
  intro ls H locs cells slots hv F
  refine lv_aload_n C.ex C.by d_Iss_extensions_119 rfl (lv_at hv 0 rfl) ?_
  obtain ⟨hk1, hw⟩ := hw
  obtain ⟨b1, hb1, hw⟩ := hw
  refine fx_getR C F lf_Iss_10 hk1 rfl hb1 d_Iss_extensions_120 ?_
  refine lv_bipush (v := (48 : Int32)) C.ex C.by d_Iss_extensions_123 (by decide) ?_
  refine lv_iload C.ex C.by d_Iss_extensions_125 (lv_at hv 6 rfl) ?_
  obtain ⟨hk2, hw⟩ := hw
  refine fx_callV C F (c_Wr_wrap hl hw) hm_Wr_wrap hi_Wr_wrap hv.1 (by decide) (Nat.le_of_ble_eq_true rfl) (iv_Wr_wrap C F lm_Iss_41 hk2 d_Iss_extensions_127) (fx_out0 _) fx_eno (fun h1 H locs cells slots hw hx1 F => ?_)
  replace hw := hw hx1
  have hk2 := (hx1).k hk2
  have hk1 := (hx1).k hk1
  refine lv_aload_n C.ex C.by d_Iss_extensions_130 rfl (lv_at hv 0 rfl) ?_
  refine fx_gets C F ls_Iss_65 d_Iss_extensions_131 ?_
  refine lv_iconst (v := (0 : Int32)) C.ex C.by d_Iss_extensions_134 (by decide) ?_
  refine lv_iload C.ex C.by d_Iss_extensions_135 (lv_at hv 6 rfl) ?_
  refine fx_callV C F (c_Iss_extension hl hw) hm_Iss_extension hi_Iss_extension hv.1 (by decide) (Nat.le_of_ble_eq_true rfl) (iv_Iss_extension C F lm_Iss_52 hk1 d_Iss_extensions_137) (fx_out0 _) fx_eno (fun h2 H locs cells slots hw hx2 F => ?_)
  replace hw := hw hx2
  have hk2 := (hx2).k hk2
  have hk1 := (hx2).k hk1
  exact b_Iss_extensions_140 C hl _ _ _ _ _ _ _ hw _ _ _ _ _ (lv_sub hv [0, 1, 2, 3, 4, 5] rfl) F
theorem b_Iss_extensions_94 {p : Program} {l : Launch} {e : Env} {R : Room} {s : State} {m : MethodId} {args : Array Value} {below : List Frame} {meth : Method} {c : Code} {D : DD} {h0 : AH} {Q : AH → Prop} (C : fx_CX D y_Iss_extensions prog_5_method_6_code 8 7 113 (none) [] h0 p R s m meth c) (hl : l.flags = flags0) (r0 : Nat) (x1 : Int32) (r2 : Nat) (x3 : Int32) (x4 : Int32) (x5 : Int32) (x6 : Int32) (h : AH) (hw : m_Iss_extensions_94 Q r0 x1 r2 x3 x4 x5 x6 h) : ∀ (ls : Array Slot) (H : Heap) (locs : List Loc) (cells slots : Nat), lv_has ls 8 [(0, .ref r0), (1, .int x1), (2, .ref r2), (3, .int x3), (4, .int x4), (5, .int x5), (6, .int x6)] → fx_F D h0 h H locs cells slots → W p l e R s m args below meth c H locs cells slots (fx_Z D below s h0 (fx_oV Q fx_no)) (F0 m 94 ls []) := by
  unfold m_Iss_extensions_94 at hw
  intro ls H locs cells slots hv F
  refine lv_iload_n C.ex C.by d_Iss_extensions_94 rfl (lv_at hv 1 rfl) ?_
  refine lv_sipush (v := (256 : Int32)) C.ex C.by d_Iss_extensions_95 (by decide) ?_
  refine lv_iand C.ex C.by d_Iss_extensions_98 ?_
  refine lv_if_eq C.ex C.by d_Iss_extensions_99 rfl (fun hc => ?_) (fun hc => ?_)
  · replace hw := hw.1 hc
    exact b_Iss_extensions_119 C hl _ _ _ _ _ _ _ _ hw _ _ _ _ _ hv F
  · replace hw := hw.2 hc
    refine lv_aload_n C.ex C.by d_Iss_extensions_102 rfl (lv_at hv 0 rfl) ?_
    obtain ⟨hk1, hw⟩ := hw
    obtain ⟨b1, hb1, hw⟩ := hw
    refine fx_getR C F lf_Iss_10 hk1 rfl hb1 d_Iss_extensions_103 ?_
    refine lv_bipush (v := (6 : Int32)) C.ex C.by d_Iss_extensions_106 (by decide) ?_
    refine fx_gets C F ls_Iss_62 d_Iss_extensions_108 ?_
    refine lv_iconst (v := (0 : Int32)) C.ex C.by d_Iss_extensions_111 (by decide) ?_
    refine fx_gets C F ls_Iss_62 d_Iss_extensions_112 ?_
    obtain ⟨hk2, hw⟩ := hw
    refine fx_alen C F hk2.gt d_Iss_extensions_115 ?_
    obtain ⟨hk3, hw⟩ := hw
    refine fx_callV C F (c_Wr_part hl hw) hm_Wr_part hi_Wr_part hv.1 (by decide) (Nat.le_of_ble_eq_true rfl) (iv_Wr_part C F lm_Iss_45 hk3 d_Iss_extensions_116) (fx_out0 _) fx_eno (fun h1 H locs cells slots hw hx1 F => ?_)
    replace hw := hw hx1
    have hk2 := (hx1).gb hk2
    have hk3 := (hx1).k hk3
    have hk1 := (hx1).k hk1
    exact b_Iss_extensions_119 C hl _ _ _ _ _ _ _ _ hw _ _ _ _ _ hv F
theorem b_Iss_extensions_52 {p : Program} {l : Launch} {e : Env} {R : Room} {s : State} {m : MethodId} {args : Array Value} {below : List Frame} {meth : Method} {c : Code} {D : DD} {h0 : AH} {Q : AH → Prop} (C : fx_CX D y_Iss_extensions prog_5_method_6_code 8 7 113 (none) [] h0 p R s m meth c) (hl : l.flags = flags0) (r0 : Nat) (x1 : Int32) (r2 : Nat) (x3 : Int32) (x4 : Int32) (x5 : Int32) (h : AH) (hw : m_Iss_extensions_52 Q r0 x1 r2 x3 x4 x5 h) : ∀ (ls : Array Slot) (H : Heap) (locs : List Loc) (cells slots : Nat), lv_has ls 8 [(0, .ref r0), (1, .int x1), (2, .ref r2), (3, .int x3), (4, .int x4), (5, .int x5)] → fx_F D h0 h H locs cells slots → W p l e R s m args below meth c H locs cells slots (fx_Z D below s h0 (fx_oV Q fx_no)) (F0 m 52 ls []) := by
  unfold m_Iss_extensions_52 at hw
  intro ls H locs cells slots hv F
  refine lv_iload_n C.ex C.by d_Iss_extensions_52 rfl (lv_at hv 1 rfl) ?_
  refine lv_sipush (v := (768 : Int32)) C.ex C.by d_Iss_extensions_53 (by decide) ?_
  refine lv_iand C.ex C.by d_Iss_extensions_56 ?_
  refine lv_if_eq C.ex C.by d_Iss_extensions_57 rfl (fun hc => ?_) (fun hc => ?_)
  · replace hw := hw.1 hc
    exact b_Iss_extensions_140 C hl _ _ _ _ _ _ _ hw _ _ _ _ _ hv F
  · replace hw := hw.2 hc
    refine lv_aload_n C.ex C.by d_Iss_extensions_60 rfl (lv_at hv 0 rfl) ?_
    obtain ⟨hk1, hw⟩ := hw
    obtain ⟨b1, hb1, hw⟩ := hw
    refine fx_getR C F lf_Iss_10 hk1 rfl hb1 d_Iss_extensions_61 ?_
    obtain ⟨hk2, hw⟩ := hw
    refine fx_callI C F (c_Wr_size hl hw) hm_Wr_size hi_Wr_size hv.1 (by decide) (Nat.le_of_ble_eq_true rfl) (iv_Wr_size C F lm_Iss_30 hk2 d_Iss_extensions_64) (fx_out0 _) fx_eno (fun v1 h1 H locs cells slots hw hx1 F => ?_)
    replace hw := hw hx1
    have hk2 := (hx1).k hk2
    have hk1 := (hx1).k hk1
    refine lv_istore (lv' := [(6, .int v1), (0, .ref r0), (1, .int x1), (2, .ref r2), (3, .int x3), (4, .int x4), (5, .int x5)]) C.ex C.by d_Iss_extensions_67 hv (by decide) rfl (fun ls hv => ?_)
    refine lv_iload_n C.ex C.by d_Iss_extensions_69 rfl (lv_at hv 2 rfl) ?_
    refine lv_sipush (v := (512 : Int32)) C.ex C.by d_Iss_extensions_70 (by decide) ?_
    refine lv_iand C.ex C.by d_Iss_extensions_73 ?_
    refine lv_if_eq C.ex C.by d_Iss_extensions_74 rfl (fun hc => ?_) (fun hc => ?_)
    · replace hw := hw.1 hc
      exact b_Iss_extensions_94 C hl _ _ _ _ _ _ _ _ hw _ _ _ _ _ (lv_sub hv [1, 2, 3, 4, 5, 6, 0] rfl) F
    · replace hw := hw.2 hc
      refine lv_aload_n C.ex C.by d_Iss_extensions_77 rfl (lv_at hv 1 rfl) ?_
      obtain ⟨b2, hb2, hw⟩ := hw
      refine fx_getR C F lf_Iss_10 hk1 rfl hb2 d_Iss_extensions_78 ?_
      refine lv_bipush (v := (6 : Int32)) C.ex C.by d_Iss_extensions_81 (by decide) ?_
      refine fx_gets C F ls_Iss_59 d_Iss_extensions_83 ?_
      refine lv_iconst (v := (0 : Int32)) C.ex C.by d_Iss_extensions_86 (by decide) ?_
      refine fx_gets C F ls_Iss_59 d_Iss_extensions_87 ?_
      obtain ⟨hk3, hw⟩ := hw
      refine fx_alen C F hk3.gt d_Iss_extensions_90 ?_
      obtain ⟨hk4, hw⟩ := hw
      refine fx_callV C F (c_Wr_part hl hw) hm_Wr_part hi_Wr_part hv.1 (by decide) (Nat.le_of_ble_eq_true rfl) (iv_Wr_part C F lm_Iss_45 hk4 d_Iss_extensions_91) (fx_out0 _) fx_eno (fun h2 H locs cells slots hw hx2 F => ?_)
      replace hw := hw hx2
      have hk3 := (hx2).gb hk3
      have hk2 := (hx2).k hk2
      have hk4 := (hx2).k hk4
      have hk1 := (hx2).k hk1
      exact b_Iss_extensions_94 C hl _ _ _ _ _ _ _ _ hw _ _ _ _ _ (lv_sub hv [1, 2, 3, 4, 5, 6, 0] rfl) F
theorem b_Iss_extensions_0 {p : Program} {l : Launch} {e : Env} {R : Room} {s : State} {m : MethodId} {args : Array Value} {below : List Frame} {meth : Method} {c : Code} {D : DD} {h0 : AH} {Q : AH → Prop} (C : fx_CX D y_Iss_extensions prog_5_method_6_code 8 7 113 (none) [] h0 p R s m meth c) (hl : l.flags = flags0) (r0 : Nat) (x1 : Int32) (r2 : Nat) (x3 : Int32) (x4 : Int32) (h : AH) (hw : m_Iss_extensions Q r0 x1 r2 x3 x4 h) : ∀ (ls : Array Slot) (H : Heap) (locs : List Loc) (cells slots : Nat), lv_has ls 8 [(0, .ref r0), (1, .int x1), (2, .ref r2), (3, .int x3), (4, .int x4)] → fx_F D h0 h H locs cells slots → W p l e R s m args below meth c H locs cells slots (fx_Z D below s h0 (fx_oV Q fx_no)) (F0 m 0 ls []) := by
  unfold m_Iss_extensions at hw
  intro ls H locs cells slots hv F
  refine lv_aload_n C.ex C.by d_Iss_extensions_0 rfl (lv_at hv 0 rfl) ?_
  obtain ⟨hk1, hw⟩ := hw
  obtain ⟨b1, hb1, hw⟩ := hw
  refine fx_getR C F lf_Iss_10 hk1 rfl hb1 d_Iss_extensions_1 ?_
  obtain ⟨hk2, hw⟩ := hw
  refine fx_callI C F (c_Wr_size hl hw) hm_Wr_size hi_Wr_size hv.1 (by decide) (Nat.le_of_ble_eq_true rfl) (iv_Wr_size C F lm_Iss_30 hk2 d_Iss_extensions_4) (fx_out0 _) fx_eno (fun v1 h1 H locs cells slots hw hx1 F => ?_)
  replace hw := hw hx1
  have hk2 := (hx1).k hk2
  have hk1 := (hx1).k hk1
  refine lv_istore (lv' := [(5, .int v1), (0, .ref r0), (1, .int x1), (2, .ref r2), (3, .int x3), (4, .int x4)]) C.ex C.by d_Iss_extensions_7 hv (by decide) rfl (fun ls hv => ?_)
  refine lv_iload_n C.ex C.by d_Iss_extensions_9 rfl (lv_at hv 2 rfl) ?_
  refine lv_sipush (v := (1024 : Int32)) C.ex C.by d_Iss_extensions_10 (by decide) ?_
  refine lv_iand C.ex C.by d_Iss_extensions_13 ?_
  refine lv_if_eq C.ex C.by d_Iss_extensions_14 rfl (fun hc => ?_) (fun hc => ?_)
  · replace hw := hw.1 hc
    exact b_Iss_extensions_52 C hl _ _ _ _ _ _ _ hw _ _ _ _ _ (lv_sub hv [1, 2, 3, 4, 5, 0] rfl) F
  · replace hw := hw.2 hc
    refine lv_aload_n C.ex C.by d_Iss_extensions_17 rfl (lv_at hv 1 rfl) ?_
    obtain ⟨b2, hb2, hw⟩ := hw
    refine fx_getR C F lf_Iss_10 hk1 rfl hb2 d_Iss_extensions_18 ?_
    obtain ⟨hk3, hw⟩ := hw
    refine fx_callI C F (c_Wr_size hl hw) hm_Wr_size hi_Wr_size hv.1 (by decide) (Nat.le_of_ble_eq_true rfl) (iv_Wr_size C F lm_Iss_30 hk3 d_Iss_extensions_21) (fx_out0 _) fx_eno (fun v2 h2 H locs cells slots hw hx2 F => ?_)
    replace hw := hw hx2
    have hk2 := (hx2).k hk2
    have hk3 := (hx2).k hk3
    have hk1 := (hx2).k hk1
    refine lv_istore (lv' := [(6, .int v2), (5, .int v1), (0, .ref r0), (1, .int x1), (2, .ref r2), (3, .int x3), (4, .int x4)]) C.ex C.by d_Iss_extensions_24 hv (by decide) rfl (fun ls hv => ?_)
    refine lv_aload_n C.ex C.by d_Iss_extensions_26 rfl (lv_at hv 2 rfl) ?_
    obtain ⟨b3, hb3, hw⟩ := hw
    refine fx_getR C F lf_Iss_10 hk1 rfl hb3 d_Iss_extensions_27 ?_
    refine lv_iconst (v := (0 : Int32)) C.ex C.by d_Iss_extensions_30 (by decide) ?_
    obtain ⟨hk4, hw⟩ := hw
    refine fx_callV C F (c_Wr_one hl hw) hm_Wr_one hi_Wr_one hv.1 (by decide) (Nat.le_of_ble_eq_true rfl) (iv_Wr_one C F lm_Iss_34 hk4 d_Iss_extensions_31) (fx_out0 _) fx_eno (fun h3 H locs cells slots hw hx3 F => ?_)
    replace hw := hw hx3
    have hk2 := (hx3).k hk2
    have hk3 := (hx3).k hk3
    have hk4 := (hx3).k hk4
    have hk1 := (hx3).k hk1
    refine lv_aload_n C.ex C.by d_Iss_extensions_34 rfl (lv_at hv 2 rfl) ?_
    obtain ⟨b4, hb4, hw⟩ := hw
    refine fx_getR C F lf_Iss_10 hk1 rfl hb4 d_Iss_extensions_35 ?_
    refine lv_iconst (v := (5 : Int32)) C.ex C.by d_Iss_extensions_38 (by decide) ?_
    obtain ⟨hk5, hw⟩ := hw
    refine fx_callV C F (c_Wr_one hl hw) hm_Wr_one hi_Wr_one hv.1 (by decide) (Nat.le_of_ble_eq_true rfl) (iv_Wr_one C F lm_Iss_34 hk5 d_Iss_extensions_39) (fx_out0 _) fx_eno (fun h4 H locs cells slots hw hx4 F => ?_)
    replace hw := hw hx4
    have hk2 := (hx4).k hk2
    have hk3 := (hx4).k hk3
    have hk4 := (hx4).k hk4
    have hk5 := (hx4).k hk5
    have hk1 := (hx4).k hk1
    refine lv_aload_n C.ex C.by d_Iss_extensions_42 rfl (lv_at hv 2 rfl) ?_
    refine fx_gets C F ls_Iss_56 d_Iss_extensions_43 ?_
    refine lv_iconst (v := (1 : Int32)) C.ex C.by d_Iss_extensions_46 (by decide) ?_
    refine lv_iload C.ex C.by d_Iss_extensions_47 (lv_at hv 0 rfl) ?_
    refine fx_callV C F (c_Iss_extension hl hw) hm_Iss_extension hi_Iss_extension hv.1 (by decide) (Nat.le_of_ble_eq_true rfl) (iv_Iss_extension C F lm_Iss_52 hk1 d_Iss_extensions_49) (fx_out0 _) fx_eno (fun h5 H locs cells slots hw hx5 F => ?_)
    replace hw := hw hx5
    have hk2 := (hx5).k hk2
    have hk3 := (hx5).k hk3
    have hk4 := (hx5).k hk4
    have hk5 := (hx5).k hk5
    have hk1 := (hx5).k hk1
    exact b_Iss_extensions_52 C hl _ _ _ _ _ _ _ hw _ _ _ _ _ (lv_sub hv [2, 3, 4, 5, 6, 1] rfl) F
theorem hm_Iss_extensions : fx_hd y_Iss_extensions prog_5_method_6_code 8 (none) [] ∈ tables_1 := (fx_m4 (List.mem_of_getElem? (i := 52) rfl))
theorem hi_Iss_extensions : Cond.initialized y_Iss_extensions.cls ∈ tables_1 := (fx_m1 (List.mem_of_getElem? (i := 13) rfl))
theorem c_Iss_extensions {l : Launch} (hl : l.flags = flags0) {D : DD} {Q : AH → Prop} {r0 : Nat} {x1 : Int32} {r2 : Nat} {x3 : Int32} {x4 : Int32} {h : AH} (hw : m_Iss_extensions Q r0 x1 r2 x3 x4 h) : fx_Mt l D y_Iss_extensions (fx_hd y_Iss_extensions prog_5_method_6_code 8 (none) []) 7 113 [.ref r0, .int x1, .ref r2, .int x3, .int x4] h (fx_oV Q fx_no) := by
  refine fx_ofW (plainFor_of_name (by decide)) (fun p e s m below meth c C F => ?_)
  have hv := lv_entry ([.ref r0, .int x1, .ref r2, .int x3, .int x4]) (n := 8) (Nat.le_of_ble_eq_true rfl)
  rw [lg_entry_eq]
  generalize (lg_sl ([.ref r0, .int x1, .ref r2, .int x3, .int x4]) ++ List.replicate (8 - (lg_sl ([.ref r0, .int x1, .ref r2, .int x3, .int x4])).length) Slot.unset).toArray = ls at hv ⊢
  have hv : lv_has ls 8 [(0, .ref r0), (1, .int x1), (2, .ref r2), (3, .int x3), (4, .int x4)] := hv
  exact b_Iss_extensions_0 C hl _ _ _ _ _ _ hw _ _ _ _ _ hv F
/-! ChainJudge.algorithm(LChainJudge$Writer;)V: frames 5, words 80 -/
abbrev y_J_algorithm : MethodName := ⟨"ChainJudge", "algorithm", "(LChainJudge$Writer;)V"⟩
theorem ls_J_144 : fx_Ls "ChainJudge" 144 10 := ⟨_, rfl, Or.inl (fx_m4 (List.mem_of_getElem? (i := 109) rfl))⟩
theorem lm_J_143 : Cond.methodLink "ChainJudge" 143 y_Wr_size ∈ tables_1 ∨ ∃ host, Cond.methodLinkNest "ChainJudge" 143 y_Wr_size host ∈ tables_1 := Or.inl (fx_m4 (List.mem_of_getElem? (i := 101) rfl))
theorem lm_J_147 : Cond.methodLink "ChainJudge" 147 y_Wr_part ∈ tables_1 ∨ ∃ host, Cond.methodLinkNest "ChainJudge" 147 y_Wr_part host ∈ tables_1 := Or.inl (fx_m4 (List.mem_of_getElem? (i := 110) rfl))
theorem lm_J_151 : Cond.methodLink "ChainJudge" 151 y_Wr_wrap ∈ tables_1 ∨ ∃ host, Cond.methodLinkNest "ChainJudge" 151 y_Wr_wrap host ∈ tables_1 := Or.inl (fx_m4 (List.mem_of_getElem? (i := 104) rfl))
def dl_J_algorithm : List (Nat × Instr × Nat) := [(0, .aload_n 1, 1), (1, .invokevirtual 143, 3), (4, .istore_n 2, 1), (5, .aload_n 1, 1), (6, .bipush 6, 2), (8, .getstatic 144, 3), (11, .iconst 0, 1), (12, .getstatic 144, 3), (15, .arraylength, 1), (16, .invokevirtual 147, 3), (19, .aload_n 1, 1), (20, .bipush 48, 2), (22, .iload_n 2, 1), (23, .invokevirtual 151, 3), (26, .return_, 1)]
theorem dk_J_algorithm : fx_dec prog_1_method_13_code dl_J_algorithm = true := by decide +kernel
theorem d_J_algorithm_0 : decode prog_1_method_13_code 0 = .ok (.aload_n 1, 1) := fx_dat dk_J_algorithm 0 rfl
theorem d_J_algorithm_1 : decode prog_1_method_13_code 1 = .ok (.invokevirtual 143, 3) := fx_dat dk_J_algorithm 1 rfl
theorem d_J_algorithm_4 : decode prog_1_method_13_code 4 = .ok (.istore_n 2, 1) := fx_dat dk_J_algorithm 2 rfl
theorem d_J_algorithm_5 : decode prog_1_method_13_code 5 = .ok (.aload_n 1, 1) := fx_dat dk_J_algorithm 3 rfl
theorem d_J_algorithm_6 : decode prog_1_method_13_code 6 = .ok (.bipush 6, 2) := fx_dat dk_J_algorithm 4 rfl
theorem d_J_algorithm_8 : decode prog_1_method_13_code 8 = .ok (.getstatic 144, 3) := fx_dat dk_J_algorithm 5 rfl
theorem d_J_algorithm_11 : decode prog_1_method_13_code 11 = .ok (.iconst 0, 1) := fx_dat dk_J_algorithm 6 rfl
theorem d_J_algorithm_12 : decode prog_1_method_13_code 12 = .ok (.getstatic 144, 3) := fx_dat dk_J_algorithm 7 rfl
theorem d_J_algorithm_15 : decode prog_1_method_13_code 15 = .ok (.arraylength, 1) := fx_dat dk_J_algorithm 8 rfl
theorem d_J_algorithm_16 : decode prog_1_method_13_code 16 = .ok (.invokevirtual 147, 3) := fx_dat dk_J_algorithm 9 rfl
theorem d_J_algorithm_19 : decode prog_1_method_13_code 19 = .ok (.aload_n 1, 1) := fx_dat dk_J_algorithm 10 rfl
theorem d_J_algorithm_20 : decode prog_1_method_13_code 20 = .ok (.bipush 48, 2) := fx_dat dk_J_algorithm 11 rfl
theorem d_J_algorithm_22 : decode prog_1_method_13_code 22 = .ok (.iload_n 2, 1) := fx_dat dk_J_algorithm 12 rfl
theorem d_J_algorithm_23 : decode prog_1_method_13_code 23 = .ok (.invokevirtual 151, 3) := fx_dat dk_J_algorithm 13 rfl
theorem d_J_algorithm_26 : decode prog_1_method_13_code 26 = .ok (.return_, 1) := fx_dat dk_J_algorithm 14 rfl
def m_J_algorithm (Q : AH → Prop) (r0 : Nat) (r1 : Nat) (h : AH) : Prop := hp_k h r1 = 11 ∧ m_Wr_size (fun v1 h1 => fx_ext h h1 → bk (hp_k h1 (hp_c h1 10)) ∧ m_Wr_part (fun h2 => fx_ext h1 h2 → m_Wr_wrap (fun h3 => fx_ext h2 h3 → Q h3) r1 (48 : Int32) v1 h2) r1 (6 : Int32) (hp_c h1 10) (0 : Int32) (nI (hp_n h1 (hp_c h1 10))) h1) r1 h
theorem b_J_algorithm_0 {p : Program} {l : Launch} {e : Env} {R : Room} {s : State} {m : MethodId} {args : Array Value} {below : List Frame} {meth : Method} {c : Code} {D : DD} {h0 : AH} {Q : AH → Prop} (C : fx_CX D y_J_algorithm prog_1_method_13_code 3 5 80 (none) [] h0 p R s m meth c) (hl : l.flags = flags0) (r0 : Nat) (r1 : Nat) (h : AH) (hw : m_J_algorithm Q r0 r1 h) : ∀ (ls : Array Slot) (H : Heap) (locs : List Loc) (cells slots : Nat), lv_has ls 3 [(0, .ref r0), (1, .ref r1)] → fx_F D h0 h H locs cells slots → W p l e R s m args below meth c H locs cells slots (fx_Z D below s h0 (fx_oV Q fx_no)) (F0 m 0 ls []) := by
  unfold m_J_algorithm at hw
  intro ls H locs cells slots hv F
  refine lv_aload_n C.ex C.by d_J_algorithm_0 rfl (lv_at hv 1 rfl) ?_
  obtain ⟨hk1, hw⟩ := hw
  refine fx_callI C F (c_Wr_size hl hw) hm_Wr_size hi_Wr_size hv.1 (by decide) (Nat.le_of_ble_eq_true rfl) (iv_Wr_size C F lm_J_143 hk1 d_J_algorithm_1) (fx_out0 _) fx_eno (fun v1 h1 H locs cells slots hw hx1 F => ?_)
  replace hw := hw hx1
  have hk1 := (hx1).k hk1
  refine lv_istore_n (lv' := [(2, .int v1), (0, .ref r0), (1, .ref r1)]) C.ex C.by d_J_algorithm_4 rfl hv (by decide) rfl (fun ls hv => ?_)
  refine lv_aload_n C.ex C.by d_J_algorithm_5 rfl (lv_at hv 2 rfl) ?_
  refine lv_bipush (v := (6 : Int32)) C.ex C.by d_J_algorithm_6 (by decide) ?_
  refine fx_gets C F ls_J_144 d_J_algorithm_8 ?_
  refine lv_iconst (v := (0 : Int32)) C.ex C.by d_J_algorithm_11 (by decide) ?_
  refine fx_gets C F ls_J_144 d_J_algorithm_12 ?_
  obtain ⟨hk2, hw⟩ := hw
  refine fx_alen C F hk2.gt d_J_algorithm_15 ?_
  refine fx_callV C F (c_Wr_part hl hw) hm_Wr_part hi_Wr_part hv.1 (by decide) (Nat.le_of_ble_eq_true rfl) (iv_Wr_part C F lm_J_147 hk1 d_J_algorithm_16) (fx_out0 _) fx_eno (fun h2 H locs cells slots hw hx2 F => ?_)
  replace hw := hw hx2
  have hk2 := (hx2).gb hk2
  have hk1 := (hx2).k hk1
  refine lv_aload_n C.ex C.by d_J_algorithm_19 rfl (lv_at hv 2 rfl) ?_
  refine lv_bipush (v := (48 : Int32)) C.ex C.by d_J_algorithm_20 (by decide) ?_
  refine lv_iload_n C.ex C.by d_J_algorithm_22 rfl (lv_at hv 0 rfl) ?_
  refine fx_callV C F (c_Wr_wrap hl hw) hm_Wr_wrap hi_Wr_wrap hv.1 (by decide) (Nat.le_of_ble_eq_true rfl) (iv_Wr_wrap C F lm_J_151 hk1 d_J_algorithm_23) (fx_out0 _) fx_eno (fun h3 H locs cells slots hw hx3 F => ?_)
  replace hw := hw hx3
  have hk2 := (hx3).gb hk2
  have hk1 := (hx3).k hk1
  exact fx_vret C F d_J_algorithm_26 (Or.inl ⟨rfl, hw⟩)
theorem hm_J_algorithm : fx_hd y_J_algorithm prog_1_method_13_code 3 (none) [] ∈ tables_1 := (fx_m4 (List.mem_of_getElem? (i := 108) rfl))
theorem hi_J_algorithm : Cond.initialized y_J_algorithm.cls ∈ tables_1 := (fx_m1 (List.mem_of_getElem? (i := 1) rfl))
theorem c_J_algorithm {l : Launch} (hl : l.flags = flags0) {D : DD} {Q : AH → Prop} {r0 : Nat} {r1 : Nat} {h : AH} (hw : m_J_algorithm Q r0 r1 h) : fx_Mt l D y_J_algorithm (fx_hd y_J_algorithm prog_1_method_13_code 3 (none) []) 5 80 [.ref r0, .ref r1] h (fx_oV Q fx_no) := by
  refine fx_ofW (plainFor_of_name (by decide)) (fun p e s m below meth c C F => ?_)
  have hv := lv_entry ([.ref r0, .ref r1]) (n := 3) (Nat.le_of_ble_eq_true rfl)
  rw [lg_entry_eq]
  generalize (lg_sl ([.ref r0, .ref r1]) ++ List.replicate (3 - (lg_sl ([.ref r0, .ref r1])).length) Slot.unset).toArray = ls at hv ⊢
  have hv : lv_has ls 3 [(0, .ref r0), (1, .ref r1)] := hv
  exact b_J_algorithm_0 C hl _ _ _ hw _ _ _ _ _ hv F
/-! ChainJudge$Issuer.name([BI)V: frames 5, words 80 -/
abbrev y_Iss_name : MethodName := ⟨"ChainJudge$Issuer", "name", "([BI)V"⟩
theorem ls_Iss_81 : fx_Ls "ChainJudge$Issuer" 81 2 := ⟨_, rfl, Or.inr ⟨_, (fx_m4 (List.mem_of_getElem? (i := 115) rfl))⟩⟩
def dl_Iss_name : List (Nat × Instr × Nat) := [(0, .aload_n 0, 1), (1, .getfield 10, 3), (4, .invokevirtual 30, 3), (7, .istore_n 3, 1), (8, .aload_n 0, 1), (9, .getfield 10, 3), (12, .bipush 12, 2), (14, .aload_n 1, 1), (15, .iconst 0, 1), (16, .iload_n 2, 1), (17, .invokevirtual 45, 3), (20, .aload_n 0, 1), (21, .getfield 10, 3), (24, .bipush 6, 2), (26, .getstatic 81, 3), (29, .iconst 0, 1), (30, .iconst 3, 1), (31, .invokevirtual 45, 3), (34, .aload_n 0, 1), (35, .getfield 10, 3), (38, .bipush 48, 2), (40, .iload_n 3, 1), (41, .invokevirtual 41, 3), (44, .aload_n 0, 1), (45, .getfield 10, 3), (48, .bipush 49, 2), (50, .iload_n 3, 1), (51, .invokevirtual 41, 3), (54, .aload_n 0, 1), (55, .getfield 10, 3), (58, .bipush 48, 2), (60, .iload_n 3, 1), (61, .invokevirtual 41, 3), (64, .return_, 1)]
theorem dk_Iss_name : fx_dec prog_5_method_7_code dl_Iss_name = true := by decide +kernel
theorem d_Iss_name_0 : decode prog_5_method_7_code 0 = .ok (.aload_n 0, 1) := fx_dat dk_Iss_name 0 rfl
theorem d_Iss_name_1 : decode prog_5_method_7_code 1 = .ok (.getfield 10, 3) := fx_dat dk_Iss_name 1 rfl
theorem d_Iss_name_4 : decode prog_5_method_7_code 4 = .ok (.invokevirtual 30, 3) := fx_dat dk_Iss_name 2 rfl
theorem d_Iss_name_7 : decode prog_5_method_7_code 7 = .ok (.istore_n 3, 1) := fx_dat dk_Iss_name 3 rfl
theorem d_Iss_name_8 : decode prog_5_method_7_code 8 = .ok (.aload_n 0, 1) := fx_dat dk_Iss_name 4 rfl
theorem d_Iss_name_9 : decode prog_5_method_7_code 9 = .ok (.getfield 10, 3) := fx_dat dk_Iss_name 5 rfl
theorem d_Iss_name_12 : decode prog_5_method_7_code 12 = .ok (.bipush 12, 2) := fx_dat dk_Iss_name 6 rfl
theorem d_Iss_name_14 : decode prog_5_method_7_code 14 = .ok (.aload_n 1, 1) := fx_dat dk_Iss_name 7 rfl
theorem d_Iss_name_15 : decode prog_5_method_7_code 15 = .ok (.iconst 0, 1) := fx_dat dk_Iss_name 8 rfl
theorem d_Iss_name_16 : decode prog_5_method_7_code 16 = .ok (.iload_n 2, 1) := fx_dat dk_Iss_name 9 rfl
theorem d_Iss_name_17 : decode prog_5_method_7_code 17 = .ok (.invokevirtual 45, 3) := fx_dat dk_Iss_name 10 rfl
theorem d_Iss_name_20 : decode prog_5_method_7_code 20 = .ok (.aload_n 0, 1) := fx_dat dk_Iss_name 11 rfl
theorem d_Iss_name_21 : decode prog_5_method_7_code 21 = .ok (.getfield 10, 3) := fx_dat dk_Iss_name 12 rfl
theorem d_Iss_name_24 : decode prog_5_method_7_code 24 = .ok (.bipush 6, 2) := fx_dat dk_Iss_name 13 rfl
theorem d_Iss_name_26 : decode prog_5_method_7_code 26 = .ok (.getstatic 81, 3) := fx_dat dk_Iss_name 14 rfl
theorem d_Iss_name_29 : decode prog_5_method_7_code 29 = .ok (.iconst 0, 1) := fx_dat dk_Iss_name 15 rfl
theorem d_Iss_name_30 : decode prog_5_method_7_code 30 = .ok (.iconst 3, 1) := fx_dat dk_Iss_name 16 rfl
theorem d_Iss_name_31 : decode prog_5_method_7_code 31 = .ok (.invokevirtual 45, 3) := fx_dat dk_Iss_name 17 rfl
theorem d_Iss_name_34 : decode prog_5_method_7_code 34 = .ok (.aload_n 0, 1) := fx_dat dk_Iss_name 18 rfl
theorem d_Iss_name_35 : decode prog_5_method_7_code 35 = .ok (.getfield 10, 3) := fx_dat dk_Iss_name 19 rfl
theorem d_Iss_name_38 : decode prog_5_method_7_code 38 = .ok (.bipush 48, 2) := fx_dat dk_Iss_name 20 rfl
theorem d_Iss_name_40 : decode prog_5_method_7_code 40 = .ok (.iload_n 3, 1) := fx_dat dk_Iss_name 21 rfl
theorem d_Iss_name_41 : decode prog_5_method_7_code 41 = .ok (.invokevirtual 41, 3) := fx_dat dk_Iss_name 22 rfl
theorem d_Iss_name_44 : decode prog_5_method_7_code 44 = .ok (.aload_n 0, 1) := fx_dat dk_Iss_name 23 rfl
theorem d_Iss_name_45 : decode prog_5_method_7_code 45 = .ok (.getfield 10, 3) := fx_dat dk_Iss_name 24 rfl
theorem d_Iss_name_48 : decode prog_5_method_7_code 48 = .ok (.bipush 49, 2) := fx_dat dk_Iss_name 25 rfl
theorem d_Iss_name_50 : decode prog_5_method_7_code 50 = .ok (.iload_n 3, 1) := fx_dat dk_Iss_name 26 rfl
theorem d_Iss_name_51 : decode prog_5_method_7_code 51 = .ok (.invokevirtual 41, 3) := fx_dat dk_Iss_name 27 rfl
theorem d_Iss_name_54 : decode prog_5_method_7_code 54 = .ok (.aload_n 0, 1) := fx_dat dk_Iss_name 28 rfl
theorem d_Iss_name_55 : decode prog_5_method_7_code 55 = .ok (.getfield 10, 3) := fx_dat dk_Iss_name 29 rfl
theorem d_Iss_name_58 : decode prog_5_method_7_code 58 = .ok (.bipush 48, 2) := fx_dat dk_Iss_name 30 rfl
theorem d_Iss_name_60 : decode prog_5_method_7_code 60 = .ok (.iload_n 3, 1) := fx_dat dk_Iss_name 31 rfl
theorem d_Iss_name_61 : decode prog_5_method_7_code 61 = .ok (.invokevirtual 41, 3) := fx_dat dk_Iss_name 32 rfl
theorem d_Iss_name_64 : decode prog_5_method_7_code 64 = .ok (.return_, 1) := fx_dat dk_Iss_name 33 rfl
def m_Iss_name (Q : AH → Prop) (r0 : Nat) (r1 : Nat) (x2 : Int32) (h : AH) : Prop := hp_k h r0 = 10 ∧ ∃ b1, hp_R h r0 0 = some b1 ∧ hp_k h b1 = 11 ∧ m_Wr_size (fun v1 h1 => fx_ext h h1 → ∃ b2, hp_R h1 r0 0 = some b2 ∧ hp_k h1 b2 = 11 ∧ m_Wr_part (fun h2 => fx_ext h1 h2 → ∃ b3, hp_R h2 r0 0 = some b3 ∧ hp_k h2 b3 = 11 ∧ m_Wr_part (fun h3 => fx_ext h2 h3 → ∃ b4, hp_R h3 r0 0 = some b4 ∧ hp_k h3 b4 = 11 ∧ m_Wr_wrap (fun h4 => fx_ext h3 h4 → ∃ b5, hp_R h4 r0 0 = some b5 ∧ hp_k h4 b5 = 11 ∧ m_Wr_wrap (fun h5 => fx_ext h4 h5 → ∃ b6, hp_R h5 r0 0 = some b6 ∧ hp_k h5 b6 = 11 ∧ m_Wr_wrap (fun h6 => fx_ext h5 h6 → Q h6) b6 (48 : Int32) v1 h5) b5 (49 : Int32) v1 h4) b4 (48 : Int32) v1 h3) b3 (6 : Int32) (hp_c h2 2) (0 : Int32) (3 : Int32) h2) b2 (12 : Int32) r1 (0 : Int32) x2 h1) b1 h
theorem b_Iss_name_0 {p : Program} {l : Launch} {e : Env} {R : Room} {s : State} {m : MethodId} {args : Array Value} {below : List Frame} {meth : Method} {c : Code} {D : DD} {h0 : AH} {Q : AH → Prop} (C : fx_CX D y_Iss_name prog_5_method_7_code 4 5 80 (none) [] h0 p R s m meth c) (hl : l.flags = flags0) (r0 : Nat) (r1 : Nat) (x2 : Int32) (h : AH) (hw : m_Iss_name Q r0 r1 x2 h) : ∀ (ls : Array Slot) (H : Heap) (locs : List Loc) (cells slots : Nat), lv_has ls 4 [(0, .ref r0), (1, .ref r1), (2, .int x2)] → fx_F D h0 h H locs cells slots → W p l e R s m args below meth c H locs cells slots (fx_Z D below s h0 (fx_oV Q fx_no)) (F0 m 0 ls []) := by
  unfold m_Iss_name at hw
  intro ls H locs cells slots hv F
  refine lv_aload_n C.ex C.by d_Iss_name_0 rfl (lv_at hv 0 rfl) ?_
  obtain ⟨hk1, hw⟩ := hw
  obtain ⟨b1, hb1, hw⟩ := hw
  refine fx_getR C F lf_Iss_10 hk1 rfl hb1 d_Iss_name_1 ?_
  obtain ⟨hk2, hw⟩ := hw
  refine fx_callI C F (c_Wr_size hl hw) hm_Wr_size hi_Wr_size hv.1 (by decide) (Nat.le_of_ble_eq_true rfl) (iv_Wr_size C F lm_Iss_30 hk2 d_Iss_name_4) (fx_out0 _) fx_eno (fun v1 h1 H locs cells slots hw hx1 F => ?_)
  replace hw := hw hx1
  have hk2 := (hx1).k hk2
  have hk1 := (hx1).k hk1
  refine lv_istore_n (lv' := [(3, .int v1), (0, .ref r0), (1, .ref r1), (2, .int x2)]) C.ex C.by d_Iss_name_7 rfl hv (by decide) rfl (fun ls hv => ?_)
  refine lv_aload_n C.ex C.by d_Iss_name_8 rfl (lv_at hv 1 rfl) ?_
  obtain ⟨b2, hb2, hw⟩ := hw
  refine fx_getR C F lf_Iss_10 hk1 rfl hb2 d_Iss_name_9 ?_
  refine lv_bipush (v := (12 : Int32)) C.ex C.by d_Iss_name_12 (by decide) ?_
  refine lv_aload_n C.ex C.by d_Iss_name_14 rfl (lv_at hv 2 rfl) ?_
  refine lv_iconst (v := (0 : Int32)) C.ex C.by d_Iss_name_15 (by decide) ?_
  refine lv_iload_n C.ex C.by d_Iss_name_16 rfl (lv_at hv 3 rfl) ?_
  obtain ⟨hk3, hw⟩ := hw
  refine fx_callV C F (c_Wr_part hl hw) hm_Wr_part hi_Wr_part hv.1 (by decide) (Nat.le_of_ble_eq_true rfl) (iv_Wr_part C F lm_Iss_45 hk3 d_Iss_name_17) (fx_out0 _) fx_eno (fun h2 H locs cells slots hw hx2 F => ?_)
  replace hw := hw hx2
  have hk2 := (hx2).k hk2
  have hk3 := (hx2).k hk3
  have hk1 := (hx2).k hk1
  refine lv_aload_n C.ex C.by d_Iss_name_20 rfl (lv_at hv 1 rfl) ?_
  obtain ⟨b3, hb3, hw⟩ := hw
  refine fx_getR C F lf_Iss_10 hk1 rfl hb3 d_Iss_name_21 ?_
  refine lv_bipush (v := (6 : Int32)) C.ex C.by d_Iss_name_24 (by decide) ?_
  refine fx_gets C F ls_Iss_81 d_Iss_name_26 ?_
  refine lv_iconst (v := (0 : Int32)) C.ex C.by d_Iss_name_29 (by decide) ?_
  refine lv_iconst (v := (3 : Int32)) C.ex C.by d_Iss_name_30 (by decide) ?_
  obtain ⟨hk4, hw⟩ := hw
  refine fx_callV C F (c_Wr_part hl hw) hm_Wr_part hi_Wr_part hv.1 (by decide) (Nat.le_of_ble_eq_true rfl) (iv_Wr_part C F lm_Iss_45 hk4 d_Iss_name_31) (fx_out0 _) fx_eno (fun h3 H locs cells slots hw hx3 F => ?_)
  replace hw := hw hx3
  have hk2 := (hx3).k hk2
  have hk3 := (hx3).k hk3
  have hk4 := (hx3).k hk4
  have hk1 := (hx3).k hk1
  refine lv_aload_n C.ex C.by d_Iss_name_34 rfl (lv_at hv 1 rfl) ?_
  obtain ⟨b4, hb4, hw⟩ := hw
  refine fx_getR C F lf_Iss_10 hk1 rfl hb4 d_Iss_name_35 ?_
  refine lv_bipush (v := (48 : Int32)) C.ex C.by d_Iss_name_38 (by decide) ?_
  refine lv_iload_n C.ex C.by d_Iss_name_40 rfl (lv_at hv 0 rfl) ?_
  obtain ⟨hk5, hw⟩ := hw
  refine fx_callV C F (c_Wr_wrap hl hw) hm_Wr_wrap hi_Wr_wrap hv.1 (by decide) (Nat.le_of_ble_eq_true rfl) (iv_Wr_wrap C F lm_Iss_41 hk5 d_Iss_name_41) (fx_out0 _) fx_eno (fun h4 H locs cells slots hw hx4 F => ?_)
  replace hw := hw hx4
  have hk2 := (hx4).k hk2
  have hk3 := (hx4).k hk3
  have hk4 := (hx4).k hk4
  have hk5 := (hx4).k hk5
  have hk1 := (hx4).k hk1
  refine lv_aload_n C.ex C.by d_Iss_name_44 rfl (lv_at hv 1 rfl) ?_
  obtain ⟨b5, hb5, hw⟩ := hw
  refine fx_getR C F lf_Iss_10 hk1 rfl hb5 d_Iss_name_45 ?_
  refine lv_bipush (v := (49 : Int32)) C.ex C.by d_Iss_name_48 (by decide) ?_
  refine lv_iload_n C.ex C.by d_Iss_name_50 rfl (lv_at hv 0 rfl) ?_
  obtain ⟨hk6, hw⟩ := hw
  refine fx_callV C F (c_Wr_wrap hl hw) hm_Wr_wrap hi_Wr_wrap hv.1 (by decide) (Nat.le_of_ble_eq_true rfl) (iv_Wr_wrap C F lm_Iss_41 hk6 d_Iss_name_51) (fx_out0 _) fx_eno (fun h5 H locs cells slots hw hx5 F => ?_)
  replace hw := hw hx5
  have hk2 := (hx5).k hk2
  have hk3 := (hx5).k hk3
  have hk4 := (hx5).k hk4
  have hk5 := (hx5).k hk5
  have hk6 := (hx5).k hk6
  have hk1 := (hx5).k hk1
  refine lv_aload_n C.ex C.by d_Iss_name_54 rfl (lv_at hv 1 rfl) ?_
  obtain ⟨b6, hb6, hw⟩ := hw
  refine fx_getR C F lf_Iss_10 hk1 rfl hb6 d_Iss_name_55 ?_
  refine lv_bipush (v := (48 : Int32)) C.ex C.by d_Iss_name_58 (by decide) ?_
  refine lv_iload_n C.ex C.by d_Iss_name_60 rfl (lv_at hv 0 rfl) ?_
  obtain ⟨hk7, hw⟩ := hw
  refine fx_callV C F (c_Wr_wrap hl hw) hm_Wr_wrap hi_Wr_wrap hv.1 (by decide) (Nat.le_of_ble_eq_true rfl) (iv_Wr_wrap C F lm_Iss_41 hk7 d_Iss_name_61) (fx_out0 _) fx_eno (fun h6 H locs cells slots hw hx6 F => ?_)
  replace hw := hw hx6
  have hk2 := (hx6).k hk2
  have hk3 := (hx6).k hk3
  have hk4 := (hx6).k hk4
  have hk5 := (hx6).k hk5
  have hk6 := (hx6).k hk6
  have hk7 := (hx6).k hk7
  have hk1 := (hx6).k hk1
  exact fx_vret C F d_Iss_name_64 (Or.inl ⟨rfl, hw⟩)
theorem hm_Iss_name : fx_hd y_Iss_name prog_5_method_7_code 4 (none) [] ∈ tables_1 := (fx_m4 (List.mem_of_getElem? (i := 114) rfl))
theorem hi_Iss_name : Cond.initialized y_Iss_name.cls ∈ tables_1 := (fx_m1 (List.mem_of_getElem? (i := 13) rfl))
theorem c_Iss_name {l : Launch} (hl : l.flags = flags0) {D : DD} {Q : AH → Prop} {r0 : Nat} {r1 : Nat} {x2 : Int32} {h : AH} (hw : m_Iss_name Q r0 r1 x2 h) : fx_Mt l D y_Iss_name (fx_hd y_Iss_name prog_5_method_7_code 4 (none) []) 5 80 [.ref r0, .ref r1, .int x2] h (fx_oV Q fx_no) := by
  refine fx_ofW (plainFor_of_name (by decide)) (fun p e s m below meth c C F => ?_)
  have hv := lv_entry ([.ref r0, .ref r1, .int x2]) (n := 4) (Nat.le_of_ble_eq_true rfl)
  rw [lg_entry_eq]
  generalize (lg_sl ([.ref r0, .ref r1, .int x2]) ++ List.replicate (4 - (lg_sl ([.ref r0, .ref r1, .int x2])).length) Slot.unset).toArray = ls at hv ⊢
  have hv : lv_has ls 4 [(0, .ref r0), (1, .ref r1), (2, .int x2)] := hv
  exact b_Iss_name_0 C hl _ _ _ _ hw _ _ _ _ _ hv F
/-! ChainJudge$Issuer.two(I)V: frames 3, words 46 -/
abbrev y_Iss_two : MethodName := ⟨"ChainJudge$Issuer", "two", "(I)V"⟩
def dl_Iss_two : List (Nat × Instr × Nat) := [(0, .aload_n 0, 1), (1, .getfield 10, 3), (4, .bipush 48, 2), (6, .iload_n 1, 1), (7, .bipush 10, 2), (9, .irem, 1), (10, .iadd, 1), (11, .invokevirtual 34, 3), (14, .aload_n 0, 1), (15, .getfield 10, 3), (18, .bipush 48, 2), (20, .iload_n 1, 1), (21, .bipush 10, 2), (23, .idiv, 1), (24, .iadd, 1), (25, .invokevirtual 34, 3), (28, .return_, 1)]
theorem dk_Iss_two : fx_dec prog_5_method_3_code dl_Iss_two = true := by decide +kernel
theorem d_Iss_two_0 : decode prog_5_method_3_code 0 = .ok (.aload_n 0, 1) := fx_dat dk_Iss_two 0 rfl
theorem d_Iss_two_1 : decode prog_5_method_3_code 1 = .ok (.getfield 10, 3) := fx_dat dk_Iss_two 1 rfl
theorem d_Iss_two_4 : decode prog_5_method_3_code 4 = .ok (.bipush 48, 2) := fx_dat dk_Iss_two 2 rfl
theorem d_Iss_two_6 : decode prog_5_method_3_code 6 = .ok (.iload_n 1, 1) := fx_dat dk_Iss_two 3 rfl
theorem d_Iss_two_7 : decode prog_5_method_3_code 7 = .ok (.bipush 10, 2) := fx_dat dk_Iss_two 4 rfl
theorem d_Iss_two_9 : decode prog_5_method_3_code 9 = .ok (.irem, 1) := fx_dat dk_Iss_two 5 rfl
theorem d_Iss_two_10 : decode prog_5_method_3_code 10 = .ok (.iadd, 1) := fx_dat dk_Iss_two 6 rfl
theorem d_Iss_two_11 : decode prog_5_method_3_code 11 = .ok (.invokevirtual 34, 3) := fx_dat dk_Iss_two 7 rfl
theorem d_Iss_two_14 : decode prog_5_method_3_code 14 = .ok (.aload_n 0, 1) := fx_dat dk_Iss_two 8 rfl
theorem d_Iss_two_15 : decode prog_5_method_3_code 15 = .ok (.getfield 10, 3) := fx_dat dk_Iss_two 9 rfl
theorem d_Iss_two_18 : decode prog_5_method_3_code 18 = .ok (.bipush 48, 2) := fx_dat dk_Iss_two 10 rfl
theorem d_Iss_two_20 : decode prog_5_method_3_code 20 = .ok (.iload_n 1, 1) := fx_dat dk_Iss_two 11 rfl
theorem d_Iss_two_21 : decode prog_5_method_3_code 21 = .ok (.bipush 10, 2) := fx_dat dk_Iss_two 12 rfl
theorem d_Iss_two_23 : decode prog_5_method_3_code 23 = .ok (.idiv, 1) := fx_dat dk_Iss_two 13 rfl
theorem d_Iss_two_24 : decode prog_5_method_3_code 24 = .ok (.iadd, 1) := fx_dat dk_Iss_two 14 rfl
theorem d_Iss_two_25 : decode prog_5_method_3_code 25 = .ok (.invokevirtual 34, 3) := fx_dat dk_Iss_two 15 rfl
theorem d_Iss_two_28 : decode prog_5_method_3_code 28 = .ok (.return_, 1) := fx_dat dk_Iss_two 16 rfl
def m_Iss_two (Q : AH → Prop) (r0 : Nat) (x1 : Int32) (h : AH) : Prop := hp_k h r0 = 10 ∧ ∃ b1, hp_R h r0 0 = some b1 ∧ hp_k h b1 = 11 ∧ m_Wr_one (fun h1 => fx_ext h h1 → ∃ b2, hp_R h1 r0 0 = some b2 ∧ hp_k h1 b2 = 11 ∧ m_Wr_one (fun h2 => fx_ext h1 h2 → Q h2) b2 ((48 : Int32) + (x1 / (10 : Int32))) h1) b1 ((48 : Int32) + (x1 - x1 / (10 : Int32) * (10 : Int32))) h
theorem b_Iss_two_0 {p : Program} {l : Launch} {e : Env} {R : Room} {s : State} {m : MethodId} {args : Array Value} {below : List Frame} {meth : Method} {c : Code} {D : DD} {h0 : AH} {Q : AH → Prop} (C : fx_CX D y_Iss_two prog_5_method_3_code 2 3 46 (none) [] h0 p R s m meth c) (hl : l.flags = flags0) (r0 : Nat) (x1 : Int32) (h : AH) (hw : m_Iss_two Q r0 x1 h) : ∀ (ls : Array Slot) (H : Heap) (locs : List Loc) (cells slots : Nat), lv_has ls 2 [(0, .ref r0), (1, .int x1)] → fx_F D h0 h H locs cells slots → W p l e R s m args below meth c H locs cells slots (fx_Z D below s h0 (fx_oV Q fx_no)) (F0 m 0 ls []) := by
  unfold m_Iss_two at hw
  intro ls H locs cells slots hv F
  refine lv_aload_n C.ex C.by d_Iss_two_0 rfl (lv_at hv 0 rfl) ?_
  obtain ⟨hk1, hw⟩ := hw
  obtain ⟨b1, hb1, hw⟩ := hw
  refine fx_getR C F lf_Iss_10 hk1 rfl hb1 d_Iss_two_1 ?_
  refine lv_bipush (v := (48 : Int32)) C.ex C.by d_Iss_two_4 (by decide) ?_
  refine lv_iload_n C.ex C.by d_Iss_two_6 rfl (lv_at hv 1 rfl) ?_
  refine lv_bipush (v := (10 : Int32)) C.ex C.by d_Iss_two_7 (by decide) ?_
  refine lv_irem C.ex C.by d_Iss_two_9 (by decide) ?_
  refine lv_iadd C.ex C.by d_Iss_two_10 ?_
  obtain ⟨hk2, hw⟩ := hw
  refine fx_callV C F (c_Wr_one hl hw) hm_Wr_one hi_Wr_one hv.1 (by decide) (Nat.le_of_ble_eq_true rfl) (iv_Wr_one C F lm_Iss_34 hk2 d_Iss_two_11) (fx_out0 _) fx_eno (fun h1 H locs cells slots hw hx1 F => ?_)
  replace hw := hw hx1
  have hk2 := (hx1).k hk2
  have hk1 := (hx1).k hk1
  refine lv_aload_n C.ex C.by d_Iss_two_14 rfl (lv_at hv 0 rfl) ?_
  obtain ⟨b2, hb2, hw⟩ := hw
  refine fx_getR C F lf_Iss_10 hk1 rfl hb2 d_Iss_two_15 ?_
  refine lv_bipush (v := (48 : Int32)) C.ex C.by d_Iss_two_18 (by decide) ?_
  refine lv_iload_n C.ex C.by d_Iss_two_20 rfl (lv_at hv 1 rfl) ?_
  refine lv_bipush (v := (10 : Int32)) C.ex C.by d_Iss_two_21 (by decide) ?_
  refine lv_idiv C.ex C.by d_Iss_two_23 (by decide) ?_
  refine lv_iadd C.ex C.by d_Iss_two_24 ?_
  obtain ⟨hk3, hw⟩ := hw
  refine fx_callV C F (c_Wr_one hl hw) hm_Wr_one hi_Wr_one hv.1 (by decide) (Nat.le_of_ble_eq_true rfl) (iv_Wr_one C F lm_Iss_34 hk3 d_Iss_two_25) (fx_out0 _) fx_eno (fun h2 H locs cells slots hw hx2 F => ?_)
  replace hw := hw hx2
  have hk2 := (hx2).k hk2
  have hk3 := (hx2).k hk3
  have hk1 := (hx2).k hk1
  exact fx_vret C F d_Iss_two_28 (Or.inl ⟨rfl, hw⟩)
theorem hm_Iss_two : fx_hd y_Iss_two prog_5_method_3_code 2 (none) [] ∈ tables_1 := (fx_m4 (List.mem_of_getElem? (i := 131) rfl))
theorem hi_Iss_two : Cond.initialized y_Iss_two.cls ∈ tables_1 := (fx_m1 (List.mem_of_getElem? (i := 13) rfl))
theorem c_Iss_two {l : Launch} (hl : l.flags = flags0) {D : DD} {Q : AH → Prop} {r0 : Nat} {x1 : Int32} {h : AH} (hw : m_Iss_two Q r0 x1 h) : fx_Mt l D y_Iss_two (fx_hd y_Iss_two prog_5_method_3_code 2 (none) []) 3 46 [.ref r0, .int x1] h (fx_oV Q fx_no) := by
  refine fx_ofW (plainFor_of_name (by decide)) (fun p e s m below meth c C F => ?_)
  have hv := lv_entry ([.ref r0, .int x1]) (n := 2) (Nat.le_of_ble_eq_true rfl)
  rw [lg_entry_eq]
  generalize (lg_sl ([.ref r0, .int x1]) ++ List.replicate (2 - (lg_sl ([.ref r0, .int x1])).length) Slot.unset).toArray = ls at hv ⊢
  have hv : lv_has ls 2 [(0, .ref r0), (1, .int x1)] := hv
  exact b_Iss_two_0 C hl _ _ _ hw _ _ _ _ _ hv F
