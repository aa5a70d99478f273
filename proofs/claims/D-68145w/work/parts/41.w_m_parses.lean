set_option maxRecDepth 10000
/-! ChainJudgeModel.parses(I)Z: frames 6, words 99 -/
abbrev y_M_parses : MethodName := ⟨"ChainJudgeModel", "parses", "(I)Z"⟩
theorem lf_M_277 : fx_Lk "ChainJudgeModel" 277 12 35 := fx_Lk.mk (C := "ChainJudgeModel") (T := fx_T12) (N := 57) rfl (by decide) (by decide) (fx_m6 (List.mem_of_getElem? (i := 41) rfl))
theorem lf_M_280 : fx_Lk "ChainJudgeModel" 280 12 36 := fx_Lk.mk (C := "ChainJudgeModel") (T := fx_T12) (N := 57) rfl (by decide) (by decide) (fx_m6 (List.mem_of_getElem? (i := 42) rfl))
theorem lf_M_286 : fx_Lk "ChainJudgeModel" 286 12 34 := fx_Lk.mk (C := "ChainJudgeModel") (T := fx_T12) (N := 57) rfl (by decide) (by decide) (fx_m6 (List.mem_of_getElem? (i := 40) rfl))
theorem lf_M_289 : fx_Lk "ChainJudgeModel" 289 12 33 := fx_Lk.mk (C := "ChainJudgeModel") (T := fx_T12) (N := 57) rfl (by decide) (by decide) (fx_m6 (List.mem_of_getElem? (i := 39) rfl))
theorem lm_M_283 : Cond.methodLink "ChainJudgeModel" 283 y_M_body ∈ tables_1 ∨ ∃ host, Cond.methodLinkNest "ChainJudgeModel" 283 y_M_body host ∈ tables_1 := Or.inl (fx_m6 (List.mem_of_getElem? (i := 223) rfl))
section
variable {p : Program} {l : Launch} {e : Env} {R : Room} {s : State} {m : MethodId} {args : Array Value} {below : List Frame} {meth : Method} {c : Code} {H : Heap} {locs : List Loc} {cells slots : Nat}
variable {D : DD} {y : MethodName} {cc : ByteArray} {nL kf kw : Nat} {ret : Option FieldType} {hh : List (Nat × Nat × Nat × Nat)} {h0 h : AH} {pc : Nat} {ls : Array Slot} {rest : List Value} {b idx : Nat}
theorem iv_M_body {x1 : Int32} (C : fx_CX D y cc nL kf kw ret hh h0 p R s m meth c) (F : fx_F D h0 h H locs cells slots) (hw1 : Cond.methodLink y.cls idx y_M_body ∈ tables_1 ∨ ∃ host, Cond.methodLinkNest y.cls idx y_M_body host ∈ tables_1) (hk : hp_k h b = 13) (hd : decode cc pc = .ok (.invokevirtual idx, 3)) : fx_IV p l e R s m args below meth c H locs cells slots (F0 m pc ls (.int x1 :: .ref b :: rest)) rest y_M_body [.ref b, .int x1] 3 := fun T hT X => fx_invV (As := [.int x1]) (Cn := "ChainJudgeModel") C X hw1 (fx_m6 (List.mem_of_getElem? (i := 225) rfl)) (fx_selP C ⟨by decide, by decide⟩ (fx_m5 (List.mem_of_getElem? (i := 217) rfl)) (fx_m6 (List.mem_of_getElem? (i := 224) rfl)) (fx_m6 (List.mem_of_getElem? (i := 225) rfl))) hm_M_body ⟨by decide, by decide⟩ (by rw [hT]; exact fx_clsO (ci := 12) (r := ("ChainJudgeModel", fx_T12, 57)) C F rfl (by decide) hk) rfl (n := 1) (by decide +kernel) rfl rfl hd
end
def dl_M_parses : List (Nat × Instr × Nat) := [(0, .aload_n 0, 1), (1, .aload_n 0, 1), (2, .getfield 24, 3), (5, .iload_n 1, 1), (6, .iaload, 1), (7, .putfield 121, 3), (10, .aload_n 0, 1), (11, .getfield 24, 3), (14, .iload_n 1, 1), (15, .iconst 1, 1), (16, .iadd, 1), (17, .iaload, 1), (18, .aload_n 0, 1), (19, .getfield 121, 3), (22, .isub, 1), (23, .istore_n 2, 1), (24, .aload_n 0, 1), (25, .iconst 0, 1), (26, .putfield 128, 3), (29, .aload_n 0, 1), (30, .iconst 0, 1), (31, .putfield 124, 3), (34, .aload_n 0, 1), (35, .iconst 0, 1), (36, .putfield 184, 3), (39, .aload_n 0, 1), (40, .iconst 0, 1), (41, .putfield 226, 3), (44, .aload_n 0, 1), (45, .iconst (-1), 1), (46, .putfield 187, 3), (49, .aload_n 0, 1), (50, .iconst (-1), 1), (51, .putfield 190, 3), (54, .aload_n 0, 1), (55, .iconst (-1), 1), (56, .putfield 202, 3), (59, .aload_n 0, 1), (60, .iconst 0, 1), (61, .putfield 199, 3), (64, .aload_n 0, 1), (65, .iconst 0, 1), (66, .putfield 193, 3), (69, .aload_n 0, 1), (70, .iconst 0, 1), (71, .putfield 196, 3), (74, .aload_n 0, 1), (75, .iconst 0, 1), (76, .putfield 207, 3), (79, .aload_n 0, 1), (80, .bipush 48, 2), (82, .iload_n 2, 1), (83, .invokevirtual 140, 3), (86, .istore_n 3, 1), (87, .aload_n 0, 1), (88, .getfield 124, 3), (91, .ifCond .ne 17, 3), (94, .aload_n 0, 1), (95, .iload_n 3, 1), (96, .iload_n 2, 1), (97, .if_icmp .ne 7, 3), (100, .iconst 1, 1), (101, .goto 4, 3), (104, .iconst 0, 1), (105, .invokevirtual 143, 3), (108, .aload_n 0, 1), (109, .aload_n 0, 1), (110, .getfield 128, 3), (113, .putfield 277, 3), (116, .aload_n 0, 1), (117, .aload_n 0, 1), (118, .bipush 48, 2), (120, .iload_n 3, 1), (121, .invokevirtual 140, 3), (124, .putfield 280, 3), (127, .aload_n 0, 1), (128, .getfield 124, 3), (131, .ifCond .eq 5, 3), (134, .iconst 0, 1), (135, .ireturn, 1), (136, .aload_n 0, 1), (137, .aload_n 0, 1), (138, .getfield 280, 3), (141, .invokevirtual 283, 3), (144, .aload_n 0, 1), (145, .getfield 124, 3), (148, .ifCond .ne 14, 3), (151, .aload_n 0, 1), (152, .getfield 128, 3), (155, .aload_n 0, 1), (156, .getfield 280, 3), (159, .if_icmp .eq 5, 3), (162, .iconst 0, 1), (163, .ireturn, 1), (164, .aload_n 0, 1), (165, .iload_n 3, 1), (166, .invokevirtual 232, 3), (169, .aload_n 0, 1), (170, .iload_n 3, 1), (171, .invokevirtual 235, 3), (174, .istore 4, 2), (176, .aload_n 0, 1), (177, .getfield 124, 3), (180, .ifCond .ne 9, 3), (183, .iload 4, 2), (185, .iload_n 3, 1), (186, .if_icmp .eq 5, 3), (189, .iconst 0, 1), (190, .ireturn, 1), (191, .aload_n 0, 1), (192, .aload_n 0, 1), (193, .getfield 128, 3), (196, .iconst 1, 1), (197, .iadd, 1), (198, .putfield 286, 3), (201, .aload_n 0, 1), (202, .iload 4, 2), (204, .aload_n 0, 1), (205, .getfield 128, 3), (208, .isub, 1), (209, .iconst 1, 1), (210, .isub, 1), (211, .putfield 289, 3), (214, .iconst 1, 1), (215, .ireturn, 1)]
theorem dk_M_parses : fx_dec prog_15_method_38_code dl_M_parses = true := by decide +kernel
theorem d_M_parses_0 : decode prog_15_method_38_code 0 = .ok (.aload_n 0, 1) := fx_dat dk_M_parses 0 rfl
theorem d_M_parses_1 : decode prog_15_method_38_code 1 = .ok (.aload_n 0, 1) := fx_dat dk_M_parses 1 rfl
theorem d_M_parses_2 : decode prog_15_method_38_code 2 = .ok (.getfield 24, 3) := fx_dat dk_M_parses 2 rfl
theorem d_M_parses_5 : decode prog_15_method_38_code 5 = .ok (.iload_n 1, 1) := fx_dat dk_M_parses 3 rfl
theorem d_M_parses_6 : decode prog_15_method_38_code 6 = .ok (.iaload, 1) := fx_dat dk_M_parses 4 rfl
theorem d_M_parses_7 : decode prog_15_method_38_code 7 = .ok (.putfield 121, 3) := fx_dat dk_M_parses 5 rfl
theorem d_M_parses_10 : decode prog_15_method_38_code 10 = .ok (.aload_n 0, 1) := fx_dat dk_M_parses 6 rfl
theorem d_M_parses_11 : decode prog_15_method_38_code 11 = .ok (.getfield 24, 3) := fx_dat dk_M_parses 7 rfl
theorem d_M_parses_14 : decode prog_15_method_38_code 14 = .ok (.iload_n 1, 1) := fx_dat dk_M_parses 8 rfl
theorem d_M_parses_15 : decode prog_15_method_38_code 15 = .ok (.iconst 1, 1) := fx_dat dk_M_parses 9 rfl
theorem d_M_parses_16 : decode prog_15_method_38_code 16 = .ok (.iadd, 1) := fx_dat dk_M_parses 10 rfl
theorem d_M_parses_17 : decode prog_15_method_38_code 17 = .ok (.iaload, 1) := fx_dat dk_M_parses 11 rfl
theorem d_M_parses_18 : decode prog_15_method_38_code 18 = .ok (.aload_n 0, 1) := fx_dat dk_M_parses 12 rfl
theorem d_M_parses_19 : decode prog_15_method_38_code 19 = .ok (.getfield 121, 3) := fx_dat dk_M_parses 13 rfl
theorem d_M_parses_22 : decode prog_15_method_38_code 22 = .ok (.isub, 1) := fx_dat dk_M_parses 14 rfl
theorem d_M_parses_23 : decode prog_15_method_38_code 23 = .ok (.istore_n 2, 1) := fx_dat dk_M_parses 15 rfl
theorem d_M_parses_24 : decode prog_15_method_38_code 24 = .ok (.aload_n 0, 1) := fx_dat dk_M_parses 16 rfl
theorem d_M_parses_25 : decode prog_15_method_38_code 25 = .ok (.iconst 0, 1) := fx_dat dk_M_parses 17 rfl
theorem d_M_parses_26 : decode prog_15_method_38_code 26 = .ok (.putfield 128, 3) := fx_dat dk_M_parses 18 rfl
theorem d_M_parses_29 : decode prog_15_method_38_code 29 = .ok (.aload_n 0, 1) := fx_dat dk_M_parses 19 rfl
theorem d_M_parses_30 : decode prog_15_method_38_code 30 = .ok (.iconst 0, 1) := fx_dat dk_M_parses 20 rfl
theorem d_M_parses_31 : decode prog_15_method_38_code 31 = .ok (.putfield 124, 3) := fx_dat dk_M_parses 21 rfl
theorem d_M_parses_34 : decode prog_15_method_38_code 34 = .ok (.aload_n 0, 1) := fx_dat dk_M_parses 22 rfl
theorem d_M_parses_35 : decode prog_15_method_38_code 35 = .ok (.iconst 0, 1) := fx_dat dk_M_parses 23 rfl
theorem d_M_parses_36 : decode prog_15_method_38_code 36 = .ok (.putfield 184, 3) := fx_dat dk_M_parses 24 rfl
theorem d_M_parses_39 : decode prog_15_method_38_code 39 = .ok (.aload_n 0, 1) := fx_dat dk_M_parses 25 rfl
theorem d_M_parses_40 : decode prog_15_method_38_code 40 = .ok (.iconst 0, 1) := fx_dat dk_M_parses 26 rfl
theorem d_M_parses_41 : decode prog_15_method_38_code 41 = .ok (.putfield 226, 3) := fx_dat dk_M_parses 27 rfl
theorem d_M_parses_44 : decode prog_15_method_38_code 44 = .ok (.aload_n 0, 1) := fx_dat dk_M_parses 28 rfl
theorem d_M_parses_45 : decode prog_15_method_38_code 45 = .ok (.iconst (-1), 1) := fx_dat dk_M_parses 29 rfl
theorem d_M_parses_46 : decode prog_15_method_38_code 46 = .ok (.putfield 187, 3) := fx_dat dk_M_parses 30 rfl
theorem d_M_parses_49 : decode prog_15_method_38_code 49 = .ok (.aload_n 0, 1) := fx_dat dk_M_parses 31 rfl
theorem d_M_parses_50 : decode prog_15_method_38_code 50 = .ok (.iconst (-1), 1) := fx_dat dk_M_parses 32 rfl
theorem d_M_parses_51 : decode prog_15_method_38_code 51 = .ok (.putfield 190, 3) := fx_dat dk_M_parses 33 rfl
theorem d_M_parses_54 : decode prog_15_method_38_code 54 = .ok (.aload_n 0, 1) := fx_dat dk_M_parses 34 rfl
theorem d_M_parses_55 : decode prog_15_method_38_code 55 = .ok (.iconst (-1), 1) := fx_dat dk_M_parses 35 rfl
theorem d_M_parses_56 : decode prog_15_method_38_code 56 = .ok (.putfield 202, 3) := fx_dat dk_M_parses 36 rfl
theorem d_M_parses_59 : decode prog_15_method_38_code 59 = .ok (.aload_n 0, 1) := fx_dat dk_M_parses 37 rfl
theorem d_M_parses_60 : decode prog_15_method_38_code 60 = .ok (.iconst 0, 1) := fx_dat dk_M_parses 38 rfl
theorem d_M_parses_61 : decode prog_15_method_38_code 61 = .ok (.putfield 199, 3) := fx_dat dk_M_parses 39 rfl
theorem d_M_parses_64 : decode prog_15_method_38_code 64 = .ok (.aload_n 0, 1) := fx_dat dk_M_parses 40 rfl
theorem d_M_parses_65 : decode prog_15_method_38_code 65 = .ok (.iconst 0, 1) := fx_dat dk_M_parses 41 rfl
theorem d_M_parses_66 : decode prog_15_method_38_code 66 = .ok (.putfield 193, 3) := fx_dat dk_M_parses 42 rfl
theorem d_M_parses_69 : decode prog_15_method_38_code 69 = .ok (.aload_n 0, 1) := fx_dat dk_M_parses 43 rfl
theorem d_M_parses_70 : decode prog_15_method_38_code 70 = .ok (.iconst 0, 1) := fx_dat dk_M_parses 44 rfl
theorem d_M_parses_71 : decode prog_15_method_38_code 71 = .ok (.putfield 196, 3) := fx_dat dk_M_parses 45 rfl
theorem d_M_parses_74 : decode prog_15_method_38_code 74 = .ok (.aload_n 0, 1) := fx_dat dk_M_parses 46 rfl
theorem d_M_parses_75 : decode prog_15_method_38_code 75 = .ok (.iconst 0, 1) := fx_dat dk_M_parses 47 rfl
theorem d_M_parses_76 : decode prog_15_method_38_code 76 = .ok (.putfield 207, 3) := fx_dat dk_M_parses 48 rfl
theorem d_M_parses_79 : decode prog_15_method_38_code 79 = .ok (.aload_n 0, 1) := fx_dat dk_M_parses 49 rfl
theorem d_M_parses_80 : decode prog_15_method_38_code 80 = .ok (.bipush 48, 2) := fx_dat dk_M_parses 50 rfl
theorem d_M_parses_82 : decode prog_15_method_38_code 82 = .ok (.iload_n 2, 1) := fx_dat dk_M_parses 51 rfl
theorem d_M_parses_83 : decode prog_15_method_38_code 83 = .ok (.invokevirtual 140, 3) := fx_dat dk_M_parses 52 rfl
theorem d_M_parses_86 : decode prog_15_method_38_code 86 = .ok (.istore_n 3, 1) := fx_dat dk_M_parses 53 rfl
theorem d_M_parses_87 : decode prog_15_method_38_code 87 = .ok (.aload_n 0, 1) := fx_dat dk_M_parses 54 rfl
theorem d_M_parses_88 : decode prog_15_method_38_code 88 = .ok (.getfield 124, 3) := fx_dat dk_M_parses 55 rfl
theorem d_M_parses_91 : decode prog_15_method_38_code 91 = .ok (.ifCond .ne 17, 3) := fx_dat dk_M_parses 56 rfl
theorem d_M_parses_94 : decode prog_15_method_38_code 94 = .ok (.aload_n 0, 1) := fx_dat dk_M_parses 57 rfl
theorem d_M_parses_95 : decode prog_15_method_38_code 95 = .ok (.iload_n 3, 1) := fx_dat dk_M_parses 58 rfl
theorem d_M_parses_96 : decode prog_15_method_38_code 96 = .ok (.iload_n 2, 1) := fx_dat dk_M_parses 59 rfl
theorem d_M_parses_97 : decode prog_15_method_38_code 97 = .ok (.if_icmp .ne 7, 3) := fx_dat dk_M_parses 60 rfl
theorem d_M_parses_100 : decode prog_15_method_38_code 100 = .ok (.iconst 1, 1) := fx_dat dk_M_parses 61 rfl
theorem d_M_parses_101 : decode prog_15_method_38_code 101 = .ok (.goto 4, 3) := fx_dat dk_M_parses 62 rfl
theorem d_M_parses_104 : decode prog_15_method_38_code 104 = .ok (.iconst 0, 1) := fx_dat dk_M_parses 63 rfl
theorem d_M_parses_105 : decode prog_15_method_38_code 105 = .ok (.invokevirtual 143, 3) := fx_dat dk_M_parses 64 rfl
theorem d_M_parses_108 : decode prog_15_method_38_code 108 = .ok (.aload_n 0, 1) := fx_dat dk_M_parses 65 rfl
theorem d_M_parses_109 : decode prog_15_method_38_code 109 = .ok (.aload_n 0, 1) := fx_dat dk_M_parses 66 rfl
theorem d_M_parses_110 : decode prog_15_method_38_code 110 = .ok (.getfield 128, 3) := fx_dat dk_M_parses 67 rfl
theorem d_M_parses_113 : decode prog_15_method_38_code 113 = .ok (.putfield 277, 3) := fx_dat dk_M_parses 68 rfl
theorem d_M_parses_116 : decode prog_15_method_38_code 116 = .ok (.aload_n 0, 1) := fx_dat dk_M_parses 69 rfl
theorem d_M_parses_117 : decode prog_15_method_38_code 117 = .ok (.aload_n 0, 1) := fx_dat dk_M_parses 70 rfl
theorem d_M_parses_118 : decode prog_15_method_38_code 118 = .ok (.bipush 48, 2) := fx_dat dk_M_parses 71 rfl
theorem d_M_parses_120 : decode prog_15_method_38_code 120 = .ok (.iload_n 3, 1) := fx_dat dk_M_parses 72 rfl
theorem d_M_parses_121 : decode prog_15_method_38_code 121 = .ok (.invokevirtual 140, 3) := fx_dat dk_M_parses 73 rfl
theorem d_M_parses_124 : decode prog_15_method_38_code 124 = .ok (.putfield 280, 3) := fx_dat dk_M_parses 74 rfl
theorem d_M_parses_127 : decode prog_15_method_38_code 127 = .ok (.aload_n 0, 1) := fx_dat dk_M_parses 75 rfl
theorem d_M_parses_128 : decode prog_15_method_38_code 128 = .ok (.getfield 124, 3) := fx_dat dk_M_parses 76 rfl
theorem d_M_parses_131 : decode prog_15_method_38_code 131 = .ok (.ifCond .eq 5, 3) := fx_dat dk_M_parses 77 rfl
theorem d_M_parses_134 : decode prog_15_method_38_code 134 = .ok (.iconst 0, 1) := fx_dat dk_M_parses 78 rfl
theorem d_M_parses_135 : decode prog_15_method_38_code 135 = .ok (.ireturn, 1) := fx_dat dk_M_parses 79 rfl
theorem d_M_parses_136 : decode prog_15_method_38_code 136 = .ok (.aload_n 0, 1) := fx_dat dk_M_parses 80 rfl
theorem d_M_parses_137 : decode prog_15_method_38_code 137 = .ok (.aload_n 0, 1) := fx_dat dk_M_parses 81 rfl
theorem d_M_parses_138 : decode prog_15_method_38_code 138 = .ok (.getfield 280, 3) := fx_dat dk_M_parses 82 rfl
theorem d_M_parses_141 : decode prog_15_method_38_code 141 = .ok (.invokevirtual 283, 3) := fx_dat dk_M_parses 83 rfl
theorem d_M_parses_144 : decode prog_15_method_38_code 144 = .ok (.aload_n 0, 1) := fx_dat dk_M_parses 84 rfl
theorem d_M_parses_145 : decode prog_15_method_38_code 145 = .ok (.getfield 124, 3) := fx_dat dk_M_parses 85 rfl
theorem d_M_parses_148 : decode prog_15_method_38_code 148 = .ok (.ifCond .ne 14, 3) := fx_dat dk_M_parses 86 rfl
theorem d_M_parses_151 : decode prog_15_method_38_code 151 = .ok (.aload_n 0, 1) := fx_dat dk_M_parses 87 rfl
theorem d_M_parses_152 : decode prog_15_method_38_code 152 = .ok (.getfield 128, 3) := fx_dat dk_M_parses 88 rfl
theorem d_M_parses_155 : decode prog_15_method_38_code 155 = .ok (.aload_n 0, 1) := fx_dat dk_M_parses 89 rfl
theorem d_M_parses_156 : decode prog_15_method_38_code 156 = .ok (.getfield 280, 3) := fx_dat dk_M_parses 90 rfl
theorem d_M_parses_159 : decode prog_15_method_38_code 159 = .ok (.if_icmp .eq 5, 3) := fx_dat dk_M_parses 91 rfl
theorem d_M_parses_162 : decode prog_15_method_38_code 162 = .ok (.iconst 0, 1) := fx_dat dk_M_parses 92 rfl
theorem d_M_parses_163 : decode prog_15_method_38_code 163 = .ok (.ireturn, 1) := fx_dat dk_M_parses 93 rfl
theorem d_M_parses_164 : decode prog_15_method_38_code 164 = .ok (.aload_n 0, 1) := fx_dat dk_M_parses 94 rfl
theorem d_M_parses_165 : decode prog_15_method_38_code 165 = .ok (.iload_n 3, 1) := fx_dat dk_M_parses 95 rfl
theorem d_M_parses_166 : decode prog_15_method_38_code 166 = .ok (.invokevirtual 232, 3) := fx_dat dk_M_parses 96 rfl
theorem d_M_parses_169 : decode prog_15_method_38_code 169 = .ok (.aload_n 0, 1) := fx_dat dk_M_parses 97 rfl
theorem d_M_parses_170 : decode prog_15_method_38_code 170 = .ok (.iload_n 3, 1) := fx_dat dk_M_parses 98 rfl
theorem d_M_parses_171 : decode prog_15_method_38_code 171 = .ok (.invokevirtual 235, 3) := fx_dat dk_M_parses 99 rfl
theorem d_M_parses_174 : decode prog_15_method_38_code 174 = .ok (.istore 4, 2) := fx_dat dk_M_parses 100 rfl
theorem d_M_parses_176 : decode prog_15_method_38_code 176 = .ok (.aload_n 0, 1) := fx_dat dk_M_parses 101 rfl
theorem d_M_parses_177 : decode prog_15_method_38_code 177 = .ok (.getfield 124, 3) := fx_dat dk_M_parses 102 rfl
theorem d_M_parses_180 : decode prog_15_method_38_code 180 = .ok (.ifCond .ne 9, 3) := fx_dat dk_M_parses 103 rfl
theorem d_M_parses_183 : decode prog_15_method_38_code 183 = .ok (.iload 4, 2) := fx_dat dk_M_parses 104 rfl
theorem d_M_parses_185 : decode prog_15_method_38_code 185 = .ok (.iload_n 3, 1) := fx_dat dk_M_parses 105 rfl
theorem d_M_parses_186 : decode prog_15_method_38_code 186 = .ok (.if_icmp .eq 5, 3) := fx_dat dk_M_parses 106 rfl
theorem d_M_parses_189 : decode prog_15_method_38_code 189 = .ok (.iconst 0, 1) := fx_dat dk_M_parses 107 rfl
theorem d_M_parses_190 : decode prog_15_method_38_code 190 = .ok (.ireturn, 1) := fx_dat dk_M_parses 108 rfl
theorem d_M_parses_191 : decode prog_15_method_38_code 191 = .ok (.aload_n 0, 1) := fx_dat dk_M_parses 109 rfl
theorem d_M_parses_192 : decode prog_15_method_38_code 192 = .ok (.aload_n 0, 1) := fx_dat dk_M_parses 110 rfl
theorem d_M_parses_193 : decode prog_15_method_38_code 193 = .ok (.getfield 128, 3) := fx_dat dk_M_parses 111 rfl
theorem d_M_parses_196 : decode prog_15_method_38_code 196 = .ok (.iconst 1, 1) := fx_dat dk_M_parses 112 rfl
theorem d_M_parses_197 : decode prog_15_method_38_code 197 = .ok (.iadd, 1) := fx_dat dk_M_parses 113 rfl
theorem d_M_parses_198 : decode prog_15_method_38_code 198 = .ok (.putfield 286, 3) := fx_dat dk_M_parses 114 rfl
theorem d_M_parses_201 : decode prog_15_method_38_code 201 = .ok (.aload_n 0, 1) := fx_dat dk_M_parses 115 rfl
theorem d_M_parses_202 : decode prog_15_method_38_code 202 = .ok (.iload 4, 2) := fx_dat dk_M_parses 116 rfl
theorem d_M_parses_204 : decode prog_15_method_38_code 204 = .ok (.aload_n 0, 1) := fx_dat dk_M_parses 117 rfl
theorem d_M_parses_205 : decode prog_15_method_38_code 205 = .ok (.getfield 128, 3) := fx_dat dk_M_parses 118 rfl
theorem d_M_parses_208 : decode prog_15_method_38_code 208 = .ok (.isub, 1) := fx_dat dk_M_parses 119 rfl
theorem d_M_parses_209 : decode prog_15_method_38_code 209 = .ok (.iconst 1, 1) := fx_dat dk_M_parses 120 rfl
theorem d_M_parses_210 : decode prog_15_method_38_code 210 = .ok (.isub, 1) := fx_dat dk_M_parses 121 rfl
theorem d_M_parses_211 : decode prog_15_method_38_code 211 = .ok (.putfield 289, 3) := fx_dat dk_M_parses 122 rfl
theorem d_M_parses_214 : decode prog_15_method_38_code 214 = .ok (.iconst 1, 1) := fx_dat dk_M_parses 123 rfl
theorem d_M_parses_215 : decode prog_15_method_38_code 215 = .ok (.ireturn, 1) := fx_dat dk_M_parses 124 rfl
def m_M_parses_162 (Q : Int32 → AH → Prop) (h : AH) : Prop := Q (0 : Int32) h
def m_M_parses_189 (Q : Int32 → AH → Prop) (h : AH) : Prop := Q (0 : Int32) h
def m_M_parses_108 (Q : Int32 → AH → Prop) (r0 : Nat) (x3 : Int32) (h : AH) : Prop := hp_k h r0 = 13 ∧ ∀ h1 : AH, h1 = up_I h r0 35 (hp_I h r0 20) → m_M_open (fun v1 h2 => fx_ext h1 h2 → ∀ h3 : AH, h3 = up_I h2 r0 36 v1 → ((hp_I h3 r0 21) = 0 → m_M_body (fun h4 => fx_ext h3 h4 → (¬ (hp_I h4 r0 21) = 0 → m_M_parses_162 Q h4) ∧ ((hp_I h4 r0 21) = 0 → ((hp_I h4 r0 20) = (hp_I h4 r0 36) → m_M_algorithm (fun h5 => fx_ext h4 h5 → m_M_bits (fun v2 h6 => fx_ext h5 h6 → (¬ (hp_I h6 r0 21) = 0 → m_M_parses_189 Q h6) ∧ ((hp_I h6 r0 21) = 0 → (v2 = x3 → ∀ h7 : AH, h7 = up_I h6 r0 34 ((hp_I h6 r0 20) + (1 : Int32)) → ∀ h8 : AH, h8 = up_I h7 r0 33 ((v2 - (hp_I h7 r0 20)) - (1 : Int32)) → Q (1 : Int32) h8) ∧ (¬ v2 = x3 → m_M_parses_189 Q h6))) r0 x3 h5) r0 x3 h4) ∧ (¬ (hp_I h4 r0 20) = (hp_I h4 r0 36) → m_M_parses_162 Q h4))) r0 (hp_I h3 r0 36) h3) ∧ (¬ (hp_I h3 r0 21) = 0 → Q (0 : Int32) h3)) r0 (48 : Int32) x3 h1
def m_M_parses_105 (Q : Int32 → AH → Prop) (r0 : Nat) (x3 : Int32) (sr0 : Nat) (sx1 : Int32) (h : AH) : Prop := hp_k h sr0 = 13 ∧ m_M_need (fun h1 => fx_ext h h1 → m_M_parses_108 Q r0 x3 h1) sr0 sx1 h
def m_M_parses (Q : Int32 → AH → Prop) (r0 : Nat) (x1 : Int32) (h : AH) : Prop := hp_k h r0 = 13 ∧ ∃ b1, hp_R h r0 8 = some b1 ∧ ik (hp_k h b1) ∧ vp_in x1 (hp_n h b1) ∧ ∀ h1 : AH, h1 = up_I h r0 22 (hp_I h b1 x1.toNatClampNeg) → vp_in (x1 + (1 : Int32)) (hp_n h1 b1) ∧ ∀ v1 : Int32, v1 = ((hp_I h1 b1 ((x1 + (1 : Int32))).toNatClampNeg) - (hp_I h1 r0 22)) → ∀ h2 : AH, h2 = up_I h1 r0 20 (0 : Int32) → ∀ h3 : AH, h3 = up_I h2 r0 21 (0 : Int32) → ∀ h4 : AH, h4 = up_I h3 r0 25 (0 : Int32) → ∀ h5 : AH, h5 = up_I h4 r0 26 (0 : Int32) → ∀ h6 : AH, h6 = up_I h5 r0 27 (-1 : Int32) → ∀ h7 : AH, h7 = up_I h6 r0 28 (-1 : Int32) → ∀ h8 : AH, h8 = up_I h7 r0 29 (-1 : Int32) → ∀ h9 : AH, h9 = up_I h8 r0 30 (0 : Int32) → ∀ h10 : AH, h10 = up_I h9 r0 42 (0 : Int32) → ∀ h11 : AH, h11 = up_I h10 r0 43 (0 : Int32) → ∀ h12 : AH, h12 = up_I h11 r0 45 (0 : Int32) → m_M_open (fun v2 h13 => fx_ext h12 h13 → (¬ (hp_I h13 r0 21) = 0 → m_M_parses_108 Q r0 v2 h13) ∧ ((hp_I h13 r0 21) = 0 → (¬ v2 = v1 → m_M_parses_105 Q r0 v2 r0 (0 : Int32) h13) ∧ (v2 = v1 → m_M_parses_105 Q r0 v2 r0 (1 : Int32) h13))) r0 (48 : Int32) v1 h12
theorem b_M_parses_162 {p : Program} {l : Launch} {e : Env} {R : Room} {s : State} {m : MethodId} {args : Array Value} {below : List Frame} {meth : Method} {c : Code} {D : DD} {h0 : AH} {Q : Int32 → AH → Prop} (C : fx_CX D y_M_parses prog_15_method_38_code 5 6 99 (Option.some FieldType.boolean) [] h0 p R s m meth c) (hl : l.flags = flags0) (h : AH) (hw : m_M_parses_162 Q h) : ∀ (ls : Array Slot) (H : Heap) (locs : List Loc) (cells slots : Nat), lv_has ls 5 [] → fx_F D h0 h H locs cells slots → W p l e R s m args below meth c H locs cells slots (fx_Z D below s h0 (fx_oZ Q fx_no)) (F0 m 162 ls []) := by
  unfold m_M_parses_162 at hw
  intro ls H locs cells slots hv F
  refine lv_iconst (v := (0 : Int32)) C.ex C.by d_M_parses_162 (by decide) ?_
  exact fx_zret C F d_M_parses_163 (Or.inl rfl) (Or.inl ⟨_, rfl, Or.inl rfl, hw⟩)
theorem b_M_parses_189 {p : Program} {l : Launch} {e : Env} {R : Room} {s : State} {m : MethodId} {args : Array Value} {below : List Frame} {meth : Method} {c : Code} {D : DD} {h0 : AH} {Q : Int32 → AH → Prop} (C : fx_CX D y_M_parses prog_15_method_38_code 5 6 99 (Option.some FieldType.boolean) [] h0 p R s m meth c) (hl : l.flags = flags0) (h : AH) (hw : m_M_parses_189 Q h) : ∀ (ls : Array Slot) (H : Heap) (locs : List Loc) (cells slots : Nat), lv_has ls 5 [] → fx_F D h0 h H locs cells slots → W p l e R s m args below meth c H locs cells slots (fx_Z D below s h0 (fx_oZ Q fx_no)) (F0 m 189 ls []) := by
  unfold m_M_parses_189 at hw
  intro ls H locs cells slots hv F
  refine lv_iconst (v := (0 : Int32)) C.ex C.by d_M_parses_189 (by decide) ?_
  exact fx_zret C F d_M_parses_190 (Or.inl rfl) (Or.inl ⟨_, rfl, Or.inl rfl, hw⟩)
theorem b_M_parses_108 {p : Program} {l : Launch} {e : Env} {R : Room} {s : State} {m : MethodId} {args : Array Value} {below : List Frame} {meth : Method} {c : Code} {D : DD} {h0 : AH} {Q : Int32 → AH → Prop} (C : fx_CX D y_M_parses prog_15_method_38_code 5 6 99 (Option.some FieldType.boolean) [] h0 p R s m meth c) (hl : l.flags = flags0) (r0 : Nat) (x3 : Int32) (h : AH) (hw : m_M_parses_108 Q r0 x3 h) : ∀ (ls : Array Slot) (H : Heap) (locs : List Loc) (cells slots : Nat), lv_has ls 5 [(0, .ref r0), (3, .int x3)] → fx_F D h0 h H locs cells slots → W p l e R s m args below meth c H locs cells slots (fx_Z D below s h0 (fx_oZ Q fx_no)) (F0 m 108 ls []) := by
  unfold m_M_parses_108 at hw
  intro ls H locs cells slots hv F
  refine lv_aload_n C.ex C.by d_M_parses_108 rfl (lv_at hv 0 rfl) ?_
  refine lv_aload_n C.ex C.by d_M_parses_109 rfl (lv_at hv 0 rfl) ?_
  obtain ⟨hk1, hw⟩ := hw
  refine fx_getI C F lf_M_128 hk1 rfl d_M_parses_110 ?_
  let h1 : AH := up_I h r0 35 (hp_I h r0 20)
  replace hw := hw h1 rfl
  refine fx_putI C F lf_M_277 hk1 rfl rfl (fx_mayF.no rfl rfl) d_M_parses_113 (fun H locs (F : fx_F D h0 h1 H locs _ _) => ?_)
  refine lv_aload_n C.ex C.by d_M_parses_116 rfl (lv_at hv 0 rfl) ?_
  refine lv_aload_n C.ex C.by d_M_parses_117 rfl (lv_at hv 0 rfl) ?_
  refine lv_bipush (v := (48 : Int32)) C.ex C.by d_M_parses_118 (by decide) ?_
  refine lv_iload_n C.ex C.by d_M_parses_120 rfl (lv_at hv 1 rfl) ?_
  refine fx_callI C F (c_M_open hl hw) hm_M_open hi_M_open hv.1 (by decide) (Nat.le_of_ble_eq_true rfl) (iv_M_open C F lm_M_140 hk1 d_M_parses_121) (fx_out0 _) fx_eno (fun v1 h2 H locs cells slots hw hx1 F => ?_)
  replace hw := hw hx1
  have hk1 := (hx1).k hk1
  let h3 : AH := up_I h2 r0 36 v1
  replace hw := hw h3 rfl
  refine fx_putI C F lf_M_280 hk1 rfl rfl (fx_mayF.no rfl rfl) d_M_parses_124 (fun H locs (F : fx_F D h0 h3 H locs _ _) => ?_)
  refine lv_aload_n C.ex C.by d_M_parses_127 rfl (lv_at hv 0 rfl) ?_
  refine fx_getI C F lf_M_124 hk1 rfl d_M_parses_128 ?_
  refine lv_if_eq C.ex C.by d_M_parses_131 rfl (fun hc => ?_) (fun hc => ?_)
  · replace hw := hw.1 hc
    refine lv_aload_n C.ex C.by d_M_parses_136 rfl (lv_at hv 0 rfl) ?_
    refine lv_aload_n C.ex C.by d_M_parses_137 rfl (lv_at hv 0 rfl) ?_
    refine fx_getI C F lf_M_280 hk1 rfl d_M_parses_138 ?_
    refine fx_callV C F (c_M_body hl hw) hm_M_body hi_M_body hv.1 (by decide) (Nat.le_of_ble_eq_true rfl) (iv_M_body C F lm_M_283 hk1 d_M_parses_141) (fx_out0 _) fx_eno (fun h4 H locs cells slots hw hx2 F => ?_)
    replace hw := hw hx2
    have hk1 := (hx2).k hk1
    refine lv_aload_n C.ex C.by d_M_parses_144 rfl (lv_at hv 0 rfl) ?_
    refine fx_getI C F lf_M_124 hk1 rfl d_M_parses_145 ?_
    refine lv_if_ne C.ex C.by d_M_parses_148 rfl (fun hc => ?_) (fun hc => ?_)
    · replace hw := hw.1 hc
      exact b_M_parses_162 C hl _ hw _ _ _ _ _ (lv_sub hv [] rfl) F
    · replace hw := hw.2 hc
      refine lv_aload_n C.ex C.by d_M_parses_151 rfl (lv_at hv 0 rfl) ?_
      refine fx_getI C F lf_M_128 hk1 rfl d_M_parses_152 ?_
      refine lv_aload_n C.ex C.by d_M_parses_155 rfl (lv_at hv 0 rfl) ?_
      refine fx_getI C F lf_M_280 hk1 rfl d_M_parses_156 ?_
      refine lv_icmp_eq C.ex C.by d_M_parses_159 rfl (fun hc => ?_) (fun hc => ?_)
      · replace hw := hw.1 hc
        refine lv_aload_n C.ex C.by d_M_parses_164 rfl (lv_at hv 0 rfl) ?_
        refine lv_iload_n C.ex C.by d_M_parses_165 rfl (lv_at hv 1 rfl) ?_
        refine fx_callV C F (c_M_algorithm hl hw) hm_M_algorithm hi_M_algorithm hv.1 (by decide) (Nat.le_of_ble_eq_true rfl) (iv_M_algorithm C F lm_M_232 hk1 d_M_parses_166) (fx_out0 _) fx_eno (fun h5 H locs cells slots hw hx3 F => ?_)
        replace hw := hw hx3
        have hk1 := (hx3).k hk1
        refine lv_aload_n C.ex C.by d_M_parses_169 rfl (lv_at hv 0 rfl) ?_
        refine lv_iload_n C.ex C.by d_M_parses_170 rfl (lv_at hv 1 rfl) ?_
        refine fx_callI C F (c_M_bits hl hw) hm_M_bits hi_M_bits hv.1 (by decide) (Nat.le_of_ble_eq_true rfl) (iv_M_bits C F lm_M_235 hk1 d_M_parses_171) (fx_out0 _) fx_eno (fun v2 h6 H locs cells slots hw hx4 F => ?_)
        replace hw := hw hx4
        have hk1 := (hx4).k hk1
        refine lv_istore (lv' := [(4, .int v2), (0, .ref r0), (3, .int x3)]) C.ex C.by d_M_parses_174 hv (by decide) rfl (fun ls hv => ?_)
        refine lv_aload_n C.ex C.by d_M_parses_176 rfl (lv_at hv 1 rfl) ?_
        refine fx_getI C F lf_M_124 hk1 rfl d_M_parses_177 ?_
        refine lv_if_ne C.ex C.by d_M_parses_180 rfl (fun hc => ?_) (fun hc => ?_)
        · replace hw := hw.1 hc
          exact b_M_parses_189 C hl _ hw _ _ _ _ _ (lv_sub hv [] rfl) F
        · replace hw := hw.2 hc
          refine lv_iload C.ex C.by d_M_parses_183 (lv_at hv 0 rfl) ?_
          refine lv_iload_n C.ex C.by d_M_parses_185 rfl (lv_at hv 2 rfl) ?_
          refine lv_icmp_eq C.ex C.by d_M_parses_186 rfl (fun hc => ?_) (fun hc => ?_)
          · replace hw := hw.1 hc
            refine lv_aload_n C.ex C.by d_M_parses_191 rfl (lv_at hv 1 rfl) ?_
            refine lv_aload_n C.ex C.by d_M_parses_192 rfl (lv_at hv 1 rfl) ?_
            refine fx_getI C F lf_M_128 hk1 rfl d_M_parses_193 ?_
            refine lv_iconst (v := (1 : Int32)) C.ex C.by d_M_parses_196 (by decide) ?_
            refine lv_iadd C.ex C.by d_M_parses_197 ?_
            let h7 : AH := up_I h6 r0 34 ((hp_I h6 r0 20) + (1 : Int32))
            replace hw := hw h7 rfl
            refine fx_putI C F lf_M_286 hk1 rfl rfl (fx_mayF.no rfl rfl) d_M_parses_198 (fun H locs (F : fx_F D h0 h7 H locs _ _) => ?_)
            refine lv_aload_n C.ex C.by d_M_parses_201 rfl (lv_at hv 1 rfl) ?_
            refine lv_iload C.ex C.by d_M_parses_202 (lv_at hv 0 rfl) ?_
            refine lv_aload_n C.ex C.by d_M_parses_204 rfl (lv_at hv 1 rfl) ?_
            refine fx_getI C F lf_M_128 hk1 rfl d_M_parses_205 ?_
            refine lv_isub C.ex C.by d_M_parses_208 ?_
            refine lv_iconst (v := (1 : Int32)) C.ex C.by d_M_parses_209 (by decide) ?_
            refine lv_isub C.ex C.by d_M_parses_210 ?_
            let h8 : AH := up_I h7 r0 33 ((v2 - (hp_I h7 r0 20)) - (1 : Int32))
            replace hw := hw h8 rfl
            refine fx_putI C F lf_M_289 hk1 rfl rfl (fx_mayF.no rfl rfl) d_M_parses_211 (fun H locs (F : fx_F D h0 h8 H locs _ _) => ?_)
            refine lv_iconst (v := (1 : Int32)) C.ex C.by d_M_parses_214 (by decide) ?_
            exact fx_zret C F d_M_parses_215 (Or.inr rfl) (Or.inl ⟨_, rfl, Or.inr rfl, hw⟩)
          · replace hw := hw.2 hc
            exact b_M_parses_189 C hl _ hw _ _ _ _ _ (lv_sub hv [] rfl) F
      · replace hw := hw.2 hc
        exact b_M_parses_162 C hl _ hw _ _ _ _ _ (lv_sub hv [] rfl) F
  · replace hw := hw.2 hc
    refine lv_iconst (v := (0 : Int32)) C.ex C.by d_M_parses_134 (by decide) ?_
    exact fx_zret C F d_M_parses_135 (Or.inl rfl) (Or.inl ⟨_, rfl, Or.inl rfl, hw⟩)
theorem b_M_parses_105 {p : Program} {l : Launch} {e : Env} {R : Room} {s : State} {m : MethodId} {args : Array Value} {below : List Frame} {meth : Method} {c : Code} {D : DD} {h0 : AH} {Q : Int32 → AH → Prop} (C : fx_CX D y_M_parses prog_15_method_38_code 5 6 99 (Option.some FieldType.boolean) [] h0 p R s m meth c) (hl : l.flags = flags0) (r0 : Nat) (x3 : Int32) (sr0 : Nat) (sx1 : Int32) (h : AH) (hw : m_M_parses_105 Q r0 x3 sr0 sx1 h) : ∀ (ls : Array Slot) (H : Heap) (locs : List Loc) (cells slots : Nat), lv_has ls 5 [(0, .ref r0), (3, .int x3)] → fx_F D h0 h H locs cells slots → W p l e R s m args below meth c H locs cells slots (fx_Z D below s h0 (fx_oZ Q fx_no)) (F0 m 105 ls [.int sx1, .ref sr0]) := by
  unfold m_M_parses_105 at hw
  intro ls H locs cells slots hv F
  obtain ⟨hk1, hw⟩ := hw
  refine fx_callV C F (c_M_need hl hw) hm_M_need hi_M_need hv.1 (by decide) (Nat.le_of_ble_eq_true rfl) (iv_M_need C F lm_M_143 hk1 d_M_parses_105) (fx_out0 _) fx_eno (fun h1 H locs cells slots hw hx1 F => ?_)
  replace hw := hw hx1
  have hk1 := (hx1).k hk1
  exact b_M_parses_108 C hl _ _ _ hw _ _ _ _ _ hv F
theorem b_M_parses_0 {p : Program} {l : Launch} {e : Env} {R : Room} {s : State} {m : MethodId} {args : Array Value} {below : List Frame} {meth : Method} {c : Code} {D : DD} {h0 : AH} {Q : Int32 → AH → Prop} (C : fx_CX D y_M_parses prog_15_method_38_code 5 6 99 (Option.some FieldType.boolean) [] h0 p R s m meth c) (hl : l.flags = flags0) (r0 : Nat) (x1 : Int32) (h : AH) (hw : m_M_parses Q r0 x1 h) : ∀ (ls : Array Slot) (H : Heap) (locs : List Loc) (cells slots : Nat), lv_has ls 5 [(0, .ref r0), (1, .int x1)] → fx_F D h0 h H locs cells slots → W p l e R s m args below meth c H locs cells slots (fx_Z D below s h0 (fx_oZ Q fx_no)) (F0 m 0 ls []) := by
  unfold m_M_parses at hw
  intro ls H locs cells slots hv F
  refine lv_aload_n C.ex C.by d_M_parses_0 rfl (lv_at hv 0 rfl) ?_
  refine lv_aload_n C.ex C.by d_M_parses_1 rfl (lv_at hv 0 rfl) ?_
  obtain ⟨hk1, hw⟩ := hw
  obtain ⟨b1, hb1, hw⟩ := hw
  refine fx_getR C F lf_M_24 hk1 rfl hb1 d_M_parses_2 ?_
  refine lv_iload_n C.ex C.by d_M_parses_5 rfl (lv_at hv 1 rfl) ?_
  obtain ⟨hk2, hw⟩ := hw
  obtain ⟨hi1, hw⟩ := hw
  refine fx_iald C F hk2 hi1 d_M_parses_6 ?_
  let h1 : AH := up_I h r0 22 (hp_I h b1 x1.toNatClampNeg)
  replace hw := hw h1 rfl
  refine fx_putI C F lf_M_121 hk1 rfl rfl (fx_mayF.no rfl rfl) d_M_parses_7 (fun H locs (F : fx_F D h0 h1 H locs _ _) => ?_)
  refine lv_aload_n C.ex C.by d_M_parses_10 rfl (lv_at hv 0 rfl) ?_
  refine fx_getR C F lf_M_24 hk1 rfl hb1 d_M_parses_11 ?_
  refine lv_iload_n C.ex C.by d_M_parses_14 rfl (lv_at hv 1 rfl) ?_
  refine lv_iconst (v := (1 : Int32)) C.ex C.by d_M_parses_15 (by decide) ?_
  refine lv_iadd C.ex C.by d_M_parses_16 ?_
  obtain ⟨hi2, hw⟩ := hw
  refine fx_iald C F hk2 hi2 d_M_parses_17 ?_
  refine lv_aload_n C.ex C.by d_M_parses_18 rfl (lv_at hv 0 rfl) ?_
  refine fx_getI C F lf_M_121 hk1 rfl d_M_parses_19 ?_
  refine lv_isub C.ex C.by d_M_parses_22 ?_
  let v1 : Int32 := ((hp_I h1 b1 ((x1 + (1 : Int32))).toNatClampNeg) - (hp_I h1 r0 22))
  replace hw := hw v1 rfl
  refine lv_istore_n (lv' := [(2, .int v1), (0, .ref r0), (1, .int x1)]) C.ex C.by d_M_parses_23 rfl hv (by decide) rfl (fun ls hv => ?_)
  refine lv_aload_n C.ex C.by d_M_parses_24 rfl (lv_at hv 1 rfl) ?_
  refine lv_iconst (v := (0 : Int32)) C.ex C.by d_M_parses_25 (by decide) ?_
  let h2 : AH := up_I h1 r0 20 (0 : Int32)
  replace hw := hw h2 rfl
  refine fx_putI C F lf_M_128 hk1 rfl rfl (fx_mayF.no rfl rfl) d_M_parses_26 (fun H locs (F : fx_F D h0 h2 H locs _ _) => ?_)
  refine lv_aload_n C.ex C.by d_M_parses_29 rfl (lv_at hv 1 rfl) ?_
  refine lv_iconst (v := (0 : Int32)) C.ex C.by d_M_parses_30 (by decide) ?_
  let h3 : AH := up_I h2 r0 21 (0 : Int32)
  replace hw := hw h3 rfl
  refine fx_putZ C F lf_M_124 hk1 rfl rfl (Or.inl rfl) (fx_mayF.no rfl rfl) d_M_parses_31 (fun H locs (F : fx_F D h0 h3 H locs _ _) => ?_)
  refine lv_aload_n C.ex C.by d_M_parses_34 rfl (lv_at hv 1 rfl) ?_
  refine lv_iconst (v := (0 : Int32)) C.ex C.by d_M_parses_35 (by decide) ?_
  let h4 : AH := up_I h3 r0 25 (0 : Int32)
  replace hw := hw h4 rfl
  refine fx_putZ C F lf_M_184 hk1 rfl rfl (Or.inl rfl) (fx_mayF.no rfl rfl) d_M_parses_36 (fun H locs (F : fx_F D h0 h4 H locs _ _) => ?_)
  refine lv_aload_n C.ex C.by d_M_parses_39 rfl (lv_at hv 1 rfl) ?_
  refine lv_iconst (v := (0 : Int32)) C.ex C.by d_M_parses_40 (by decide) ?_
  let h5 : AH := up_I h4 r0 26 (0 : Int32)
  replace hw := hw h5 rfl
  refine fx_putZ C F lf_M_226 hk1 rfl rfl (Or.inl rfl) (fx_mayF.no rfl rfl) d_M_parses_41 (fun H locs (F : fx_F D h0 h5 H locs _ _) => ?_)
  refine lv_aload_n C.ex C.by d_M_parses_44 rfl (lv_at hv 1 rfl) ?_
  refine lv_iconst (v := (-1 : Int32)) C.ex C.by d_M_parses_45 (by decide) ?_
  let h6 : AH := up_I h5 r0 27 (-1 : Int32)
  replace hw := hw h6 rfl
  refine fx_putI C F lf_M_187 hk1 rfl rfl (fx_mayF.no rfl rfl) d_M_parses_46 (fun H locs (F : fx_F D h0 h6 H locs _ _) => ?_)
  refine lv_aload_n C.ex C.by d_M_parses_49 rfl (lv_at hv 1 rfl) ?_
  refine lv_iconst (v := (-1 : Int32)) C.ex C.by d_M_parses_50 (by decide) ?_
  let h7 : AH := up_I h6 r0 28 (-1 : Int32)
  replace hw := hw h7 rfl
  refine fx_putI C F lf_M_190 hk1 rfl rfl (fx_mayF.no rfl rfl) d_M_parses_51 (fun H locs (F : fx_F D h0 h7 H locs _ _) => ?_)
  refine lv_aload_n C.ex C.by d_M_parses_54 rfl (lv_at hv 1 rfl) ?_
  refine lv_iconst (v := (-1 : Int32)) C.ex C.by d_M_parses_55 (by decide) ?_
  let h8 : AH := up_I h7 r0 29 (-1 : Int32)
  replace hw := hw h8 rfl
  refine fx_putI C F lf_M_202 hk1 rfl rfl (fx_mayF.no rfl rfl) d_M_parses_56 (fun H locs (F : fx_F D h0 h8 H locs _ _) => ?_)
  refine lv_aload_n C.ex C.by d_M_parses_59 rfl (lv_at hv 1 rfl) ?_
  refine lv_iconst (v := (0 : Int32)) C.ex C.by d_M_parses_60 (by decide) ?_
  let h9 : AH := up_I h8 r0 30 (0 : Int32)
  replace hw := hw h9 rfl
  refine fx_putI C F lf_M_199 hk1 rfl rfl (fx_mayF.no rfl rfl) d_M_parses_61 (fun H locs (F : fx_F D h0 h9 H locs _ _) => ?_)
  refine lv_aload_n C.ex C.by d_M_parses_64 rfl (lv_at hv 1 rfl) ?_
  refine lv_iconst (v := (0 : Int32)) C.ex C.by d_M_parses_65 (by decide) ?_
  let h10 : AH := up_I h9 r0 42 (0 : Int32)
  replace hw := hw h10 rfl
  refine fx_putI C F lf_M_193 hk1 rfl rfl (fx_mayF.no rfl rfl) d_M_parses_66 (fun H locs (F : fx_F D h0 h10 H locs _ _) => ?_)
  refine lv_aload_n C.ex C.by d_M_parses_69 rfl (lv_at hv 1 rfl) ?_
  refine lv_iconst (v := (0 : Int32)) C.ex C.by d_M_parses_70 (by decide) ?_
  let h11 : AH := up_I h10 r0 43 (0 : Int32)
  replace hw := hw h11 rfl
  refine fx_putI C F lf_M_196 hk1 rfl rfl (fx_mayF.no rfl rfl) d_M_parses_71 (fun H locs (F : fx_F D h0 h11 H locs _ _) => ?_)
  refine lv_aload_n C.ex C.by d_M_parses_74 rfl (lv_at hv 1 rfl) ?_
  refine lv_iconst (v := (0 : Int32)) C.ex C.by d_M_parses_75 (by decide) ?_
  let h12 : AH := up_I h11 r0 45 (0 : Int32)
  replace hw := hw h12 rfl
  refine fx_putI C F lf_M_207 hk1 rfl rfl (fx_mayF.no rfl rfl) d_M_parses_76 (fun H locs (F : fx_F D h0 h12 H locs _ _) => ?_)
  refine lv_aload_n C.ex C.by d_M_parses_79 rfl (lv_at hv 1 rfl) ?_
  refine lv_bipush (v := (48 : Int32)) C.ex C.by d_M_parses_80 (by decide) ?_
  refine lv_iload_n C.ex C.by d_M_parses_82 rfl (lv_at hv 0 rfl) ?_
  refine fx_callI C F (c_M_open hl hw) hm_M_open hi_M_open hv.1 (by decide) (Nat.le_of_ble_eq_true rfl) (iv_M_open C F lm_M_140 hk1 d_M_parses_83) (fx_out0 _) fx_eno (fun v2 h13 H locs cells slots hw hx1 F => ?_)
  replace hw := hw hx1
  have hk2 := (hx1).gi hk2
  have hk1 := (hx1).k hk1
  refine lv_istore_n (lv' := [(3, .int v2), (2, .int v1), (0, .ref r0), (1, .int x1)]) C.ex C.by d_M_parses_86 rfl hv (by decide) rfl (fun ls hv => ?_)
  refine lv_aload_n C.ex C.by d_M_parses_87 rfl (lv_at hv 2 rfl) ?_
  refine fx_getI C F lf_M_124 hk1 rfl d_M_parses_88 ?_
  refine lv_if_ne C.ex C.by d_M_parses_91 rfl (fun hc => ?_) (fun hc => ?_)
  · replace hw := hw.1 hc
    exact b_M_parses_108 C hl _ _ _ hw _ _ _ _ _ (lv_sub hv [2, 0] rfl) F
  · replace hw := hw.2 hc
    refine lv_aload_n C.ex C.by d_M_parses_94 rfl (lv_at hv 2 rfl) ?_
    refine lv_iload_n C.ex C.by d_M_parses_95 rfl (lv_at hv 0 rfl) ?_
    refine lv_iload_n C.ex C.by d_M_parses_96 rfl (lv_at hv 1 rfl) ?_
    refine lv_icmp_ne C.ex C.by d_M_parses_97 rfl (fun hc => ?_) (fun hc => ?_)
    · replace hw := hw.1 hc
      refine lv_iconst (v := (0 : Int32)) C.ex C.by d_M_parses_104 (by decide) ?_
      exact b_M_parses_105 C hl _ _ _ _ _ hw _ _ _ _ _ (lv_sub hv [2, 0] rfl) F
    · replace hw := hw.2 hc
      refine lv_iconst (v := (1 : Int32)) C.ex C.by d_M_parses_100 (by decide) ?_
      refine lv_goto C.ex C.by d_M_parses_101 rfl ?_
      exact b_M_parses_105 C hl _ _ _ _ _ hw _ _ _ _ _ (lv_sub hv [2, 0] rfl) F
theorem hm_M_parses : fx_hd y_M_parses prog_15_method_38_code 5 (Option.some FieldType.boolean) [] ∈ tables_1 := (fx_m6 (List.mem_of_getElem? (i := 206) rfl))
theorem hi_M_parses : Cond.initialized y_M_parses.cls ∈ tables_1 := (fx_m1 (List.mem_of_getElem? (i := 15) rfl))
theorem c_M_parses {l : Launch} (hl : l.flags = flags0) {D : DD} {Q : Int32 → AH → Prop} {r0 : Nat} {x1 : Int32} {h : AH} (hw : m_M_parses Q r0 x1 h) : fx_Mt l D y_M_parses (fx_hd y_M_parses prog_15_method_38_code 5 (Option.some FieldType.boolean) []) 6 99 [.ref r0, .int x1] h (fx_oZ Q fx_no) := by
  refine fx_ofW (plainFor_of_name (by decide)) (fun p e s m below meth c C F => ?_)
  have hv := lv_entry ([.ref r0, .int x1]) (n := 5) (Nat.le_of_ble_eq_true rfl)
  rw [lg_entry_eq]
  generalize (lg_sl ([.ref r0, .int x1]) ++ List.replicate (5 - (lg_sl ([.ref r0, .int x1])).length) Slot.unset).toArray = ls at hv ⊢
  have hv : lv_has ls 5 [(0, .ref r0), (1, .int x1)] := hv
  exact b_M_parses_0 C hl _ _ _ hw _ _ _ _ _ hv F
/-! ChainJudgeModel.put(I)V: frames 0, words 0 -/
abbrev y_M_put_I : MethodName := ⟨"ChainJudgeModel", "put", "(I)V"⟩
theorem lf_M_292 : fx_Lk "ChainJudgeModel" 292 12 47 := fx_Lk.mk (C := "ChainJudgeModel") (T := fx_T12) (N := 57) rfl (by decide) (by decide) (fx_m6 (List.mem_of_getElem? (i := 53) rfl))
def dl_M_put_I : List (Nat × Instr × Nat) := [(0, .aload_n 0, 1), (1, .getfield 48, 3), (4, .aload_n 0, 1), (5, .getfield 292, 3), (8, .iload_n 1, 1), (9, .i2b, 1), (10, .bastore, 1), (11, .aload_n 0, 1), (12, .dup, 1), (13, .getfield 292, 3), (16, .iconst 1, 1), (17, .iadd, 1), (18, .putfield 292, 3), (21, .return_, 1)]
theorem dk_M_put_I : fx_dec prog_15_method_39_code dl_M_put_I = true := by decide +kernel
theorem d_M_put_I_0 : decode prog_15_method_39_code 0 = .ok (.aload_n 0, 1) := fx_dat dk_M_put_I 0 rfl
theorem d_M_put_I_1 : decode prog_15_method_39_code 1 = .ok (.getfield 48, 3) := fx_dat dk_M_put_I 1 rfl
theorem d_M_put_I_4 : decode prog_15_method_39_code 4 = .ok (.aload_n 0, 1) := fx_dat dk_M_put_I 2 rfl
theorem d_M_put_I_5 : decode prog_15_method_39_code 5 = .ok (.getfield 292, 3) := fx_dat dk_M_put_I 3 rfl
theorem d_M_put_I_8 : decode prog_15_method_39_code 8 = .ok (.iload_n 1, 1) := fx_dat dk_M_put_I 4 rfl
theorem d_M_put_I_9 : decode prog_15_method_39_code 9 = .ok (.i2b, 1) := fx_dat dk_M_put_I 5 rfl
theorem d_M_put_I_10 : decode prog_15_method_39_code 10 = .ok (.bastore, 1) := fx_dat dk_M_put_I 6 rfl
theorem d_M_put_I_11 : decode prog_15_method_39_code 11 = .ok (.aload_n 0, 1) := fx_dat dk_M_put_I 7 rfl
theorem d_M_put_I_12 : decode prog_15_method_39_code 12 = .ok (.dup, 1) := fx_dat dk_M_put_I 8 rfl
theorem d_M_put_I_13 : decode prog_15_method_39_code 13 = .ok (.getfield 292, 3) := fx_dat dk_M_put_I 9 rfl
theorem d_M_put_I_16 : decode prog_15_method_39_code 16 = .ok (.iconst 1, 1) := fx_dat dk_M_put_I 10 rfl
theorem d_M_put_I_17 : decode prog_15_method_39_code 17 = .ok (.iadd, 1) := fx_dat dk_M_put_I 11 rfl
theorem d_M_put_I_18 : decode prog_15_method_39_code 18 = .ok (.putfield 292, 3) := fx_dat dk_M_put_I 12 rfl
theorem d_M_put_I_21 : decode prog_15_method_39_code 21 = .ok (.return_, 1) := fx_dat dk_M_put_I 13 rfl
def m_M_put_I (Q : AH → Prop) (r0 : Nat) (x1 : Int32) (h : AH) : Prop := hp_k h r0 = 13 ∧ ∃ b1, hp_R h r0 46 = some b1 ∧ hp_k h b1 = 101 ∧ vp_in (hp_I h r0 47) (hp_n h b1) ∧ ∀ h1 : AH, h1 = up_I h b1 ((hp_I h r0 47)).toNatClampNeg (((x1).toInt8.toInt32)).toInt8.toInt32 → ∀ h2 : AH, h2 = up_I h1 r0 47 ((hp_I h1 r0 47) + (1 : Int32)) → Q h2
theorem b_M_put_I_0 {p : Program} {l : Launch} {e : Env} {R : Room} {s : State} {m : MethodId} {args : Array Value} {below : List Frame} {meth : Method} {c : Code} {D : DD} {h0 : AH} {Q : AH → Prop} (C : fx_CX D y_M_put_I prog_15_method_39_code 2 0 0 (none) [] h0 p R s m meth c) (hl : l.flags = flags0) (r0 : Nat) (x1 : Int32) (h : AH) (hw : m_M_put_I Q r0 x1 h) : ∀ (ls : Array Slot) (H : Heap) (locs : List Loc) (cells slots : Nat), lv_has ls 2 [(0, .ref r0), (1, .int x1)] → fx_F D h0 h H locs cells slots → W p l e R s m args below meth c H locs cells slots (fx_Z D below s h0 (fx_oV Q fx_no)) (F0 m 0 ls []) := by
  unfold m_M_put_I at hw
  intro ls H locs cells slots hv F
  refine lv_aload_n C.ex C.by d_M_put_I_0 rfl (lv_at hv 0 rfl) ?_
  obtain ⟨hk1, hw⟩ := hw
  obtain ⟨b1, hb1, hw⟩ := hw
  refine fx_getR C F lf_M_48 hk1 rfl hb1 d_M_put_I_1 ?_
  refine lv_aload_n C.ex C.by d_M_put_I_4 rfl (lv_at hv 0 rfl) ?_
  refine fx_getI C F lf_M_292 hk1 rfl d_M_put_I_5 ?_
  refine lv_iload_n C.ex C.by d_M_put_I_8 rfl (lv_at hv 1 rfl) ?_
  refine lv_i2b (v := ((x1).toInt8.toInt32)) C.ex C.by d_M_put_I_9 rfl ?_
  obtain ⟨hk2, hw⟩ := hw
  obtain ⟨hi1, hw⟩ := hw
  let h1 : AH := up_I h b1 ((hp_I h r0 47)).toNatClampNeg (((x1).toInt8.toInt32)).toInt8.toInt32
  replace hw := hw h1 rfl
  refine fx_bast C F hk2 hi1 d_M_put_I_10 (fun H locs (F : fx_F D h0 h1 H locs _ _) => ?_)
  refine lv_aload_n C.ex C.by d_M_put_I_11 rfl (lv_at hv 0 rfl) ?_
  refine lv_dup C.ex C.by d_M_put_I_12 rfl ?_
  refine fx_getI C F lf_M_292 hk1 rfl d_M_put_I_13 ?_
  refine lv_iconst (v := (1 : Int32)) C.ex C.by d_M_put_I_16 (by decide) ?_
  refine lv_iadd C.ex C.by d_M_put_I_17 ?_
  let h2 : AH := up_I h1 r0 47 ((hp_I h1 r0 47) + (1 : Int32))
  replace hw := hw h2 rfl
  refine fx_putI C F lf_M_292 hk1 rfl rfl (fx_mayF.no rfl rfl) d_M_put_I_18 (fun H locs (F : fx_F D h0 h2 H locs _ _) => ?_)
  exact fx_vret C F d_M_put_I_21 (Or.inl ⟨rfl, hw⟩)
theorem hm_M_put_I : fx_hd y_M_put_I prog_15_method_39_code 2 (none) [] ∈ tables_1 := (fx_m7 (List.mem_of_getElem? (i := 77) rfl))
theorem hi_M_put_I : Cond.initialized y_M_put_I.cls ∈ tables_1 := (fx_m1 (List.mem_of_getElem? (i := 15) rfl))
theorem c_M_put_I {l : Launch} (hl : l.flags = flags0) {D : DD} {Q : AH → Prop} {r0 : Nat} {x1 : Int32} {h : AH} (hw : m_M_put_I Q r0 x1 h) : fx_Mt l D y_M_put_I (fx_hd y_M_put_I prog_15_method_39_code 2 (none) []) 0 0 [.ref r0, .int x1] h (fx_oV Q fx_no) := by
  refine fx_ofW (plainFor_of_name (by decide)) (fun p e s m below meth c C F => ?_)
  have hv := lv_entry ([.ref r0, .int x1]) (n := 2) (Nat.le_of_ble_eq_true rfl)
  rw [lg_entry_eq]
  generalize (lg_sl ([.ref r0, .int x1]) ++ List.replicate (2 - (lg_sl ([.ref r0, .int x1])).length) Slot.unset).toArray = ls at hv ⊢
  have hv : lv_has ls 2 [(0, .ref r0), (1, .int x1)] := hv
  exact b_M_put_I_0 C hl _ _ _ hw _ _ _ _ _ hv F
/-! ChainJudgeModel.put(IJ)V: frames 1, words 13 -/
abbrev y_M_put_IJ : MethodName := ⟨"ChainJudgeModel", "put", "(IJ)V"⟩
theorem lm_M_295 : Cond.methodLink "ChainJudgeModel" 295 y_M_put_I ∈ tables_1 ∨ ∃ host, Cond.methodLinkNest "ChainJudgeModel" 295 y_M_put_I host ∈ tables_1 := Or.inl (fx_m7 (List.mem_of_getElem? (i := 74) rfl))
section
variable {p : Program} {l : Launch} {e : Env} {R : Room} {s : State} {m : MethodId} {args : Array Value} {below : List Frame} {meth : Method} {c : Code} {H : Heap} {locs : List Loc} {cells slots : Nat}
variable {D : DD} {y : MethodName} {cc : ByteArray} {nL kf kw : Nat} {ret : Option FieldType} {hh : List (Nat × Nat × Nat × Nat)} {h0 h : AH} {pc : Nat} {ls : Array Slot} {rest : List Value} {b idx : Nat}
theorem iv_M_put_I {x1 : Int32} (C : fx_CX D y cc nL kf kw ret hh h0 p R s m meth c) (F : fx_F D h0 h H locs cells slots) (hw1 : Cond.methodLink y.cls idx y_M_put_I ∈ tables_1 ∨ ∃ host, Cond.methodLinkNest y.cls idx y_M_put_I host ∈ tables_1) (hk : hp_k h b = 13) (hd : decode cc pc = .ok (.invokevirtual idx, 3)) : fx_IV p l e R s m args below meth c H locs cells slots (F0 m pc ls (.int x1 :: .ref b :: rest)) rest y_M_put_I [.ref b, .int x1] 3 := fun T hT X => fx_invV (As := [.int x1]) (Cn := "ChainJudgeModel") C X hw1 (fx_m7 (List.mem_of_getElem? (i := 76) rfl)) (fx_selP C ⟨by decide, by decide⟩ (fx_m5 (List.mem_of_getElem? (i := 217) rfl)) (fx_m7 (List.mem_of_getElem? (i := 75) rfl)) (fx_m7 (List.mem_of_getElem? (i := 76) rfl))) hm_M_put_I ⟨by decide, by decide⟩ (by rw [hT]; exact fx_clsO (ci := 12) (r := ("ChainJudgeModel", fx_T12, 57)) C F rfl (by decide) hk) rfl (n := 1) (by decide +kernel) rfl rfl hd
end
def dl_M_put_IJ : List (Nat × Instr × Nat) := [(0, .iload_n 1, 1), (1, .iconst 1, 1), (2, .isub, 1), (3, .istore 4, 2), (5, .iload 4, 2), (7, .ifCond .lt 25, 3), (10, .aload_n 0, 1), (11, .lload_n 2, 1), (12, .bipush 8, 2), (14, .iload 4, 2), (16, .imul, 1), (17, .lshr, 1), (18, .ldc2_w 138, 3), (21, .land, 1), (22, .l2i, 1), (23, .invokevirtual 295, 3), (26, .iinc 4 (-1), 3), (29, .goto (-24), 3), (32, .return_, 1)]
theorem dk_M_put_IJ : fx_dec prog_15_method_40_code dl_M_put_IJ = true := by decide +kernel
theorem d_M_put_IJ_0 : decode prog_15_method_40_code 0 = .ok (.iload_n 1, 1) := fx_dat dk_M_put_IJ 0 rfl
theorem d_M_put_IJ_1 : decode prog_15_method_40_code 1 = .ok (.iconst 1, 1) := fx_dat dk_M_put_IJ 1 rfl
theorem d_M_put_IJ_2 : decode prog_15_method_40_code 2 = .ok (.isub, 1) := fx_dat dk_M_put_IJ 2 rfl
theorem d_M_put_IJ_3 : decode prog_15_method_40_code 3 = .ok (.istore 4, 2) := fx_dat dk_M_put_IJ 3 rfl
theorem d_M_put_IJ_5 : decode prog_15_method_40_code 5 = .ok (.iload 4, 2) := fx_dat dk_M_put_IJ 4 rfl
theorem d_M_put_IJ_7 : decode prog_15_method_40_code 7 = .ok (.ifCond .lt 25, 3) := fx_dat dk_M_put_IJ 5 rfl
theorem d_M_put_IJ_10 : decode prog_15_method_40_code 10 = .ok (.aload_n 0, 1) := fx_dat dk_M_put_IJ 6 rfl
theorem d_M_put_IJ_11 : decode prog_15_method_40_code 11 = .ok (.lload_n 2, 1) := fx_dat dk_M_put_IJ 7 rfl
theorem d_M_put_IJ_12 : decode prog_15_method_40_code 12 = .ok (.bipush 8, 2) := fx_dat dk_M_put_IJ 8 rfl
theorem d_M_put_IJ_14 : decode prog_15_method_40_code 14 = .ok (.iload 4, 2) := fx_dat dk_M_put_IJ 9 rfl
theorem d_M_put_IJ_16 : decode prog_15_method_40_code 16 = .ok (.imul, 1) := fx_dat dk_M_put_IJ 10 rfl
theorem d_M_put_IJ_17 : decode prog_15_method_40_code 17 = .ok (.lshr, 1) := fx_dat dk_M_put_IJ 11 rfl
theorem d_M_put_IJ_18 : decode prog_15_method_40_code 18 = .ok (.ldc2_w 138, 3) := fx_dat dk_M_put_IJ 12 rfl
theorem d_M_put_IJ_21 : decode prog_15_method_40_code 21 = .ok (.land, 1) := fx_dat dk_M_put_IJ 13 rfl
theorem d_M_put_IJ_22 : decode prog_15_method_40_code 22 = .ok (.l2i, 1) := fx_dat dk_M_put_IJ 14 rfl
theorem d_M_put_IJ_23 : decode prog_15_method_40_code 23 = .ok (.invokevirtual 295, 3) := fx_dat dk_M_put_IJ 15 rfl
theorem d_M_put_IJ_26 : decode prog_15_method_40_code 26 = .ok (.iinc 4 (-1), 3) := fx_dat dk_M_put_IJ 16 rfl
theorem d_M_put_IJ_29 : decode prog_15_method_40_code 29 = .ok (.goto (-24), 3) := fx_dat dk_M_put_IJ 17 rfl
theorem d_M_put_IJ_32 : decode prog_15_method_40_code 32 = .ok (.return_, 1) := fx_dat dk_M_put_IJ 18 rfl
def m_M_put_IJ_5_b (Q : AH → Prop) (X5 : Int32 × AH → Prop) (r0 : Nat) (w2 : Int64) (x4 : Int32) (h : AH) : Prop := (x4 < 0 → Q h) ∧ (¬ x4 < 0 → hp_k h r0 = 13 ∧ m_M_put_I (fun h1 => fx_ext h h1 → ∀ v1 : Int32, v1 = (x4 + (-1 : Int32)) → X5 (v1, h1)) r0 ((((sh_lr w2 ((8 : Int32) * x4)) &&& (255 : Int64))).toInt32) h)
def m_M_put_IJ_5 (Q : AH → Prop) (r0 : Nat) (w2 : Int64) (x4 : Int32) (h : AH) : Prop := fx_loop (fun (X5 : Int32 × AH → Prop) (st : Int32 × AH) => m_M_put_IJ_5_b Q X5 r0 w2 st.1 st.2) (x4, h)
def m_M_put_IJ (Q : AH → Prop) (r0 : Nat) (x1 : Int32) (w2 : Int64) (h : AH) : Prop := ∀ v1 : Int32, v1 = (x1 - (1 : Int32)) → m_M_put_IJ_5 Q r0 w2 v1 h
theorem b_M_put_IJ_5 {p : Program} {l : Launch} {e : Env} {R : Room} {s : State} {m : MethodId} {args : Array Value} {below : List Frame} {meth : Method} {c : Code} {D : DD} {h0 : AH} {Q : AH → Prop} (C : fx_CX D y_M_put_IJ prog_15_method_40_code 5 1 13 (none) [] h0 p R s m meth c) (hl : l.flags = flags0) (r0 : Nat) (w2 : Int64) (x4 : Int32) (h : AH) (hw : m_M_put_IJ_5 Q r0 w2 x4 h) : ∀ (ls : Array Slot) (H : Heap) (locs : List Loc) (cells slots : Nat), lv_has ls 5 [(0, .ref r0), (2, .long w2), (4, .int x4)] → fx_F D h0 h H locs cells slots → W p l e R s m args below meth c H locs cells slots (fx_Z D below s h0 (fx_oV Q fx_no)) (F0 m 5 ls []) := by
  refine fx_loop.use hw (fun st => ∀ (ls : Array Slot) (H : Heap) (locs : List Loc) (cells slots : Nat), lv_has ls 5 [(0, .ref r0), (2, .long w2), (4, .int st.1)] → fx_F D h0 st.2 H locs cells slots → W p l e R s m args below meth c H locs cells slots (fx_Z D below s h0 (fx_oV Q fx_no)) (F0 m 5 ls [])) (fun X5 st hX5 hw => ?_)
  obtain ⟨x4, h⟩ := st
  replace hw : m_M_put_IJ_5_b Q X5 r0 w2 x4 h := hw
  unfold m_M_put_IJ_5_b at hw
  intro ls H locs cells slots hv F
  refine lv_iload C.ex C.by d_M_put_IJ_5 (lv_at hv 2 rfl) ?_
  refine lv_if_lt C.ex C.by d_M_put_IJ_7 rfl (fun hc => ?_) (fun hc => ?_)
  · replace hw := hw.1 hc
    exact fx_vret C F d_M_put_IJ_32 (Or.inl ⟨rfl, hw⟩)
  · replace hw := hw.2 hc
    refine lv_aload_n C.ex C.by d_M_put_IJ_10 rfl (lv_at hv 0 rfl) ?_
    refine lv_lload_n C.ex C.by d_M_put_IJ_11 rfl (lv_at hv 1 rfl) ?_
    refine lv_bipush (v := (8 : Int32)) C.ex C.by d_M_put_IJ_12 (by decide) ?_
    refine lv_iload C.ex C.by d_M_put_IJ_14 (lv_at hv 2 rfl) ?_
    refine lv_imul C.ex C.by d_M_put_IJ_16 ?_
    refine lv_lshr (v := (sh_lr w2 ((8 : Int32) * x4))) C.ex C.by d_M_put_IJ_17 rfl ?_
    refine lv_ldc2 (v := (255 : Int64)) C.ex C.by C.ow (C.tw.at (fx_m7 (List.mem_of_getElem? (i := 0) rfl)) rfl rfl) d_M_put_IJ_18 ?_
    refine lv_land C.ex C.by d_M_put_IJ_21 ?_
    refine lv_l2i (v := ((((sh_lr w2 ((8 : Int32) * x4)) &&& (255 : Int64))).toInt32)) C.ex C.by d_M_put_IJ_22 rfl ?_
    obtain ⟨hk1, hw⟩ := hw
    refine fx_callV C F (c_M_put_I hl hw) hm_M_put_I hi_M_put_I hv.1 (by decide) (Nat.le_of_ble_eq_true rfl) (iv_M_put_I C F lm_M_295 hk1 d_M_put_IJ_23) (fx_out0 _) fx_eno (fun h1 H locs cells slots hw hx1 F => ?_)
    replace hw := hw hx1
    have hk1 := (hx1).k hk1
    let v1 : Int32 := (x4 + (-1 : Int32))
    replace hw := hw v1 rfl
    refine lv_iinc (v := v1) (k := 2) (lv' := [(4, .int v1), (0, .ref r0), (2, .long w2)]) C.ex C.by d_M_put_IJ_26 hv rfl (congrArg (fun z => x4 + z) (by decide)) (by decide) rfl (fun ls hv => ?_)
    refine lv_goto C.ex C.by d_M_put_IJ_29 rfl ?_
    exact hX5 _ hw _ _ _ _ _ (lv_sub hv [1, 2, 0] rfl) F
theorem b_M_put_IJ_0 {p : Program} {l : Launch} {e : Env} {R : Room} {s : State} {m : MethodId} {args : Array Value} {below : List Frame} {meth : Method} {c : Code} {D : DD} {h0 : AH} {Q : AH → Prop} (C : fx_CX D y_M_put_IJ prog_15_method_40_code 5 1 13 (none) [] h0 p R s m meth c) (hl : l.flags = flags0) (r0 : Nat) (x1 : Int32) (w2 : Int64) (h : AH) (hw : m_M_put_IJ Q r0 x1 w2 h) : ∀ (ls : Array Slot) (H : Heap) (locs : List Loc) (cells slots : Nat), lv_has ls 5 [(0, .ref r0), (1, .int x1), (2, .long w2)] → fx_F D h0 h H locs cells slots → W p l e R s m args below meth c H locs cells slots (fx_Z D below s h0 (fx_oV Q fx_no)) (F0 m 0 ls []) := by
  unfold m_M_put_IJ at hw
  intro ls H locs cells slots hv F
  refine lv_iload_n C.ex C.by d_M_put_IJ_0 rfl (lv_at hv 1 rfl) ?_
  refine lv_iconst (v := (1 : Int32)) C.ex C.by d_M_put_IJ_1 (by decide) ?_
  refine lv_isub C.ex C.by d_M_put_IJ_2 ?_
  let v1 : Int32 := (x1 - (1 : Int32))
  replace hw := hw v1 rfl
  refine lv_istore (lv' := [(4, .int v1), (0, .ref r0), (1, .int x1), (2, .long w2)]) C.ex C.by d_M_put_IJ_3 hv (by decide) rfl (fun ls hv => ?_)
  exact b_M_put_IJ_5 C hl _ _ _ _ hw _ _ _ _ _ (lv_sub hv [1, 3, 0] rfl) F
theorem hm_M_put_IJ : fx_hd y_M_put_IJ prog_15_method_40_code 5 (none) [] ∈ tables_1 := (fx_m7 (List.mem_of_getElem? (i := 73) rfl))
theorem hi_M_put_IJ : Cond.initialized y_M_put_IJ.cls ∈ tables_1 := (fx_m1 (List.mem_of_getElem? (i := 15) rfl))
theorem c_M_put_IJ {l : Launch} (hl : l.flags = flags0) {D : DD} {Q : AH → Prop} {r0 : Nat} {x1 : Int32} {w2 : Int64} {h : AH} (hw : m_M_put_IJ Q r0 x1 w2 h) : fx_Mt l D y_M_put_IJ (fx_hd y_M_put_IJ prog_15_method_40_code 5 (none) []) 1 13 [.ref r0, .int x1, .long w2] h (fx_oV Q fx_no) := by
  refine fx_ofW (plainFor_of_name (by decide)) (fun p e s m below meth c C F => ?_)
  have hv := lv_entry ([.ref r0, .int x1, .long w2]) (n := 5) (Nat.le_of_ble_eq_true rfl)
  rw [lg_entry_eq]
  generalize (lg_sl ([.ref r0, .int x1, .long w2]) ++ List.replicate (5 - (lg_sl ([.ref r0, .int x1, .long w2])).length) Slot.unset).toArray = ls at hv ⊢
  have hv : lv_has ls 5 [(0, .ref r0), (1, .int x1), (2, .long w2)] := hv
  exact b_M_put_IJ_0 C hl _ _ _ _ hw _ _ _ _ _ hv F
/-! ChainJudgeModel.wrap(II)V: frames 1, words 13 -/
abbrev y_M_wrap : MethodName := ⟨"ChainJudgeModel", "wrap", "(II)V"⟩
def dl_M_wrap : List (Nat × Instr × Nat) := [(0, .aload_n 0, 1), (1, .getfield 292, 3), (4, .iload_n 2, 1), (5, .isub, 1), (6, .istore_n 3, 1), (7, .iload_n 3, 1), (8, .sipush 128, 3), (11, .if_icmp .ge 7, 3), (14, .iconst 0, 1), (15, .goto 25, 3), (18, .iload_n 3, 1), (19, .sipush 256, 3), (22, .if_icmp .ge 7, 3), (25, .iconst 1, 1), (26, .goto 14, 3), (29, .iload_n 3, 1), (30, .ldc 7, 2), (32, .if_icmp .ge 7, 3), (35, .iconst 2, 1), (36, .goto 4, 3), (39, .iconst 3, 1), (40, .istore 4, 2), (42, .aload_n 0, 1), (43, .getfield 292, 3), (46, .iconst 1, 1), (47, .isub, 1), (48, .istore 5, 2), (50, .iload 5, 2), (52, .iload_n 2, 1), (53, .if_icmp .lt 28, 3), (56, .aload_n 0, 1), (57, .getfield 48, 3), (60, .iload 5, 2), (62, .iconst 2, 1), (63, .iadd, 1), (64, .iload 4, 2), (66, .iadd, 1), (67, .aload_n 0, 1), (68, .getfield 48, 3), (71, .iload 5, 2), (73, .baload, 1), (74, .bastore, 1), (75, .iinc 5 (-1), 3), (78, .goto (-28), 3), (81, .aload_n 0, 1), (82, .iload_n 2, 1), (83, .putfield 292, 3), (86, .aload_n 0, 1), (87, .iload_n 1, 1), (88, .invokevirtual 295, 3), (91, .aload_n 0, 1), (92, .iload 4, 2), (94, .ifCond .ne 7, 3), (97, .iload_n 3, 1), (98, .goto 9, 3), (101, .sipush 128, 3), (104, .iload 4, 2), (106, .iadd, 1), (107, .invokevirtual 295, 3), (110, .iload 4, 2), (112, .iconst 1, 1), (113, .isub, 1), (114, .istore 5, 2), (116, .iload 5, 2), (118, .ifCond .lt 24, 3), (121, .aload_n 0, 1), (122, .iload_n 3, 1), (123, .bipush 8, 2), (125, .iload 5, 2), (127, .imul, 1), (128, .ishr, 1), (129, .sipush 255, 3), (132, .iand, 1), (133, .invokevirtual 295, 3), (136, .iinc 5 (-1), 3), (139, .goto (-23), 3), (142, .aload_n 0, 1), (143, .iload_n 2, 1), (144, .iconst 2, 1), (145, .iadd, 1), (146, .iload 4, 2), (148, .iadd, 1), (149, .iload_n 3, 1), (150, .iadd, 1), (151, .putfield 292, 3), (154, .return_, 1)]
theorem dk_M_wrap : fx_dec prog_15_method_41_code dl_M_wrap = true := by decide +kernel
theorem d_M_wrap_0 : decode prog_15_method_41_code 0 = .ok (.aload_n 0, 1) := fx_dat dk_M_wrap 0 rfl
theorem d_M_wrap_1 : decode prog_15_method_41_code 1 = .ok (.getfield 292, 3) := fx_dat dk_M_wrap 1 rfl
theorem d_M_wrap_4 : decode prog_15_method_41_code 4 = .ok (.iload_n 2, 1) := fx_dat dk_M_wrap 2 rfl
theorem d_M_wrap_5 : decode prog_15_method_41_code 5 = .ok (.isub, 1) := fx_dat dk_M_wrap 3 rfl
theorem d_M_wrap_6 : decode prog_15_method_41_code 6 = .ok (.istore_n 3, 1) := fx_dat dk_M_wrap 4 rfl
theorem d_M_wrap_7 : decode prog_15_method_41_code 7 = .ok (.iload_n 3, 1) := fx_dat dk_M_wrap 5 rfl
theorem d_M_wrap_8 : decode prog_15_method_41_code 8 = .ok (.sipush 128, 3) := fx_dat dk_M_wrap 6 rfl
theorem d_M_wrap_11 : decode prog_15_method_41_code 11 = .ok (.if_icmp .ge 7, 3) := fx_dat dk_M_wrap 7 rfl
theorem d_M_wrap_14 : decode prog_15_method_41_code 14 = .ok (.iconst 0, 1) := fx_dat dk_M_wrap 8 rfl
theorem d_M_wrap_15 : decode prog_15_method_41_code 15 = .ok (.goto 25, 3) := fx_dat dk_M_wrap 9 rfl
theorem d_M_wrap_18 : decode prog_15_method_41_code 18 = .ok (.iload_n 3, 1) := fx_dat dk_M_wrap 10 rfl
theorem d_M_wrap_19 : decode prog_15_method_41_code 19 = .ok (.sipush 256, 3) := fx_dat dk_M_wrap 11 rfl
theorem d_M_wrap_22 : decode prog_15_method_41_code 22 = .ok (.if_icmp .ge 7, 3) := fx_dat dk_M_wrap 12 rfl
theorem d_M_wrap_25 : decode prog_15_method_41_code 25 = .ok (.iconst 1, 1) := fx_dat dk_M_wrap 13 rfl
theorem d_M_wrap_26 : decode prog_15_method_41_code 26 = .ok (.goto 14, 3) := fx_dat dk_M_wrap 14 rfl
theorem d_M_wrap_29 : decode prog_15_method_41_code 29 = .ok (.iload_n 3, 1) := fx_dat dk_M_wrap 15 rfl
theorem d_M_wrap_30 : decode prog_15_method_41_code 30 = .ok (.ldc 7, 2) := fx_dat dk_M_wrap 16 rfl
theorem d_M_wrap_32 : decode prog_15_method_41_code 32 = .ok (.if_icmp .ge 7, 3) := fx_dat dk_M_wrap 17 rfl
theorem d_M_wrap_35 : decode prog_15_method_41_code 35 = .ok (.iconst 2, 1) := fx_dat dk_M_wrap 18 rfl
theorem d_M_wrap_36 : decode prog_15_method_41_code 36 = .ok (.goto 4, 3) := fx_dat dk_M_wrap 19 rfl
theorem d_M_wrap_39 : decode prog_15_method_41_code 39 = .ok (.iconst 3, 1) := fx_dat dk_M_wrap 20 rfl
theorem d_M_wrap_40 : decode prog_15_method_41_code 40 = .ok (.istore 4, 2) := fx_dat dk_M_wrap 21 rfl
theorem d_M_wrap_42 : decode prog_15_method_41_code 42 = .ok (.aload_n 0, 1) := fx_dat dk_M_wrap 22 rfl
theorem d_M_wrap_43 : decode prog_15_method_41_code 43 = .ok (.getfield 292, 3) := fx_dat dk_M_wrap 23 rfl
theorem d_M_wrap_46 : decode prog_15_method_41_code 46 = .ok (.iconst 1, 1) := fx_dat dk_M_wrap 24 rfl
theorem d_M_wrap_47 : decode prog_15_method_41_code 47 = .ok (.isub, 1) := fx_dat dk_M_wrap 25 rfl
theorem d_M_wrap_48 : decode prog_15_method_41_code 48 = .ok (.istore 5, 2) := fx_dat dk_M_wrap 26 rfl
theorem d_M_wrap_50 : decode prog_15_method_41_code 50 = .ok (.iload 5, 2) := fx_dat dk_M_wrap 27 rfl
theorem d_M_wrap_52 : decode prog_15_method_41_code 52 = .ok (.iload_n 2, 1) := fx_dat dk_M_wrap 28 rfl
theorem d_M_wrap_53 : decode prog_15_method_41_code 53 = .ok (.if_icmp .lt 28, 3) := fx_dat dk_M_wrap 29 rfl
theorem d_M_wrap_56 : decode prog_15_method_41_code 56 = .ok (.aload_n 0, 1) := fx_dat dk_M_wrap 30 rfl
theorem d_M_wrap_57 : decode prog_15_method_41_code 57 = .ok (.getfield 48, 3) := fx_dat dk_M_wrap 31 rfl
theorem d_M_wrap_60 : decode prog_15_method_41_code 60 = .ok (.iload 5, 2) := fx_dat dk_M_wrap 32 rfl
theorem d_M_wrap_62 : decode prog_15_method_41_code 62 = .ok (.iconst 2, 1) := fx_dat dk_M_wrap 33 rfl
theorem d_M_wrap_63 : decode prog_15_method_41_code 63 = .ok (.iadd, 1) := fx_dat dk_M_wrap 34 rfl
theorem d_M_wrap_64 : decode prog_15_method_41_code 64 = .ok (.iload 4, 2) := fx_dat dk_M_wrap 35 rfl
theorem d_M_wrap_66 : decode prog_15_method_41_code 66 = .ok (.iadd, 1) := fx_dat dk_M_wrap 36 rfl
theorem d_M_wrap_67 : decode prog_15_method_41_code 67 = .ok (.aload_n 0, 1) := fx_dat dk_M_wrap 37 rfl
theorem d_M_wrap_68 : decode prog_15_method_41_code 68 = .ok (.getfield 48, 3) := fx_dat dk_M_wrap 38 rfl
theorem d_M_wrap_71 : decode prog_15_method_41_code 71 = .ok (.iload 5, 2) := fx_dat dk_M_wrap 39 rfl
theorem d_M_wrap_73 : decode prog_15_method_41_code 73 = .ok (.baload, 1) := fx_dat dk_M_wrap 40 rfl
theorem d_M_wrap_74 : decode prog_15_method_41_code 74 = .ok (.bastore, 1) := fx_dat dk_M_wrap 41 rfl
theorem d_M_wrap_75 : decode prog_15_method_41_code 75 = .ok (.iinc 5 (-1), 3) := fx_dat dk_M_wrap 42 rfl
theorem d_M_wrap_78 : decode prog_15_method_41_code 78 = .ok (.goto (-28), 3) := fx_dat dk_M_wrap 43 rfl
theorem d_M_wrap_81 : decode prog_15_method_41_code 81 = .ok (.aload_n 0, 1) := fx_dat dk_M_wrap 44 rfl
theorem d_M_wrap_82 : decode prog_15_method_41_code 82 = .ok (.iload_n 2, 1) := fx_dat dk_M_wrap 45 rfl
theorem d_M_wrap_83 : decode prog_15_method_41_code 83 = .ok (.putfield 292, 3) := fx_dat dk_M_wrap 46 rfl
theorem d_M_wrap_86 : decode prog_15_method_41_code 86 = .ok (.aload_n 0, 1) := fx_dat dk_M_wrap 47 rfl
theorem d_M_wrap_87 : decode prog_15_method_41_code 87 = .ok (.iload_n 1, 1) := fx_dat dk_M_wrap 48 rfl
theorem d_M_wrap_88 : decode prog_15_method_41_code 88 = .ok (.invokevirtual 295, 3) := fx_dat dk_M_wrap 49 rfl
theorem d_M_wrap_91 : decode prog_15_method_41_code 91 = .ok (.aload_n 0, 1) := fx_dat dk_M_wrap 50 rfl
theorem d_M_wrap_92 : decode prog_15_method_41_code 92 = .ok (.iload 4, 2) := fx_dat dk_M_wrap 51 rfl
theorem d_M_wrap_94 : decode prog_15_method_41_code 94 = .ok (.ifCond .ne 7, 3) := fx_dat dk_M_wrap 52 rfl
theorem d_M_wrap_97 : decode prog_15_method_41_code 97 = .ok (.iload_n 3, 1) := fx_dat dk_M_wrap 53 rfl
theorem d_M_wrap_98 : decode prog_15_method_41_code 98 = .ok (.goto 9, 3) := fx_dat dk_M_wrap 54 rfl
theorem d_M_wrap_101 : decode prog_15_method_41_code 101 = .ok (.sipush 128, 3) := fx_dat dk_M_wrap 55 rfl
theorem d_M_wrap_104 : decode prog_15_method_41_code 104 = .ok (.iload 4, 2) := fx_dat dk_M_wrap 56 rfl
theorem d_M_wrap_106 : decode prog_15_method_41_code 106 = .ok (.iadd, 1) := fx_dat dk_M_wrap 57 rfl
theorem d_M_wrap_107 : decode prog_15_method_41_code 107 = .ok (.invokevirtual 295, 3) := fx_dat dk_M_wrap 58 rfl
theorem d_M_wrap_110 : decode prog_15_method_41_code 110 = .ok (.iload 4, 2) := fx_dat dk_M_wrap 59 rfl
theorem d_M_wrap_112 : decode prog_15_method_41_code 112 = .ok (.iconst 1, 1) := fx_dat dk_M_wrap 60 rfl
theorem d_M_wrap_113 : decode prog_15_method_41_code 113 = .ok (.isub, 1) := fx_dat dk_M_wrap 61 rfl
theorem d_M_wrap_114 : decode prog_15_method_41_code 114 = .ok (.istore 5, 2) := fx_dat dk_M_wrap 62 rfl
theorem d_M_wrap_116 : decode prog_15_method_41_code 116 = .ok (.iload 5, 2) := fx_dat dk_M_wrap 63 rfl
theorem d_M_wrap_118 : decode prog_15_method_41_code 118 = .ok (.ifCond .lt 24, 3) := fx_dat dk_M_wrap 64 rfl
theorem d_M_wrap_121 : decode prog_15_method_41_code 121 = .ok (.aload_n 0, 1) := fx_dat dk_M_wrap 65 rfl
theorem d_M_wrap_122 : decode prog_15_method_41_code 122 = .ok (.iload_n 3, 1) := fx_dat dk_M_wrap 66 rfl
theorem d_M_wrap_123 : decode prog_15_method_41_code 123 = .ok (.bipush 8, 2) := fx_dat dk_M_wrap 67 rfl
theorem d_M_wrap_125 : decode prog_15_method_41_code 125 = .ok (.iload 5, 2) := fx_dat dk_M_wrap 68 rfl
theorem d_M_wrap_127 : decode prog_15_method_41_code 127 = .ok (.imul, 1) := fx_dat dk_M_wrap 69 rfl
theorem d_M_wrap_128 : decode prog_15_method_41_code 128 = .ok (.ishr, 1) := fx_dat dk_M_wrap 70 rfl
theorem d_M_wrap_129 : decode prog_15_method_41_code 129 = .ok (.sipush 255, 3) := fx_dat dk_M_wrap 71 rfl
theorem d_M_wrap_132 : decode prog_15_method_41_code 132 = .ok (.iand, 1) := fx_dat dk_M_wrap 72 rfl
theorem d_M_wrap_133 : decode prog_15_method_41_code 133 = .ok (.invokevirtual 295, 3) := fx_dat dk_M_wrap 73 rfl
theorem d_M_wrap_136 : decode prog_15_method_41_code 136 = .ok (.iinc 5 (-1), 3) := fx_dat dk_M_wrap 74 rfl
theorem d_M_wrap_139 : decode prog_15_method_41_code 139 = .ok (.goto (-23), 3) := fx_dat dk_M_wrap 75 rfl
theorem d_M_wrap_142 : decode prog_15_method_41_code 142 = .ok (.aload_n 0, 1) := fx_dat dk_M_wrap 76 rfl
theorem d_M_wrap_143 : decode prog_15_method_41_code 143 = .ok (.iload_n 2, 1) := fx_dat dk_M_wrap 77 rfl
theorem d_M_wrap_144 : decode prog_15_method_41_code 144 = .ok (.iconst 2, 1) := fx_dat dk_M_wrap 78 rfl
theorem d_M_wrap_145 : decode prog_15_method_41_code 145 = .ok (.iadd, 1) := fx_dat dk_M_wrap 79 rfl
theorem d_M_wrap_146 : decode prog_15_method_41_code 146 = .ok (.iload 4, 2) := fx_dat dk_M_wrap 80 rfl
theorem d_M_wrap_148 : decode prog_15_method_41_code 148 = .ok (.iadd, 1) := fx_dat dk_M_wrap 81 rfl
theorem d_M_wrap_149 : decode prog_15_method_41_code 149 = .ok (.iload_n 3, 1) := fx_dat dk_M_wrap 82 rfl
theorem d_M_wrap_150 : decode prog_15_method_41_code 150 = .ok (.iadd, 1) := fx_dat dk_M_wrap 83 rfl
theorem d_M_wrap_151 : decode prog_15_method_41_code 151 = .ok (.putfield 292, 3) := fx_dat dk_M_wrap 84 rfl
theorem d_M_wrap_154 : decode prog_15_method_41_code 154 = .ok (.return_, 1) := fx_dat dk_M_wrap 85 rfl
def m_M_wrap_116_b (Q : AH → Prop) (X116 : Int32 × AH → Prop) (r0 : Nat) (x2 : Int32) (x3 : Int32) (x4 : Int32) (x5 : Int32) (h : AH) : Prop := (x5 < 0 → hp_k h r0 = 13 ∧ ∀ h1 : AH, h1 = up_I h r0 47 (((x2 + (2 : Int32)) + x4) + x3) → Q h1) ∧ (¬ x5 < 0 → hp_k h r0 = 13 ∧ m_M_put_I (fun h2 => fx_ext h h2 → ∀ v1 : Int32, v1 = (x5 + (-1 : Int32)) → X116 (v1, h2)) r0 ((x3 >>> (((8 : Int32) * x5) &&& 31)) &&& (255 : Int32)) h)
def m_M_wrap_116 (Q : AH → Prop) (r0 : Nat) (x2 : Int32) (x3 : Int32) (x4 : Int32) (x5 : Int32) (h : AH) : Prop := fx_loop (fun (X116 : Int32 × AH → Prop) (st : Int32 × AH) => m_M_wrap_116_b Q X116 r0 x2 x3 x4 st.1 st.2) (x5, h)
def m_M_wrap_107 (Q : AH → Prop) (r0 : Nat) (x2 : Int32) (x3 : Int32) (x4 : Int32) (sr0 : Nat) (sx1 : Int32) (h : AH) : Prop := hp_k h sr0 = 13 ∧ m_M_put_I (fun h1 => fx_ext h h1 → ∀ v1 : Int32, v1 = (x4 - (1 : Int32)) → m_M_wrap_116 Q r0 x2 x3 x4 v1 h1) sr0 sx1 h
def m_M_wrap_50_b (Q : AH → Prop) (X50 : Int32 × AH → Prop) (r0 : Nat) (x1 : Int32) (x2 : Int32) (x3 : Int32) (x4 : Int32) (x5 : Int32) (h : AH) : Prop := (x5 < x2 → hp_k h r0 = 13 ∧ ∀ h1 : AH, h1 = up_I h r0 47 x2 → m_M_put_I (fun h2 => fx_ext h1 h2 → (¬ x4 = 0 → m_M_wrap_107 Q r0 x2 x3 x4 r0 ((128 : Int32) + x4) h2) ∧ (x4 = 0 → m_M_wrap_107 Q r0 x2 x3 x4 r0 x3 h2)) r0 x1 h1) ∧ (¬ x5 < x2 → hp_k h r0 = 13 ∧ ∃ b1, hp_R h r0 46 = some b1 ∧ bk (hp_k h b1) ∧ vp_in x5 (hp_n h b1) ∧ (by8 (hp_I h b1 x5.toNatClampNeg) → hp_k h b1 = 101 ∧ vp_in ((x5 + (2 : Int32)) + x4) (hp_n h b1) ∧ ∀ h3 : AH, h3 = up_I h b1 (((x5 + (2 : Int32)) + x4)).toNatClampNeg ((hp_I h b1 x5.toNatClampNeg)).toInt8.toInt32 → ∀ v1 : Int32, v1 = (x5 + (-1 : Int32)) → X50 (v1, h3)))
def m_M_wrap_50 (Q : AH → Prop) (r0 : Nat) (x1 : Int32) (x2 : Int32) (x3 : Int32) (x4 : Int32) (x5 : Int32) (h : AH) : Prop := fx_loop (fun (X50 : Int32 × AH → Prop) (st : Int32 × AH) => m_M_wrap_50_b Q X50 r0 x1 x2 x3 x4 st.1 st.2) (x5, h)
def m_M_wrap_40 (Q : AH → Prop) (r0 : Nat) (x1 : Int32) (x2 : Int32) (x3 : Int32) (sx0 : Int32) (h : AH) : Prop := hp_k h r0 = 13 ∧ ∀ v1 : Int32, v1 = ((hp_I h r0 47) - (1 : Int32)) → m_M_wrap_50 Q r0 x1 x2 x3 sx0 v1 h
def m_M_wrap (Q : AH → Prop) (r0 : Nat) (x1 : Int32) (x2 : Int32) (h : AH) : Prop := hp_k h r0 = 13 ∧ ∀ v1 : Int32, v1 = ((hp_I h r0 47) - x2) → ((128 : Int32) ≤ v1 → ((256 : Int32) ≤ v1 → ((65536 : Int32) ≤ v1 → m_M_wrap_40 Q r0 x1 x2 v1 (3 : Int32) h) ∧ (¬ (65536 : Int32) ≤ v1 → m_M_wrap_40 Q r0 x1 x2 v1 (2 : Int32) h)) ∧ (¬ (256 : Int32) ≤ v1 → m_M_wrap_40 Q r0 x1 x2 v1 (1 : Int32) h)) ∧ (¬ (128 : Int32) ≤ v1 → m_M_wrap_40 Q r0 x1 x2 v1 (0 : Int32) h)
theorem b_M_wrap_116 {p : Program} {l : Launch} {e : Env} {R : Room} {s : State} {m : MethodId} {args : Array Value} {below : List Frame} {meth : Method} {c : Code} {D : DD} {h0 : AH} {Q : AH → Prop} (C : fx_CX D y_M_wrap prog_15_method_41_code 6 1 13 (none) [] h0 p R s m meth c) (hl : l.flags = flags0) (r0 : Nat) (x2 : Int32) (x3 : Int32) (x4 : Int32) (x5 : Int32) (h : AH) (hw : m_M_wrap_116 Q r0 x2 x3 x4 x5 h) : ∀ (ls : Array Slot) (H : Heap) (locs : List Loc) (cells slots : Nat), lv_has ls 6 [(0, .ref r0), (2, .int x2), (3, .int x3), (4, .int x4), (5, .int x5)] → fx_F D h0 h H locs cells slots → W p l e R s m args below meth c H locs cells slots (fx_Z D below s h0 (fx_oV Q fx_no)) (F0 m 116 ls []) := by
  refine fx_loop.use hw (fun st => ∀ (ls : Array Slot) (H : Heap) (locs : List Loc) (cells slots : Nat), lv_has ls 6 [(0, .ref r0), (2, .int x2), (3, .int x3), (4, .int x4), (5, .int st.1)] → fx_F D h0 st.2 H locs cells slots → W p l e R s m args below meth c H locs cells slots (fx_Z D below s h0 (fx_oV Q fx_no)) (F0 m 116 ls [])) (fun X116 st hX116 hw => ?_)
  obtain ⟨x5, h⟩ := st
  replace hw : m_M_wrap_116_b Q X116 r0 x2 x3 x4 x5 h := hw
  unfold m_M_wrap_116_b at hw
  intro ls H locs cells slots hv F
  refine lv_iload C.ex C.by d_M_wrap_116 (lv_at hv 4 rfl) ?_
  refine lv_if_lt C.ex C.by d_M_wrap_118 rfl (fun hc => ?_) (fun hc => ?_)
  · replace hw := hw.1 hc
    refine lv_aload_n C.ex C.by d_M_wrap_142 rfl (lv_at hv 0 rfl) ?_
    refine lv_iload_n C.ex C.by d_M_wrap_143 rfl (lv_at hv 1 rfl) ?_
    refine lv_iconst (v := (2 : Int32)) C.ex C.by d_M_wrap_144 (by decide) ?_
    refine lv_iadd C.ex C.by d_M_wrap_145 ?_
    refine lv_iload C.ex C.by d_M_wrap_146 (lv_at hv 3 rfl) ?_
    refine lv_iadd C.ex C.by d_M_wrap_148 ?_
    refine lv_iload_n C.ex C.by d_M_wrap_149 rfl (lv_at hv 2 rfl) ?_
    refine lv_iadd C.ex C.by d_M_wrap_150 ?_
    obtain ⟨hk1, hw⟩ := hw
    let h1 : AH := up_I h r0 47 (((x2 + (2 : Int32)) + x4) + x3)
    replace hw := hw h1 rfl
    refine fx_putI C F lf_M_292 hk1 rfl rfl (fx_mayF.no rfl rfl) d_M_wrap_151 (fun H locs (F : fx_F D h0 h1 H locs _ _) => ?_)
    exact fx_vret C F d_M_wrap_154 (Or.inl ⟨rfl, hw⟩)
  · replace hw := hw.2 hc
    refine lv_aload_n C.ex C.by d_M_wrap_121 rfl (lv_at hv 0 rfl) ?_
    refine lv_iload_n C.ex C.by d_M_wrap_122 rfl (lv_at hv 2 rfl) ?_
    refine lv_bipush (v := (8 : Int32)) C.ex C.by d_M_wrap_123 (by decide) ?_
    refine lv_iload C.ex C.by d_M_wrap_125 (lv_at hv 4 rfl) ?_
    refine lv_imul C.ex C.by d_M_wrap_127 ?_
    refine lv_ishr C.ex C.by d_M_wrap_128 ?_
    refine lv_sipush (v := (255 : Int32)) C.ex C.by d_M_wrap_129 (by decide) ?_
    refine lv_iand C.ex C.by d_M_wrap_132 ?_
    obtain ⟨hk2, hw⟩ := hw
    refine fx_callV C F (c_M_put_I hl hw) hm_M_put_I hi_M_put_I hv.1 (by decide) (Nat.le_of_ble_eq_true rfl) (iv_M_put_I C F lm_M_295 hk2 d_M_wrap_133) (fx_out0 _) fx_eno (fun h2 H locs cells slots hw hx1 F => ?_)
    replace hw := hw hx1
    have hk2 := (hx1).k hk2
    let v1 : Int32 := (x5 + (-1 : Int32))
    replace hw := hw v1 rfl
    refine lv_iinc (v := v1) (k := 4) (lv' := [(5, .int v1), (0, .ref r0), (2, .int x2), (3, .int x3), (4, .int x4)]) C.ex C.by d_M_wrap_136 hv rfl (congrArg (fun z => x5 + z) (by decide)) (by decide) rfl (fun ls hv => ?_)
    refine lv_goto C.ex C.by d_M_wrap_139 rfl ?_
    exact hX116 _ hw _ _ _ _ _ (lv_sub hv [1, 2, 3, 4, 0] rfl) F
theorem b_M_wrap_107 {p : Program} {l : Launch} {e : Env} {R : Room} {s : State} {m : MethodId} {args : Array Value} {below : List Frame} {meth : Method} {c : Code} {D : DD} {h0 : AH} {Q : AH → Prop} (C : fx_CX D y_M_wrap prog_15_method_41_code 6 1 13 (none) [] h0 p R s m meth c) (hl : l.flags = flags0) (r0 : Nat) (x2 : Int32) (x3 : Int32) (x4 : Int32) (sr0 : Nat) (sx1 : Int32) (h : AH) (hw : m_M_wrap_107 Q r0 x2 x3 x4 sr0 sx1 h) : ∀ (ls : Array Slot) (H : Heap) (locs : List Loc) (cells slots : Nat), lv_has ls 6 [(0, .ref r0), (2, .int x2), (3, .int x3), (4, .int x4)] → fx_F D h0 h H locs cells slots → W p l e R s m args below meth c H locs cells slots (fx_Z D below s h0 (fx_oV Q fx_no)) (F0 m 107 ls [.int sx1, .ref sr0]) := by
  unfold m_M_wrap_107 at hw
  intro ls H locs cells slots hv F
  obtain ⟨hk1, hw⟩ := hw
  refine fx_callV C F (c_M_put_I hl hw) hm_M_put_I hi_M_put_I hv.1 (by decide) (Nat.le_of_ble_eq_true rfl) (iv_M_put_I C F lm_M_295 hk1 d_M_wrap_107) (fx_out0 _) fx_eno (fun h1 H locs cells slots hw hx1 F => ?_)
  replace hw := hw hx1
  have hk1 := (hx1).k hk1
  refine lv_iload C.ex C.by d_M_wrap_110 (lv_at hv 3 rfl) ?_
  refine lv_iconst (v := (1 : Int32)) C.ex C.by d_M_wrap_112 (by decide) ?_
  refine lv_isub C.ex C.by d_M_wrap_113 ?_
  let v1 : Int32 := (x4 - (1 : Int32))
  replace hw := hw v1 rfl
  refine lv_istore (lv' := [(5, .int v1), (0, .ref r0), (2, .int x2), (3, .int x3), (4, .int x4)]) C.ex C.by d_M_wrap_114 hv (by decide) rfl (fun ls hv => ?_)
  exact b_M_wrap_116 C hl _ _ _ _ _ _ hw _ _ _ _ _ (lv_sub hv [1, 2, 3, 4, 0] rfl) F
theorem b_M_wrap_50 {p : Program} {l : Launch} {e : Env} {R : Room} {s : State} {m : MethodId} {args : Array Value} {below : List Frame} {meth : Method} {c : Code} {D : DD} {h0 : AH} {Q : AH → Prop} (C : fx_CX D y_M_wrap prog_15_method_41_code 6 1 13 (none) [] h0 p R s m meth c) (hl : l.flags = flags0) (r0 : Nat) (x1 : Int32) (x2 : Int32) (x3 : Int32) (x4 : Int32) (x5 : Int32) (h : AH) (hw : m_M_wrap_50 Q r0 x1 x2 x3 x4 x5 h) : ∀ (ls : Array Slot) (H : Heap) (locs : List Loc) (cells slots : Nat), lv_has ls 6 [(0, .ref r0), (1, .int x1), (2, .int x2), (3, .int x3), (4, .int x4), (5, .int x5)] → fx_F D h0 h H locs cells slots → W p l e R s m args below meth c H locs cells slots (fx_Z D below s h0 (fx_oV Q fx_no)) (F0 m 50 ls []) := by
  refine fx_loop.use hw (fun st => ∀ (ls : Array Slot) (H : Heap) (locs : List Loc) (cells slots : Nat), lv_has ls 6 [(0, .ref r0), (1, .int x1), (2, .int x2), (3, .int x3), (4, .int x4), (5, .int st.1)] → fx_F D h0 st.2 H locs cells slots → W p l e R s m args below meth c H locs cells slots (fx_Z D below s h0 (fx_oV Q fx_no)) (F0 m 50 ls [])) (fun X50 st hX50 hw => ?_)
  obtain ⟨x5, h⟩ := st
  replace hw : m_M_wrap_50_b Q X50 r0 x1 x2 x3 x4 x5 h := hw
  unfold m_M_wrap_50_b at hw
  intro ls H locs cells slots hv F
  refine lv_iload C.ex C.by d_M_wrap_50 (lv_at hv 5 rfl) ?_
  refine lv_iload_n C.ex C.by d_M_wrap_52 rfl (lv_at hv 2 rfl) ?_
  refine lv_icmp_lt C.ex C.by d_M_wrap_53 rfl (fun hc => ?_) (fun hc => ?_)
  · replace hw := hw.1 hc
    refine lv_aload_n C.ex C.by d_M_wrap_81 rfl (lv_at hv 0 rfl) ?_
    refine lv_iload_n C.ex C.by d_M_wrap_82 rfl (lv_at hv 2 rfl) ?_
    obtain ⟨hk1, hw⟩ := hw
    let h1 : AH := up_I h r0 47 x2
    replace hw := hw h1 rfl
    refine fx_putI C F lf_M_292 hk1 rfl rfl (fx_mayF.no rfl rfl) d_M_wrap_83 (fun H locs (F : fx_F D h0 h1 H locs _ _) => ?_)
    refine lv_aload_n C.ex C.by d_M_wrap_86 rfl (lv_at hv 0 rfl) ?_
    refine lv_iload_n C.ex C.by d_M_wrap_87 rfl (lv_at hv 1 rfl) ?_
    refine fx_callV C F (c_M_put_I hl hw) hm_M_put_I hi_M_put_I hv.1 (by decide) (Nat.le_of_ble_eq_true rfl) (iv_M_put_I C F lm_M_295 hk1 d_M_wrap_88) (fx_out0 _) fx_eno (fun h2 H locs cells slots hw hx1 F => ?_)
    replace hw := hw hx1
    have hk1 := (hx1).k hk1
    refine lv_aload_n C.ex C.by d_M_wrap_91 rfl (lv_at hv 0 rfl) ?_
    refine lv_iload C.ex C.by d_M_wrap_92 (lv_at hv 4 rfl) ?_
    refine lv_if_ne C.ex C.by d_M_wrap_94 rfl (fun hc => ?_) (fun hc => ?_)
    · replace hw := hw.1 hc
      refine lv_sipush (v := (128 : Int32)) C.ex C.by d_M_wrap_101 (by decide) ?_
      refine lv_iload C.ex C.by d_M_wrap_104 (lv_at hv 4 rfl) ?_
      refine lv_iadd C.ex C.by d_M_wrap_106 ?_
      exact b_M_wrap_107 C hl _ _ _ _ _ _ _ hw _ _ _ _ _ (lv_sub hv [0, 2, 3, 4] rfl) F
    · replace hw := hw.2 hc
      refine lv_iload_n C.ex C.by d_M_wrap_97 rfl (lv_at hv 3 rfl) ?_
      refine lv_goto C.ex C.by d_M_wrap_98 rfl ?_
      exact b_M_wrap_107 C hl _ _ _ _ _ _ _ hw _ _ _ _ _ (lv_sub hv [0, 2, 3, 4] rfl) F
  · replace hw := hw.2 hc
    refine lv_aload_n C.ex C.by d_M_wrap_56 rfl (lv_at hv 0 rfl) ?_
    obtain ⟨hk2, hw⟩ := hw
    obtain ⟨b1, hb1, hw⟩ := hw
    refine fx_getR C F lf_M_48 hk2 rfl hb1 d_M_wrap_57 ?_
    refine lv_iload C.ex C.by d_M_wrap_60 (lv_at hv 5 rfl) ?_
    refine lv_iconst (v := (2 : Int32)) C.ex C.by d_M_wrap_62 (by decide) ?_
    refine lv_iadd C.ex C.by d_M_wrap_63 ?_
    refine lv_iload C.ex C.by d_M_wrap_64 (lv_at hv 4 rfl) ?_
    refine lv_iadd C.ex C.by d_M_wrap_66 ?_
    refine lv_aload_n C.ex C.by d_M_wrap_67 rfl (lv_at hv 0 rfl) ?_
    refine fx_getR C F lf_M_48 hk2 rfl hb1 d_M_wrap_68 ?_
    refine lv_iload C.ex C.by d_M_wrap_71 (lv_at hv 5 rfl) ?_
    obtain ⟨hk3, hw⟩ := hw
    obtain ⟨hi1, hw⟩ := hw
    refine fx_bald C F hk3 hi1 d_M_wrap_73 (fun h8 => ?_)
    replace hw := hw h8
    obtain ⟨hk4, hw⟩ := hw
    obtain ⟨hi2, hw⟩ := hw
    let h3 : AH := up_I h b1 (((x5 + (2 : Int32)) + x4)).toNatClampNeg ((hp_I h b1 x5.toNatClampNeg)).toInt8.toInt32
    replace hw := hw h3 rfl
    refine fx_bast C F hk4 hi2 d_M_wrap_74 (fun H locs (F : fx_F D h0 h3 H locs _ _) => ?_)
    let v1 : Int32 := (x5 + (-1 : Int32))
    replace hw := hw v1 rfl
    refine lv_iinc (v := v1) (k := 5) (lv' := [(5, .int v1), (0, .ref r0), (1, .int x1), (2, .int x2), (3, .int x3), (4, .int x4)]) C.ex C.by d_M_wrap_75 hv rfl (congrArg (fun z => x5 + z) (by decide)) (by decide) rfl (fun ls hv => ?_)
    refine lv_goto C.ex C.by d_M_wrap_78 rfl ?_
    exact hX50 _ hw _ _ _ _ _ (lv_sub hv [1, 2, 3, 4, 5, 0] rfl) F
theorem b_M_wrap_40 {p : Program} {l : Launch} {e : Env} {R : Room} {s : State} {m : MethodId} {args : Array Value} {below : List Frame} {meth : Method} {c : Code} {D : DD} {h0 : AH} {Q : AH → Prop} (C : fx_CX D y_M_wrap prog_15_method_41_code 6 1 13 (none) [] h0 p R s m meth c) (hl : l.flags = flags0) (r0 : Nat) (x1 : Int32) (x2 : Int32) (x3 : Int32) (sx0 : Int32) (h : AH) (hw : m_M_wrap_40 Q r0 x1 x2 x3 sx0 h) : ∀ (ls : Array Slot) (H : Heap) (locs : List Loc) (cells slots : Nat), lv_has ls 6 [(0, .ref r0), (1, .int x1), (2, .int x2), (3, .int x3)] → fx_F D h0 h H locs cells slots → W p l e R s m args below meth c H locs cells slots (fx_Z D below s h0 (fx_oV Q fx_no)) (F0 m 40 ls [.int sx0]) := by
  unfold m_M_wrap_40 at hw
  intro ls H locs cells slots hv F
  refine lv_istore (lv' := [(4, .int sx0), (0, .ref r0), (1, .int x1), (2, .int x2), (3, .int x3)]) C.ex C.by d_M_wrap_40 hv (by decide) rfl (fun ls hv => ?_)
  refine lv_aload_n C.ex C.by d_M_wrap_42 rfl (lv_at hv 1 rfl) ?_
  obtain ⟨hk1, hw⟩ := hw
  refine fx_getI C F lf_M_292 hk1 rfl d_M_wrap_43 ?_
  refine lv_iconst (v := (1 : Int32)) C.ex C.by d_M_wrap_46 (by decide) ?_
  refine lv_isub C.ex C.by d_M_wrap_47 ?_
  let v1 : Int32 := ((hp_I h r0 47) - (1 : Int32))
  replace hw := hw v1 rfl
  refine lv_istore (lv' := [(5, .int v1), (4, .int sx0), (0, .ref r0), (1, .int x1), (2, .int x2), (3, .int x3)]) C.ex C.by d_M_wrap_48 hv (by decide) rfl (fun ls hv => ?_)
  exact b_M_wrap_50 C hl _ _ _ _ _ _ _ hw _ _ _ _ _ (lv_sub hv [2, 3, 4, 5, 1, 0] rfl) F
theorem b_M_wrap_0 {p : Program} {l : Launch} {e : Env} {R : Room} {s : State} {m : MethodId} {args : Array Value} {below : List Frame} {meth : Method} {c : Code} {D : DD} {h0 : AH} {Q : AH → Prop} (C : fx_CX D y_M_wrap prog_15_method_41_code 6 1 13 (none) [] h0 p R s m meth c) (hl : l.flags = flags0) (r0 : Nat) (x1 : Int32) (x2 : Int32) (h : AH) (hw : m_M_wrap Q r0 x1 x2 h) : ∀ (ls : Array Slot) (H : Heap) (locs : List Loc) (cells slots : Nat), lv_has ls 6 [(0, .ref r0), (1, .int x1), (2, .int x2)] → fx_F D h0 h H locs cells slots → W p l e R s m args below meth c H locs cells slots (fx_Z D below s h0 (fx_oV Q fx_no)) (F0 m 0 ls []) := by
  unfold m_M_wrap at hw
  intro ls H locs cells slots hv F
  refine lv_aload_n C.ex C.by d_M_wrap_0 rfl (lv_at hv 0 rfl) ?_
  obtain ⟨hk1, hw⟩ := hw
  refine fx_getI C F lf_M_292 hk1 rfl d_M_wrap_1 ?_
  refine lv_iload_n C.ex C.by d_M_wrap_4 rfl (lv_at hv 2 rfl) ?_
  refine lv_isub C.ex C.by d_M_wrap_5 ?_
  let v1 : Int32 := ((hp_I h r0 47) - x2)
  replace hw := hw v1 rfl
  refine lv_istore_n (lv' := [(3, .int v1), (0, .ref r0), (1, .int x1), (2, .int x2)]) C.ex C.by d_M_wrap_6 rfl hv (by decide) rfl (fun ls hv => ?_)
  refine lv_iload_n C.ex C.by d_M_wrap_7 rfl (lv_at hv 0 rfl) ?_
  refine lv_sipush (v := (128 : Int32)) C.ex C.by d_M_wrap_8 (by decide) ?_
  refine lv_icmp_ge C.ex C.by d_M_wrap_11 rfl (fun hc => ?_) (fun hc => ?_)
  · replace hw := hw.1 hc
    refine lv_iload_n C.ex C.by d_M_wrap_18 rfl (lv_at hv 0 rfl) ?_
    refine lv_sipush (v := (256 : Int32)) C.ex C.by d_M_wrap_19 (by decide) ?_
    refine lv_icmp_ge C.ex C.by d_M_wrap_22 rfl (fun hc => ?_) (fun hc => ?_)
    · replace hw := hw.1 hc
      refine lv_iload_n C.ex C.by d_M_wrap_29 rfl (lv_at hv 0 rfl) ?_
      refine lv_ldc (v := (65536 : Int32)) C.ex C.by C.ow (C.tw.at (fx_m5 (List.mem_of_getElem? (i := 222) rfl)) rfl rfl) d_M_wrap_30 ?_
      refine lv_icmp_ge C.ex C.by d_M_wrap_32 rfl (fun hc => ?_) (fun hc => ?_)
      · replace hw := hw.1 hc
        refine lv_iconst (v := (3 : Int32)) C.ex C.by d_M_wrap_39 (by decide) ?_
        exact b_M_wrap_40 C hl _ _ _ _ _ _ hw _ _ _ _ _ (lv_sub hv [1, 2, 3, 0] rfl) F
      · replace hw := hw.2 hc
        refine lv_iconst (v := (2 : Int32)) C.ex C.by d_M_wrap_35 (by decide) ?_
        refine lv_goto C.ex C.by d_M_wrap_36 rfl ?_
        exact b_M_wrap_40 C hl _ _ _ _ _ _ hw _ _ _ _ _ (lv_sub hv [1, 2, 3, 0] rfl) F
    · replace hw := hw.2 hc
      refine lv_iconst (v := (1 : Int32)) C.ex C.by d_M_wrap_25 (by decide) ?_
      refine lv_goto C.ex C.by d_M_wrap_26 rfl ?_
      exact b_M_wrap_40 C hl _ _ _ _ _ _ hw _ _ _ _ _ (lv_sub hv [1, 2, 3, 0] rfl) F
  · replace hw := hw.2 hc
    refine lv_iconst (v := (0 : Int32)) C.ex C.by d_M_wrap_14 (by decide) ?_
    refine lv_goto C.ex C.by d_M_wrap_15 rfl ?_
    exact b_M_wrap_40 C hl _ _ _ _ _ _ hw _ _ _ _ _ (lv_sub hv [1, 2, 3, 0] rfl) F
theorem hm_M_wrap : fx_hd y_M_wrap prog_15_method_41_code 6 (none) [] ∈ tables_1 := (fx_m7 (List.mem_of_getElem? (i := 81) rfl))
theorem hi_M_wrap : Cond.initialized y_M_wrap.cls ∈ tables_1 := (fx_m1 (List.mem_of_getElem? (i := 15) rfl))
theorem c_M_wrap {l : Launch} (hl : l.flags = flags0) {D : DD} {Q : AH → Prop} {r0 : Nat} {x1 : Int32} {x2 : Int32} {h : AH} (hw : m_M_wrap Q r0 x1 x2 h) : fx_Mt l D y_M_wrap (fx_hd y_M_wrap prog_15_method_41_code 6 (none) []) 1 13 [.ref r0, .int x1, .int x2] h (fx_oV Q fx_no) := by
  refine fx_ofW (plainFor_of_name (by decide)) (fun p e s m below meth c C F => ?_)
  have hv := lv_entry ([.ref r0, .int x1, .int x2]) (n := 6) (Nat.le_of_ble_eq_true rfl)
  rw [lg_entry_eq]
  generalize (lg_sl ([.ref r0, .int x1, .int x2]) ++ List.replicate (6 - (lg_sl ([.ref r0, .int x1, .int x2])).length) Slot.unset).toArray = ls at hv ⊢
  have hv : lv_has ls 6 [(0, .ref r0), (1, .int x1), (2, .int x2)] := hv
  exact b_M_wrap_0 C hl _ _ _ _ hw _ _ _ _ _ hv F
/-! ChainJudgeModel.putAlgorithm()V: frames 2, words 29 -/
abbrev y_M_putAlgorithm : MethodName := ⟨"ChainJudgeModel", "putAlgorithm", "()V"⟩
theorem lm_M_300 : Cond.methodLink "ChainJudgeModel" 300 y_M_put_IJ ∈ tables_1 ∨ ∃ host, Cond.methodLinkNest "ChainJudgeModel" 300 y_M_put_IJ host ∈ tables_1 := Or.inl (fx_m7 (List.mem_of_getElem? (i := 70) rfl))
section
variable {p : Program} {l : Launch} {e : Env} {R : Room} {s : State} {m : MethodId} {args : Array Value} {below : List Frame} {meth : Method} {c : Code} {H : Heap} {locs : List Loc} {cells slots : Nat}
variable {D : DD} {y : MethodName} {cc : ByteArray} {nL kf kw : Nat} {ret : Option FieldType} {hh : List (Nat × Nat × Nat × Nat)} {h0 h : AH} {pc : Nat} {ls : Array Slot} {rest : List Value} {b idx : Nat}
theorem iv_M_put_IJ {x1 : Int32} {w2 : Int64} (C : fx_CX D y cc nL kf kw ret hh h0 p R s m meth c) (F : fx_F D h0 h H locs cells slots) (hw1 : Cond.methodLink y.cls idx y_M_put_IJ ∈ tables_1 ∨ ∃ host, Cond.methodLinkNest y.cls idx y_M_put_IJ host ∈ tables_1) (hk : hp_k h b = 13) (hd : decode cc pc = .ok (.invokevirtual idx, 3)) : fx_IV p l e R s m args below meth c H locs cells slots (F0 m pc ls (.long w2 :: .int x1 :: .ref b :: rest)) rest y_M_put_IJ [.ref b, .int x1, .long w2] 3 := fun T hT X => fx_invV (As := [.int x1, .long w2]) (Cn := "ChainJudgeModel") C X hw1 (fx_m7 (List.mem_of_getElem? (i := 72) rfl)) (fx_selP C ⟨by decide, by decide⟩ (fx_m5 (List.mem_of_getElem? (i := 217) rfl)) (fx_m7 (List.mem_of_getElem? (i := 71) rfl)) (fx_m7 (List.mem_of_getElem? (i := 72) rfl))) hm_M_put_IJ ⟨by decide, by decide⟩ (by rw [hT]; exact fx_clsO (ci := 12) (r := ("ChainJudgeModel", fx_T12, 57)) C F rfl (by decide) hk) rfl (n := 2) (by decide +kernel) rfl rfl hd
end
def dl_M_putAlgorithm : List (Nat × Instr × Nat) := [(0, .aload_n 0, 1), (1, .iconst 4, 1), (2, .ldc2_w 298, 3), (5, .invokevirtual 300, 3), (8, .aload_n 0, 1), (9, .bipush 8, 2), (11, .ldc2_w 153, 3), (14, .invokevirtual 300, 3), (17, .return_, 1)]
theorem dk_M_putAlgorithm : fx_dec prog_15_method_42_code dl_M_putAlgorithm = true := by decide +kernel
theorem d_M_putAlgorithm_0 : decode prog_15_method_42_code 0 = .ok (.aload_n 0, 1) := fx_dat dk_M_putAlgorithm 0 rfl
theorem d_M_putAlgorithm_1 : decode prog_15_method_42_code 1 = .ok (.iconst 4, 1) := fx_dat dk_M_putAlgorithm 1 rfl
theorem d_M_putAlgorithm_2 : decode prog_15_method_42_code 2 = .ok (.ldc2_w 298, 3) := fx_dat dk_M_putAlgorithm 2 rfl
theorem d_M_putAlgorithm_5 : decode prog_15_method_42_code 5 = .ok (.invokevirtual 300, 3) := fx_dat dk_M_putAlgorithm 3 rfl
theorem d_M_putAlgorithm_8 : decode prog_15_method_42_code 8 = .ok (.aload_n 0, 1) := fx_dat dk_M_putAlgorithm 4 rfl
theorem d_M_putAlgorithm_9 : decode prog_15_method_42_code 9 = .ok (.bipush 8, 2) := fx_dat dk_M_putAlgorithm 5 rfl
theorem d_M_putAlgorithm_11 : decode prog_15_method_42_code 11 = .ok (.ldc2_w 153, 3) := fx_dat dk_M_putAlgorithm 6 rfl
theorem d_M_putAlgorithm_14 : decode prog_15_method_42_code 14 = .ok (.invokevirtual 300, 3) := fx_dat dk_M_putAlgorithm 7 rfl
theorem d_M_putAlgorithm_17 : decode prog_15_method_42_code 17 = .ok (.return_, 1) := fx_dat dk_M_putAlgorithm 8 rfl
def m_M_putAlgorithm (Q : AH → Prop) (r0 : Nat) (h : AH) : Prop := hp_k h r0 = 13 ∧ m_M_put_IJ (fun h1 => fx_ext h h1 → m_M_put_IJ (fun h2 => fx_ext h1 h2 → Q h2) r0 (8 : Int32) (3064216340979843593 : Int64) h1) r0 (4 : Int32) (805963272 : Int64) h
theorem b_M_putAlgorithm_0 {p : Program} {l : Launch} {e : Env} {R : Room} {s : State} {m : MethodId} {args : Array Value} {below : List Frame} {meth : Method} {c : Code} {D : DD} {h0 : AH} {Q : AH → Prop} (C : fx_CX D y_M_putAlgorithm prog_15_method_42_code 1 2 29 (none) [] h0 p R s m meth c) (hl : l.flags = flags0) (r0 : Nat) (h : AH) (hw : m_M_putAlgorithm Q r0 h) : ∀ (ls : Array Slot) (H : Heap) (locs : List Loc) (cells slots : Nat), lv_has ls 1 [(0, .ref r0)] → fx_F D h0 h H locs cells slots → W p l e R s m args below meth c H locs cells slots (fx_Z D below s h0 (fx_oV Q fx_no)) (F0 m 0 ls []) := by
  unfold m_M_putAlgorithm at hw
  intro ls H locs cells slots hv F
  refine lv_aload_n C.ex C.by d_M_putAlgorithm_0 rfl (lv_at hv 0 rfl) ?_
  refine lv_iconst (v := (4 : Int32)) C.ex C.by d_M_putAlgorithm_1 (by decide) ?_
  refine lv_ldc2 (v := (805963272 : Int64)) C.ex C.by C.ow (C.tw.at (fx_m7 (List.mem_of_getElem? (i := 86) rfl)) rfl rfl) d_M_putAlgorithm_2 ?_
  obtain ⟨hk1, hw⟩ := hw
  refine fx_callV C F (c_M_put_IJ hl hw) hm_M_put_IJ hi_M_put_IJ hv.1 (by decide) (Nat.le_of_ble_eq_true rfl) (iv_M_put_IJ C F lm_M_300 hk1 d_M_putAlgorithm_5) (fx_out0 _) fx_eno (fun h1 H locs cells slots hw hx1 F => ?_)
  replace hw := hw hx1
  have hk1 := (hx1).k hk1
  refine lv_aload_n C.ex C.by d_M_putAlgorithm_8 rfl (lv_at hv 0 rfl) ?_
  refine lv_bipush (v := (8 : Int32)) C.ex C.by d_M_putAlgorithm_9 (by decide) ?_
  refine lv_ldc2 (v := (3064216340979843593 : Int64)) C.ex C.by C.ow (C.tw.at (fx_m7 (List.mem_of_getElem? (i := 1) rfl)) rfl rfl) d_M_putAlgorithm_11 ?_
  refine fx_callV C F (c_M_put_IJ hl hw) hm_M_put_IJ hi_M_put_IJ hv.1 (by decide) (Nat.le_of_ble_eq_true rfl) (iv_M_put_IJ C F lm_M_300 hk1 d_M_putAlgorithm_14) (fx_out0 _) fx_eno (fun h2 H locs cells slots hw hx2 F => ?_)
  replace hw := hw hx2
  have hk1 := (hx2).k hk1
  exact fx_vret C F d_M_putAlgorithm_17 (Or.inl ⟨rfl, hw⟩)
theorem hm_M_putAlgorithm : fx_hd y_M_putAlgorithm prog_15_method_42_code 1 (none) [] ∈ tables_1 := (fx_m7 (List.mem_of_getElem? (i := 85) rfl))
theorem hi_M_putAlgorithm : Cond.initialized y_M_putAlgorithm.cls ∈ tables_1 := (fx_m1 (List.mem_of_getElem? (i := 15) rfl))
theorem c_M_putAlgorithm {l : Launch} (hl : l.flags = flags0) {D : DD} {Q : AH → Prop} {r0 : Nat} {h : AH} (hw : m_M_putAlgorithm Q r0 h) : fx_Mt l D y_M_putAlgorithm (fx_hd y_M_putAlgorithm prog_15_method_42_code 1 (none) []) 2 29 [.ref r0] h (fx_oV Q fx_no) := by
  refine fx_ofW (plainFor_of_name (by decide)) (fun p e s m below meth c C F => ?_)
  have hv := lv_entry ([.ref r0]) (n := 1) (Nat.le_of_ble_eq_true rfl)
  rw [lg_entry_eq]
  generalize (lg_sl ([.ref r0]) ++ List.replicate (1 - (lg_sl ([.ref r0])).length) Slot.unset).toArray = ls at hv ⊢
  have hv : lv_has ls 1 [(0, .ref r0)] := hv
  exact b_M_putAlgorithm_0 C hl _ _ hw _ _ _ _ _ hv F
/-! ChainJudgeModel.putName(I)V: frames 2, words 30 -/
abbrev y_M_putName : MethodName := ⟨"ChainJudgeModel", "putName", "(I)V"⟩
theorem lm_M_305 : Cond.methodLink "ChainJudgeModel" 305 y_M_wrap ∈ tables_1 ∨ ∃ host, Cond.methodLinkNest "ChainJudgeModel" 305 y_M_wrap host ∈ tables_1 := Or.inl (fx_m7 (List.mem_of_getElem? (i := 78) rfl))
section
variable {p : Program} {l : Launch} {e : Env} {R : Room} {s : State} {m : MethodId} {args : Array Value} {below : List Frame} {meth : Method} {c : Code} {H : Heap} {locs : List Loc} {cells slots : Nat}
variable {D : DD} {y : MethodName} {cc : ByteArray} {nL kf kw : Nat} {ret : Option FieldType} {hh : List (Nat × Nat × Nat × Nat)} {h0 h : AH} {pc : Nat} {ls : Array Slot} {rest : List Value} {b idx : Nat}
theorem iv_M_wrap {x1 : Int32} {x2 : Int32} (C : fx_CX D y cc nL kf kw ret hh h0 p R s m meth c) (F : fx_F D h0 h H locs cells slots) (hw1 : Cond.methodLink y.cls idx y_M_wrap ∈ tables_1 ∨ ∃ host, Cond.methodLinkNest y.cls idx y_M_wrap host ∈ tables_1) (hk : hp_k h b = 13) (hd : decode cc pc = .ok (.invokevirtual idx, 3)) : fx_IV p l e R s m args below meth c H locs cells slots (F0 m pc ls (.int x2 :: .int x1 :: .ref b :: rest)) rest y_M_wrap [.ref b, .int x1, .int x2] 3 := fun T hT X => fx_invV (As := [.int x1, .int x2]) (Cn := "ChainJudgeModel") C X hw1 (fx_m7 (List.mem_of_getElem? (i := 80) rfl)) (fx_selP C ⟨by decide, by decide⟩ (fx_m5 (List.mem_of_getElem? (i := 217) rfl)) (fx_m7 (List.mem_of_getElem? (i := 79) rfl)) (fx_m7 (List.mem_of_getElem? (i := 80) rfl))) hm_M_wrap ⟨by decide, by decide⟩ (by rw [hT]; exact fx_clsO (ci := 12) (r := ("ChainJudgeModel", fx_T12, 57)) C F rfl (by decide) hk) rfl (n := 2) (by decide +kernel) rfl rfl hd
end
def dl_M_putName : List (Nat × Instr × Nat) := [(0, .aload_n 0, 1), (1, .getfield 292, 3), (4, .istore_n 2, 1), (5, .aload_n 0, 1), (6, .iconst 5, 1), (7, .ldc2_w 303, 3), (10, .invokevirtual 300, 3), (13, .aload_n 0, 1), (14, .getfield 292, 3), (17, .istore_n 3, 1), (18, .iconst 0, 1), (19, .istore 4, 2), (21, .iload 4, 2), (23, .iload_n 1, 1), (24, .if_icmp .ge 20, 3), (27, .aload_n 0, 1), (28, .aload_n 0, 1), (29, .getfield 8, 3), (32, .iload 4, 2), (34, .baload, 1), (35, .invokevirtual 295, 3), (38, .iinc 4 1, 3), (41, .goto (-20), 3), (44, .aload_n 0, 1), (45, .bipush 12, 2), (47, .iload_n 3, 1), (48, .invokevirtual 305, 3), (51, .aload_n 0, 1), (52, .bipush 48, 2), (54, .iload_n 2, 1), (55, .invokevirtual 305, 3), (58, .aload_n 0, 1), (59, .bipush 49, 2), (61, .iload_n 2, 1), (62, .invokevirtual 305, 3), (65, .aload_n 0, 1), (66, .bipush 48, 2), (68, .iload_n 2, 1), (69, .invokevirtual 305, 3), (72, .return_, 1)]
theorem dk_M_putName : fx_dec prog_15_method_43_code dl_M_putName = true := by decide +kernel
theorem d_M_putName_0 : decode prog_15_method_43_code 0 = .ok (.aload_n 0, 1) := fx_dat dk_M_putName 0 rfl
theorem d_M_putName_1 : decode prog_15_method_43_code 1 = .ok (.getfield 292, 3) := fx_dat dk_M_putName 1 rfl
theorem d_M_putName_4 : decode prog_15_method_43_code 4 = .ok (.istore_n 2, 1) := fx_dat dk_M_putName 2 rfl
theorem d_M_putName_5 : decode prog_15_method_43_code 5 = .ok (.aload_n 0, 1) := fx_dat dk_M_putName 3 rfl
theorem d_M_putName_6 : decode prog_15_method_43_code 6 = .ok (.iconst 5, 1) := fx_dat dk_M_putName 4 rfl
theorem d_M_putName_7 : decode prog_15_method_43_code 7 = .ok (.ldc2_w 303, 3) := fx_dat dk_M_putName 5 rfl
theorem d_M_putName_10 : decode prog_15_method_43_code 10 = .ok (.invokevirtual 300, 3) := fx_dat dk_M_putName 6 rfl
theorem d_M_putName_13 : decode prog_15_method_43_code 13 = .ok (.aload_n 0, 1) := fx_dat dk_M_putName 7 rfl
theorem d_M_putName_14 : decode prog_15_method_43_code 14 = .ok (.getfield 292, 3) := fx_dat dk_M_putName 8 rfl
theorem d_M_putName_17 : decode prog_15_method_43_code 17 = .ok (.istore_n 3, 1) := fx_dat dk_M_putName 9 rfl
theorem d_M_putName_18 : decode prog_15_method_43_code 18 = .ok (.iconst 0, 1) := fx_dat dk_M_putName 10 rfl
theorem d_M_putName_19 : decode prog_15_method_43_code 19 = .ok (.istore 4, 2) := fx_dat dk_M_putName 11 rfl
theorem d_M_putName_21 : decode prog_15_method_43_code 21 = .ok (.iload 4, 2) := fx_dat dk_M_putName 12 rfl
theorem d_M_putName_23 : decode prog_15_method_43_code 23 = .ok (.iload_n 1, 1) := fx_dat dk_M_putName 13 rfl
theorem d_M_putName_24 : decode prog_15_method_43_code 24 = .ok (.if_icmp .ge 20, 3) := fx_dat dk_M_putName 14 rfl
theorem d_M_putName_27 : decode prog_15_method_43_code 27 = .ok (.aload_n 0, 1) := fx_dat dk_M_putName 15 rfl
theorem d_M_putName_28 : decode prog_15_method_43_code 28 = .ok (.aload_n 0, 1) := fx_dat dk_M_putName 16 rfl
theorem d_M_putName_29 : decode prog_15_method_43_code 29 = .ok (.getfield 8, 3) := fx_dat dk_M_putName 17 rfl
theorem d_M_putName_32 : decode prog_15_method_43_code 32 = .ok (.iload 4, 2) := fx_dat dk_M_putName 18 rfl
theorem d_M_putName_34 : decode prog_15_method_43_code 34 = .ok (.baload, 1) := fx_dat dk_M_putName 19 rfl
theorem d_M_putName_35 : decode prog_15_method_43_code 35 = .ok (.invokevirtual 295, 3) := fx_dat dk_M_putName 20 rfl
theorem d_M_putName_38 : decode prog_15_method_43_code 38 = .ok (.iinc 4 1, 3) := fx_dat dk_M_putName 21 rfl
theorem d_M_putName_41 : decode prog_15_method_43_code 41 = .ok (.goto (-20), 3) := fx_dat dk_M_putName 22 rfl
theorem d_M_putName_44 : decode prog_15_method_43_code 44 = .ok (.aload_n 0, 1) := fx_dat dk_M_putName 23 rfl
theorem d_M_putName_45 : decode prog_15_method_43_code 45 = .ok (.bipush 12, 2) := fx_dat dk_M_putName 24 rfl
theorem d_M_putName_47 : decode prog_15_method_43_code 47 = .ok (.iload_n 3, 1) := fx_dat dk_M_putName 25 rfl
theorem d_M_putName_48 : decode prog_15_method_43_code 48 = .ok (.invokevirtual 305, 3) := fx_dat dk_M_putName 26 rfl
theorem d_M_putName_51 : decode prog_15_method_43_code 51 = .ok (.aload_n 0, 1) := fx_dat dk_M_putName 27 rfl
theorem d_M_putName_52 : decode prog_15_method_43_code 52 = .ok (.bipush 48, 2) := fx_dat dk_M_putName 28 rfl
theorem d_M_putName_54 : decode prog_15_method_43_code 54 = .ok (.iload_n 2, 1) := fx_dat dk_M_putName 29 rfl
theorem d_M_putName_55 : decode prog_15_method_43_code 55 = .ok (.invokevirtual 305, 3) := fx_dat dk_M_putName 30 rfl
theorem d_M_putName_58 : decode prog_15_method_43_code 58 = .ok (.aload_n 0, 1) := fx_dat dk_M_putName 31 rfl
theorem d_M_putName_59 : decode prog_15_method_43_code 59 = .ok (.bipush 49, 2) := fx_dat dk_M_putName 32 rfl
theorem d_M_putName_61 : decode prog_15_method_43_code 61 = .ok (.iload_n 2, 1) := fx_dat dk_M_putName 33 rfl
theorem d_M_putName_62 : decode prog_15_method_43_code 62 = .ok (.invokevirtual 305, 3) := fx_dat dk_M_putName 34 rfl
theorem d_M_putName_65 : decode prog_15_method_43_code 65 = .ok (.aload_n 0, 1) := fx_dat dk_M_putName 35 rfl
theorem d_M_putName_66 : decode prog_15_method_43_code 66 = .ok (.bipush 48, 2) := fx_dat dk_M_putName 36 rfl
theorem d_M_putName_68 : decode prog_15_method_43_code 68 = .ok (.iload_n 2, 1) := fx_dat dk_M_putName 37 rfl
theorem d_M_putName_69 : decode prog_15_method_43_code 69 = .ok (.invokevirtual 305, 3) := fx_dat dk_M_putName 38 rfl
theorem d_M_putName_72 : decode prog_15_method_43_code 72 = .ok (.return_, 1) := fx_dat dk_M_putName 39 rfl
def m_M_putName_21_b (Q : AH → Prop) (X21 : Int32 × AH → Prop) (r0 : Nat) (x1 : Int32) (x2 : Int32) (x3 : Int32) (x4 : Int32) (h : AH) : Prop := (x1 ≤ x4 → hp_k h r0 = 13 ∧ m_M_wrap (fun h1 => fx_ext h h1 → m_M_wrap (fun h2 => fx_ext h1 h2 → m_M_wrap (fun h3 => fx_ext h2 h3 → m_M_wrap (fun h4 => fx_ext h3 h4 → Q h4) r0 (48 : Int32) x2 h3) r0 (49 : Int32) x2 h2) r0 (48 : Int32) x2 h1) r0 (12 : Int32) x3 h) ∧ (¬ x1 ≤ x4 → hp_k h r0 = 13 ∧ ∃ b1, hp_R h r0 1 = some b1 ∧ bk (hp_k h b1) ∧ vp_in x4 (hp_n h b1) ∧ (by8 (hp_I h b1 x4.toNatClampNeg) → m_M_put_I (fun h5 => fx_ext h h5 → ∀ v1 : Int32, v1 = (x4 + (1 : Int32)) → X21 (v1, h5)) r0 (hp_I h b1 x4.toNatClampNeg) h))
def m_M_putName_21 (Q : AH → Prop) (r0 : Nat) (x1 : Int32) (x2 : Int32) (x3 : Int32) (x4 : Int32) (h : AH) : Prop := fx_loop (fun (X21 : Int32 × AH → Prop) (st : Int32 × AH) => m_M_putName_21_b Q X21 r0 x1 x2 x3 st.1 st.2) (x4, h)
def m_M_putName (Q : AH → Prop) (r0 : Nat) (x1 : Int32) (h : AH) : Prop := hp_k h r0 = 13 ∧ ∀ v1 : Int32, v1 = (hp_I h r0 47) → m_M_put_IJ (fun h1 => fx_ext h h1 → ∀ v2 : Int32, v2 = (hp_I h1 r0 47) → m_M_putName_21 Q r0 x1 v1 v2 (0 : Int32) h1) r0 (5 : Int32) (25825707011 : Int64) h
theorem b_M_putName_21 {p : Program} {l : Launch} {e : Env} {R : Room} {s : State} {m : MethodId} {args : Array Value} {below : List Frame} {meth : Method} {c : Code} {D : DD} {h0 : AH} {Q : AH → Prop} (C : fx_CX D y_M_putName prog_15_method_43_code 5 2 30 (none) [] h0 p R s m meth c) (hl : l.flags = flags0) (r0 : Nat) (x1 : Int32) (x2 : Int32) (x3 : Int32) (x4 : Int32) (h : AH) (hw : m_M_putName_21 Q r0 x1 x2 x3 x4 h) : ∀ (ls : Array Slot) (H : Heap) (locs : List Loc) (cells slots : Nat), lv_has ls 5 [(0, .ref r0), (1, .int x1), (2, .int x2), (3, .int x3), (4, .int x4)] → fx_F D h0 h H locs cells slots → W p l e R s m args below meth c H locs cells slots (fx_Z D below s h0 (fx_oV Q fx_no)) (F0 m 21 ls []) := by
  refine fx_loop.use hw (fun st => ∀ (ls : Array Slot) (H : Heap) (locs : List Loc) (cells slots : Nat), lv_has ls 5 [(0, .ref r0), (1, .int x1), (2, .int x2), (3, .int x3), (4, .int st.1)] → fx_F D h0 st.2 H locs cells slots → W p l e R s m args below meth c H locs cells slots (fx_Z D below s h0 (fx_oV Q fx_no)) (F0 m 21 ls [])) (fun X21 st hX21 hw => ?_)
  obtain ⟨x4, h⟩ := st
  replace hw : m_M_putName_21_b Q X21 r0 x1 x2 x3 x4 h := hw
  unfold m_M_putName_21_b at hw
  intro ls H locs cells slots hv F
  refine lv_iload C.ex C.by d_M_putName_21 (lv_at hv 4 rfl) ?_
  refine lv_iload_n C.ex C.by d_M_putName_23 rfl (lv_at hv 1 rfl) ?_
  refine lv_icmp_ge C.ex C.by d_M_putName_24 rfl (fun hc => ?_) (fun hc => ?_)
  · replace hw := hw.1 hc
    refine lv_aload_n C.ex C.by d_M_putName_44 rfl (lv_at hv 0 rfl) ?_
    refine lv_bipush (v := (12 : Int32)) C.ex C.by d_M_putName_45 (by decide) ?_
    refine lv_iload_n C.ex C.by d_M_putName_47 rfl (lv_at hv 3 rfl) ?_
    obtain ⟨hk1, hw⟩ := hw
    refine fx_callV C F (c_M_wrap hl hw) hm_M_wrap hi_M_wrap hv.1 (by decide) (Nat.le_of_ble_eq_true rfl) (iv_M_wrap C F lm_M_305 hk1 d_M_putName_48) (fx_out0 _) fx_eno (fun h1 H locs cells slots hw hx1 F => ?_)
    replace hw := hw hx1
    have hk1 := (hx1).k hk1
    refine lv_aload_n C.ex C.by d_M_putName_51 rfl (lv_at hv 0 rfl) ?_
    refine lv_bipush (v := (48 : Int32)) C.ex C.by d_M_putName_52 (by decide) ?_
    refine lv_iload_n C.ex C.by d_M_putName_54 rfl (lv_at hv 2 rfl) ?_
    refine fx_callV C F (c_M_wrap hl hw) hm_M_wrap hi_M_wrap hv.1 (by decide) (Nat.le_of_ble_eq_true rfl) (iv_M_wrap C F lm_M_305 hk1 d_M_putName_55) (fx_out0 _) fx_eno (fun h2 H locs cells slots hw hx2 F => ?_)
    replace hw := hw hx2
    have hk1 := (hx2).k hk1
    refine lv_aload_n C.ex C.by d_M_putName_58 rfl (lv_at hv 0 rfl) ?_
    refine lv_bipush (v := (49 : Int32)) C.ex C.by d_M_putName_59 (by decide) ?_
    refine lv_iload_n C.ex C.by d_M_putName_61 rfl (lv_at hv 2 rfl) ?_
    refine fx_callV C F (c_M_wrap hl hw) hm_M_wrap hi_M_wrap hv.1 (by decide) (Nat.le_of_ble_eq_true rfl) (iv_M_wrap C F lm_M_305 hk1 d_M_putName_62) (fx_out0 _) fx_eno (fun h3 H locs cells slots hw hx3 F => ?_)
    replace hw := hw hx3
    have hk1 := (hx3).k hk1
    refine lv_aload_n C.ex C.by d_M_putName_65 rfl (lv_at hv 0 rfl) ?_
    refine lv_bipush (v := (48 : Int32)) C.ex C.by d_M_putName_66 (by decide) ?_
    refine lv_iload_n C.ex C.by d_M_putName_68 rfl (lv_at hv 2 rfl) ?_
    refine fx_callV C F (c_M_wrap hl hw) hm_M_wrap hi_M_wrap hv.1 (by decide) (Nat.le_of_ble_eq_true rfl) (iv_M_wrap C F lm_M_305 hk1 d_M_putName_69) (fx_out0 _) fx_eno (fun h4 H locs cells slots hw hx4 F => ?_)
    replace hw := hw hx4
    have hk1 := (hx4).k hk1
    exact fx_vret C F d_M_putName_72 (Or.inl ⟨rfl, hw⟩)
  · replace hw := hw.2 hc
    refine lv_aload_n C.ex C.by d_M_putName_27 rfl (lv_at hv 0 rfl) ?_
    refine lv_aload_n C.ex C.by d_M_putName_28 rfl (lv_at hv 0 rfl) ?_
    obtain ⟨hk2, hw⟩ := hw
    obtain ⟨b1, hb1, hw⟩ := hw
    refine fx_getR C F lf_M_8 hk2 rfl hb1 d_M_putName_29 ?_
    refine lv_iload C.ex C.by d_M_putName_32 (lv_at hv 4 rfl) ?_
    obtain ⟨hk3, hw⟩ := hw
    obtain ⟨hi1, hw⟩ := hw
    refine fx_bald C F hk3 hi1 d_M_putName_34 (fun h8 => ?_)
    replace hw := hw h8
    refine fx_callV C F (c_M_put_I hl hw) hm_M_put_I hi_M_put_I hv.1 (by decide) (Nat.le_of_ble_eq_true rfl) (iv_M_put_I C F lm_M_295 hk2 d_M_putName_35) (fx_out0 _) fx_eno (fun h5 H locs cells slots hw hx5 F => ?_)
    replace hw := hw hx5
    have hk3 := (hx5).gb hk3
    have hk2 := (hx5).k hk2
    let v1 : Int32 := (x4 + (1 : Int32))
    replace hw := hw v1 rfl
    refine lv_iinc (v := v1) (k := 4) (lv' := [(4, .int v1), (0, .ref r0), (1, .int x1), (2, .int x2), (3, .int x3)]) C.ex C.by d_M_putName_38 hv rfl (congrArg (fun z => x4 + z) (by decide)) (by decide) rfl (fun ls hv => ?_)
    refine lv_goto C.ex C.by d_M_putName_41 rfl ?_
    exact hX21 _ hw _ _ _ _ _ (lv_sub hv [1, 2, 3, 4, 0] rfl) F
theorem b_M_putName_0 {p : Program} {l : Launch} {e : Env} {R : Room} {s : State} {m : MethodId} {args : Array Value} {below : List Frame} {meth : Method} {c : Code} {D : DD} {h0 : AH} {Q : AH → Prop} (C : fx_CX D y_M_putName prog_15_method_43_code 5 2 30 (none) [] h0 p R s m meth c) (hl : l.flags = flags0) (r0 : Nat) (x1 : Int32) (h : AH) (hw : m_M_putName Q r0 x1 h) : ∀ (ls : Array Slot) (H : Heap) (locs : List Loc) (cells slots : Nat), lv_has ls 5 [(0, .ref r0), (1, .int x1)] → fx_F D h0 h H locs cells slots → W p l e R s m args below meth c H locs cells slots (fx_Z D below s h0 (fx_oV Q fx_no)) (F0 m 0 ls []) := by
  unfold m_M_putName at hw
  intro ls H locs cells slots hv F
  refine lv_aload_n C.ex C.by d_M_putName_0 rfl (lv_at hv 0 rfl) ?_
  obtain ⟨hk1, hw⟩ := hw
  refine fx_getI C F lf_M_292 hk1 rfl d_M_putName_1 ?_
  let v1 : Int32 := (hp_I h r0 47)
  replace hw := hw v1 rfl
  refine lv_istore_n (lv' := [(2, .int v1), (0, .ref r0), (1, .int x1)]) C.ex C.by d_M_putName_4 rfl hv (by decide) rfl (fun ls hv => ?_)
  refine lv_aload_n C.ex C.by d_M_putName_5 rfl (lv_at hv 1 rfl) ?_
  refine lv_iconst (v := (5 : Int32)) C.ex C.by d_M_putName_6 (by decide) ?_
  refine lv_ldc2 (v := (25825707011 : Int64)) C.ex C.by C.ow (C.tw.at (fx_m7 (List.mem_of_getElem? (i := 91) rfl)) rfl rfl) d_M_putName_7 ?_
  refine fx_callV C F (c_M_put_IJ hl hw) hm_M_put_IJ hi_M_put_IJ hv.1 (by decide) (Nat.le_of_ble_eq_true rfl) (iv_M_put_IJ C F lm_M_300 hk1 d_M_putName_10) (fx_out0 _) fx_eno (fun h1 H locs cells slots hw hx1 F => ?_)
  replace hw := hw hx1
  have hk1 := (hx1).k hk1
  refine lv_aload_n C.ex C.by d_M_putName_13 rfl (lv_at hv 1 rfl) ?_
  refine fx_getI C F lf_M_292 hk1 rfl d_M_putName_14 ?_
  let v2 : Int32 := (hp_I h1 r0 47)
  replace hw := hw v2 rfl
  refine lv_istore_n (lv' := [(3, .int v2), (2, .int v1), (0, .ref r0), (1, .int x1)]) C.ex C.by d_M_putName_17 rfl hv (by decide) rfl (fun ls hv => ?_)
  refine lv_iconst (v := (0 : Int32)) C.ex C.by d_M_putName_18 (by decide) ?_
  refine lv_istore (lv' := [(4, .int (0 : Int32)), (3, .int v2), (2, .int v1), (0, .ref r0), (1, .int x1)]) C.ex C.by d_M_putName_19 hv (by decide) rfl (fun ls hv => ?_)
  exact b_M_putName_21 C hl _ _ _ _ _ _ hw _ _ _ _ _ (lv_sub hv [3, 4, 2, 1, 0] rfl) F
theorem hm_M_putName : fx_hd y_M_putName prog_15_method_43_code 5 (none) [] ∈ tables_1 := (fx_m7 (List.mem_of_getElem? (i := 90) rfl))
theorem hi_M_putName : Cond.initialized y_M_putName.cls ∈ tables_1 := (fx_m1 (List.mem_of_getElem? (i := 15) rfl))
theorem c_M_putName {l : Launch} (hl : l.flags = flags0) {D : DD} {Q : AH → Prop} {r0 : Nat} {x1 : Int32} {h : AH} (hw : m_M_putName Q r0 x1 h) : fx_Mt l D y_M_putName (fx_hd y_M_putName prog_15_method_43_code 5 (none) []) 2 30 [.ref r0, .int x1] h (fx_oV Q fx_no) := by
  refine fx_ofW (plainFor_of_name (by decide)) (fun p e s m below meth c C F => ?_)
  have hv := lv_entry ([.ref r0, .int x1]) (n := 5) (Nat.le_of_ble_eq_true rfl)
  rw [lg_entry_eq]
  generalize (lg_sl ([.ref r0, .int x1]) ++ List.replicate (5 - (lg_sl ([.ref r0, .int x1])).length) Slot.unset).toArray = ls at hv ⊢
  have hv : lv_has ls 5 [(0, .ref r0), (1, .int x1)] := hv
  exact b_M_putName_0 C hl _ _ _ hw _ _ _ _ _ hv F
/-! ChainJudgeModel.putTwo(I)V: frames 1, words 13 -/
abbrev y_M_putTwo : MethodName := ⟨"ChainJudgeModel", "putTwo", "(I)V"⟩
def dl_M_putTwo : List (Nat × Instr × Nat) := [(0, .aload_n 0, 1), (1, .bipush 48, 2), (3, .iload_n 1, 1), (4, .bipush 10, 2), (6, .idiv, 1), (7, .bipush 10, 2), (9, .irem, 1), (10, .iadd, 1), (11, .invokevirtual 295, 3), (14, .aload_n 0, 1), (15, .bipush 48, 2), (17, .iload_n 1, 1), (18, .bipush 10, 2), (20, .irem, 1), (21, .iadd, 1), (22, .invokevirtual 295, 3), (25, .return_, 1)]
theorem dk_M_putTwo : fx_dec prog_15_method_44_code dl_M_putTwo = true := by decide +kernel
theorem d_M_putTwo_0 : decode prog_15_method_44_code 0 = .ok (.aload_n 0, 1) := fx_dat dk_M_putTwo 0 rfl
theorem d_M_putTwo_1 : decode prog_15_method_44_code 1 = .ok (.bipush 48, 2) := fx_dat dk_M_putTwo 1 rfl
theorem d_M_putTwo_3 : decode prog_15_method_44_code 3 = .ok (.iload_n 1, 1) := fx_dat dk_M_putTwo 2 rfl
theorem d_M_putTwo_4 : decode prog_15_method_44_code 4 = .ok (.bipush 10, 2) := fx_dat dk_M_putTwo 3 rfl
theorem d_M_putTwo_6 : decode prog_15_method_44_code 6 = .ok (.idiv, 1) := fx_dat dk_M_putTwo 4 rfl
theorem d_M_putTwo_7 : decode prog_15_method_44_code 7 = .ok (.bipush 10, 2) := fx_dat dk_M_putTwo 5 rfl
theorem d_M_putTwo_9 : decode prog_15_method_44_code 9 = .ok (.irem, 1) := fx_dat dk_M_putTwo 6 rfl
theorem d_M_putTwo_10 : decode prog_15_method_44_code 10 = .ok (.iadd, 1) := fx_dat dk_M_putTwo 7 rfl
theorem d_M_putTwo_11 : decode prog_15_method_44_code 11 = .ok (.invokevirtual 295, 3) := fx_dat dk_M_putTwo 8 rfl
theorem d_M_putTwo_14 : decode prog_15_method_44_code 14 = .ok (.aload_n 0, 1) := fx_dat dk_M_putTwo 9 rfl
theorem d_M_putTwo_15 : decode prog_15_method_44_code 15 = .ok (.bipush 48, 2) := fx_dat dk_M_putTwo 10 rfl
theorem d_M_putTwo_17 : decode prog_15_method_44_code 17 = .ok (.iload_n 1, 1) := fx_dat dk_M_putTwo 11 rfl
theorem d_M_putTwo_18 : decode prog_15_method_44_code 18 = .ok (.bipush 10, 2) := fx_dat dk_M_putTwo 12 rfl
theorem d_M_putTwo_20 : decode prog_15_method_44_code 20 = .ok (.irem, 1) := fx_dat dk_M_putTwo 13 rfl
theorem d_M_putTwo_21 : decode prog_15_method_44_code 21 = .ok (.iadd, 1) := fx_dat dk_M_putTwo 14 rfl
theorem d_M_putTwo_22 : decode prog_15_method_44_code 22 = .ok (.invokevirtual 295, 3) := fx_dat dk_M_putTwo 15 rfl
theorem d_M_putTwo_25 : decode prog_15_method_44_code 25 = .ok (.return_, 1) := fx_dat dk_M_putTwo 16 rfl
def m_M_putTwo (Q : AH → Prop) (r0 : Nat) (x1 : Int32) (h : AH) : Prop := hp_k h r0 = 13 ∧ m_M_put_I (fun h1 => fx_ext h h1 → m_M_put_I (fun h2 => fx_ext h1 h2 → Q h2) r0 ((48 : Int32) + (x1 - x1 / (10 : Int32) * (10 : Int32))) h1) r0 ((48 : Int32) + ((x1 / (10 : Int32)) - (x1 / (10 : Int32)) / (10 : Int32) * (10 : Int32))) h
theorem b_M_putTwo_0 {p : Program} {l : Launch} {e : Env} {R : Room} {s : State} {m : MethodId} {args : Array Value} {below : List Frame} {meth : Method} {c : Code} {D : DD} {h0 : AH} {Q : AH → Prop} (C : fx_CX D y_M_putTwo prog_15_method_44_code 2 1 13 (none) [] h0 p R s m meth c) (hl : l.flags = flags0) (r0 : Nat) (x1 : Int32) (h : AH) (hw : m_M_putTwo Q r0 x1 h) : ∀ (ls : Array Slot) (H : Heap) (locs : List Loc) (cells slots : Nat), lv_has ls 2 [(0, .ref r0), (1, .int x1)] → fx_F D h0 h H locs cells slots → W p l e R s m args below meth c H locs cells slots (fx_Z D below s h0 (fx_oV Q fx_no)) (F0 m 0 ls []) := by
  unfold m_M_putTwo at hw
  intro ls H locs cells slots hv F
  refine lv_aload_n C.ex C.by d_M_putTwo_0 rfl (lv_at hv 0 rfl) ?_
  refine lv_bipush (v := (48 : Int32)) C.ex C.by d_M_putTwo_1 (by decide) ?_
  refine lv_iload_n C.ex C.by d_M_putTwo_3 rfl (lv_at hv 1 rfl) ?_
  refine lv_bipush (v := (10 : Int32)) C.ex C.by d_M_putTwo_4 (by decide) ?_
  refine lv_idiv C.ex C.by d_M_putTwo_6 (by decide) ?_
  refine lv_bipush (v := (10 : Int32)) C.ex C.by d_M_putTwo_7 (by decide) ?_
  refine lv_irem C.ex C.by d_M_putTwo_9 (by decide) ?_
  refine lv_iadd C.ex C.by d_M_putTwo_10 ?_
  obtain ⟨hk1, hw⟩ := hw
  refine fx_callV C F (c_M_put_I hl hw) hm_M_put_I hi_M_put_I hv.1 (by decide) (Nat.le_of_ble_eq_true rfl) (iv_M_put_I C F lm_M_295 hk1 d_M_putTwo_11) (fx_out0 _) fx_eno (fun h1 H locs cells slots hw hx1 F => ?_)
  replace hw := hw hx1
  have hk1 := (hx1).k hk1
  refine lv_aload_n C.ex C.by d_M_putTwo_14 rfl (lv_at hv 0 rfl) ?_
  refine lv_bipush (v := (48 : Int32)) C.ex C.by d_M_putTwo_15 (by decide) ?_
  refine lv_iload_n C.ex C.by d_M_putTwo_17 rfl (lv_at hv 1 rfl) ?_
  refine lv_bipush (v := (10 : Int32)) C.ex C.by d_M_putTwo_18 (by decide) ?_
  refine lv_irem C.ex C.by d_M_putTwo_20 (by decide) ?_
  refine lv_iadd C.ex C.by d_M_putTwo_21 ?_
  refine fx_callV C F (c_M_put_I hl hw) hm_M_put_I hi_M_put_I hv.1 (by decide) (Nat.le_of_ble_eq_true rfl) (iv_M_put_I C F lm_M_295 hk1 d_M_putTwo_22) (fx_out0 _) fx_eno (fun h2 H locs cells slots hw hx2 F => ?_)
  replace hw := hw hx2
  have hk1 := (hx2).k hk1
  exact fx_vret C F d_M_putTwo_25 (Or.inl ⟨rfl, hw⟩)
theorem hm_M_putTwo : fx_hd y_M_putTwo prog_15_method_44_code 2 (none) [] ∈ tables_1 := (fx_m7 (List.mem_of_getElem? (i := 99) rfl))
theorem hi_M_putTwo : Cond.initialized y_M_putTwo.cls ∈ tables_1 := (fx_m1 (List.mem_of_getElem? (i := 15) rfl))
theorem c_M_putTwo {l : Launch} (hl : l.flags = flags0) {D : DD} {Q : AH → Prop} {r0 : Nat} {x1 : Int32} {h : AH} (hw : m_M_putTwo Q r0 x1 h) : fx_Mt l D y_M_putTwo (fx_hd y_M_putTwo prog_15_method_44_code 2 (none) []) 1 13 [.ref r0, .int x1] h (fx_oV Q fx_no) := by
  refine fx_ofW (plainFor_of_name (by decide)) (fun p e s m below meth c C F => ?_)
  have hv := lv_entry ([.ref r0, .int x1]) (n := 2) (Nat.le_of_ble_eq_true rfl)
  rw [lg_entry_eq]
  generalize (lg_sl ([.ref r0, .int x1]) ++ List.replicate (2 - (lg_sl ([.ref r0, .int x1])).length) Slot.unset).toArray = ls at hv ⊢
  have hv : lv_has ls 2 [(0, .ref r0), (1, .int x1)] := hv
  exact b_M_putTwo_0 C hl _ _ _ hw _ _ _ _ _ hv F
