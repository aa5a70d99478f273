set_option maxRecDepth 10000
/-! ChainJudgeModel.hostFits()Z: frames 2, words 32 -/
abbrev y_M_hostFits : MethodName := ⟨"ChainJudgeModel", "hostFits", "()Z"⟩
theorem lm_M_421 : Cond.methodLink "ChainJudgeModel" 421 y_M_likeHost ∈ tables_1 ∨ ∃ host, Cond.methodLinkNest "ChainJudgeModel" 421 y_M_likeHost host ∈ tables_1 := Or.inl (fx_m7 (List.mem_of_getElem? (i := 230) rfl))
section
variable {p : Program} {l : Launch} {e : Env} {R : Room} {s : State} {m : MethodId} {args : Array Value} {below : List Frame} {meth : Method} {c : Code} {H : Heap} {locs : List Loc} {cells slots : Nat}
variable {D : DD} {y : MethodName} {cc : ByteArray} {nL kf kw : Nat} {ret : Option FieldType} {hh : List (Nat × Nat × Nat × Nat)} {h0 h : AH} {pc : Nat} {ls : Array Slot} {rest : List Value} {b idx : Nat}
theorem iv_M_likeHost {x1 : Int32} {x2 : Int32} {x3 : Int32} (C : fx_CX D y cc nL kf kw ret hh h0 p R s m meth c) (F : fx_F D h0 h H locs cells slots) (hw1 : Cond.methodLink y.cls idx y_M_likeHost ∈ tables_1 ∨ ∃ host, Cond.methodLinkNest y.cls idx y_M_likeHost host ∈ tables_1) (hk : hp_k h b = 13) (hd : decode cc pc = .ok (.invokevirtual idx, 3)) : fx_IV p l e R s m args below meth c H locs cells slots (F0 m pc ls (.int x3 :: .int x2 :: .int x1 :: .ref b :: rest)) rest y_M_likeHost [.ref b, .int x1, .int x2, .int x3] 3 := fun T hT X => fx_invV (As := [.int x1, .int x2, .int x3]) (Cn := "ChainJudgeModel") C X hw1 (fx_m7 (List.mem_of_getElem? (i := 232) rfl)) (fx_selP C ⟨by decide, by decide⟩ (fx_m5 (List.mem_of_getElem? (i := 217) rfl)) (fx_m7 (List.mem_of_getElem? (i := 231) rfl)) (fx_m7 (List.mem_of_getElem? (i := 232) rfl))) hm_M_likeHost ⟨by decide, by decide⟩ (by rw [hT]; exact fx_clsO (ci := 12) (r := ("ChainJudgeModel", fx_T12, 57)) C F rfl (by decide) hk) rfl (n := 3) (by decide +kernel) rfl rfl hd
end
def dl_M_hostFits : List (Nat × Instr × Nat) := [(0, .iconst 0, 1), (1, .istore_n 1, 1), (2, .iload_n 1, 1), (3, .aload_n 0, 1), (4, .getfield 402, 3), (7, .if_icmp .ge 20, 3), (10, .aload_n 0, 1), (11, .getfield 17, 3), (14, .iload_n 1, 1), (15, .baload, 1), (16, .bipush 46, 2), (18, .if_icmp .eq 9, 3), (21, .iinc 1 1, 3), (24, .goto (-22), 3), (27, .aload_n 0, 1), (28, .aload_n 0, 1), (29, .getfield 193, 3), (32, .putfield 128, 3), (35, .aload_n 0, 1), (36, .iconst 0, 1), (37, .putfield 124, 3), (40, .aload_n 0, 1), (41, .getfield 128, 3), (44, .aload_n 0, 1), (45, .getfield 196, 3), (48, .if_icmp .ge 153, 3), (51, .aload_n 0, 1), (52, .aload_n 0, 1), (53, .getfield 128, 3), (56, .invokevirtual 131, 3), (59, .sipush 130, 3), (62, .if_icmp .ne 7, 3), (65, .iconst 1, 1), (66, .goto 4, 3), (69, .iconst 0, 1), (70, .istore_n 2, 1), (71, .aload_n 0, 1), (72, .iconst (-1), 1), (73, .aload_n 0, 1), (74, .getfield 196, 3), (77, .invokevirtual 140, 3), (80, .istore_n 3, 1), (81, .iload_n 3, 1), (82, .aload_n 0, 1), (83, .getfield 128, 3), (86, .isub, 1), (87, .istore 4, 2), (89, .iload_n 2, 1), (90, .ifCond .eq 19, 3), (93, .aload_n 0, 1), (94, .aload_n 0, 1), (95, .getfield 128, 3), (98, .iload 4, 2), (100, .iconst 0, 1), (101, .invokevirtual 421, 3), (104, .ifCond .eq 5, 3), (107, .iconst 1, 1), (108, .ireturn, 1), (109, .iload_n 2, 1), (110, .ifCond .eq 41, 3), (113, .iload 4, 2), (115, .iconst 2, 1), (116, .if_icmp .le 35, 3), (119, .aload_n 0, 1), (120, .aload_n 0, 1), (121, .getfield 128, 3), (124, .invokevirtual 131, 3), (127, .bipush 42, 2), (129, .if_icmp .ne 22, 3), (132, .aload_n 0, 1), (133, .aload_n 0, 1), (134, .getfield 128, 3), (137, .iconst 1, 1), (138, .iadd, 1), (139, .invokevirtual 131, 3), (142, .bipush 46, 2), (144, .if_icmp .ne 7, 3), (147, .iconst 1, 1), (148, .goto 4, 3), (151, .iconst 0, 1), (152, .istore 5, 2), (154, .iload 5, 2), (156, .ifCond .eq 37, 3), (159, .iload_n 1, 1), (160, .ifCond .le 33, 3), (163, .iload_n 1, 1), (164, .aload_n 0, 1), (165, .getfield 402, 3), (168, .if_icmp .ge 25, 3), (171, .aload_n 0, 1), (172, .aload_n 0, 1), (173, .getfield 128, 3), (176, .iconst 2, 1), (177, .iadd, 1), (178, .iload 4, 2), (180, .iconst 2, 1), (181, .isub, 1), (182, .iload_n 1, 1), (183, .iconst 1, 1), (184, .iadd, 1), (185, .invokevirtual 421, 3), (188, .ifCond .eq 5, 3), (191, .iconst 1, 1), (192, .ireturn, 1), (193, .aload_n 0, 1), (194, .iload_n 3, 1), (195, .putfield 128, 3), (198, .goto (-158), 3), (201, .iconst 0, 1), (202, .ireturn, 1)]
theorem dk_M_hostFits : fx_dec prog_15_method_73_code dl_M_hostFits = true := by decide +kernel
theorem d_M_hostFits_0 : decode prog_15_method_73_code 0 = .ok (.iconst 0, 1) := fx_dat dk_M_hostFits 0 rfl
theorem d_M_hostFits_1 : decode prog_15_method_73_code 1 = .ok (.istore_n 1, 1) := fx_dat dk_M_hostFits 1 rfl
theorem d_M_hostFits_2 : decode prog_15_method_73_code 2 = .ok (.iload_n 1, 1) := fx_dat dk_M_hostFits 2 rfl
theorem d_M_hostFits_3 : decode prog_15_method_73_code 3 = .ok (.aload_n 0, 1) := fx_dat dk_M_hostFits 3 rfl
theorem d_M_hostFits_4 : decode prog_15_method_73_code 4 = .ok (.getfield 402, 3) := fx_dat dk_M_hostFits 4 rfl
theorem d_M_hostFits_7 : decode prog_15_method_73_code 7 = .ok (.if_icmp .ge 20, 3) := fx_dat dk_M_hostFits 5 rfl
theorem d_M_hostFits_10 : decode prog_15_method_73_code 10 = .ok (.aload_n 0, 1) := fx_dat dk_M_hostFits 6 rfl
theorem d_M_hostFits_11 : decode prog_15_method_73_code 11 = .ok (.getfield 17, 3) := fx_dat dk_M_hostFits 7 rfl
theorem d_M_hostFits_14 : decode prog_15_method_73_code 14 = .ok (.iload_n 1, 1) := fx_dat dk_M_hostFits 8 rfl
theorem d_M_hostFits_15 : decode prog_15_method_73_code 15 = .ok (.baload, 1) := fx_dat dk_M_hostFits 9 rfl
theorem d_M_hostFits_16 : decode prog_15_method_73_code 16 = .ok (.bipush 46, 2) := fx_dat dk_M_hostFits 10 rfl
theorem d_M_hostFits_18 : decode prog_15_method_73_code 18 = .ok (.if_icmp .eq 9, 3) := fx_dat dk_M_hostFits 11 rfl
theorem d_M_hostFits_21 : decode prog_15_method_73_code 21 = .ok (.iinc 1 1, 3) := fx_dat dk_M_hostFits 12 rfl
theorem d_M_hostFits_24 : decode prog_15_method_73_code 24 = .ok (.goto (-22), 3) := fx_dat dk_M_hostFits 13 rfl
theorem d_M_hostFits_27 : decode prog_15_method_73_code 27 = .ok (.aload_n 0, 1) := fx_dat dk_M_hostFits 14 rfl
theorem d_M_hostFits_28 : decode prog_15_method_73_code 28 = .ok (.aload_n 0, 1) := fx_dat dk_M_hostFits 15 rfl
theorem d_M_hostFits_29 : decode prog_15_method_73_code 29 = .ok (.getfield 193, 3) := fx_dat dk_M_hostFits 16 rfl
theorem d_M_hostFits_32 : decode prog_15_method_73_code 32 = .ok (.putfield 128, 3) := fx_dat dk_M_hostFits 17 rfl
theorem d_M_hostFits_35 : decode prog_15_method_73_code 35 = .ok (.aload_n 0, 1) := fx_dat dk_M_hostFits 18 rfl
theorem d_M_hostFits_36 : decode prog_15_method_73_code 36 = .ok (.iconst 0, 1) := fx_dat dk_M_hostFits 19 rfl
theorem d_M_hostFits_37 : decode prog_15_method_73_code 37 = .ok (.putfield 124, 3) := fx_dat dk_M_hostFits 20 rfl
theorem d_M_hostFits_40 : decode prog_15_method_73_code 40 = .ok (.aload_n 0, 1) := fx_dat dk_M_hostFits 21 rfl
theorem d_M_hostFits_41 : decode prog_15_method_73_code 41 = .ok (.getfield 128, 3) := fx_dat dk_M_hostFits 22 rfl
theorem d_M_hostFits_44 : decode prog_15_method_73_code 44 = .ok (.aload_n 0, 1) := fx_dat dk_M_hostFits 23 rfl
theorem d_M_hostFits_45 : decode prog_15_method_73_code 45 = .ok (.getfield 196, 3) := fx_dat dk_M_hostFits 24 rfl
theorem d_M_hostFits_48 : decode prog_15_method_73_code 48 = .ok (.if_icmp .ge 153, 3) := fx_dat dk_M_hostFits 25 rfl
theorem d_M_hostFits_51 : decode prog_15_method_73_code 51 = .ok (.aload_n 0, 1) := fx_dat dk_M_hostFits 26 rfl
theorem d_M_hostFits_52 : decode prog_15_method_73_code 52 = .ok (.aload_n 0, 1) := fx_dat dk_M_hostFits 27 rfl
theorem d_M_hostFits_53 : decode prog_15_method_73_code 53 = .ok (.getfield 128, 3) := fx_dat dk_M_hostFits 28 rfl
theorem d_M_hostFits_56 : decode prog_15_method_73_code 56 = .ok (.invokevirtual 131, 3) := fx_dat dk_M_hostFits 29 rfl
theorem d_M_hostFits_59 : decode prog_15_method_73_code 59 = .ok (.sipush 130, 3) := fx_dat dk_M_hostFits 30 rfl
theorem d_M_hostFits_62 : decode prog_15_method_73_code 62 = .ok (.if_icmp .ne 7, 3) := fx_dat dk_M_hostFits 31 rfl
theorem d_M_hostFits_65 : decode prog_15_method_73_code 65 = .ok (.iconst 1, 1) := fx_dat dk_M_hostFits 32 rfl
theorem d_M_hostFits_66 : decode prog_15_method_73_code 66 = .ok (.goto 4, 3) := fx_dat dk_M_hostFits 33 rfl
theorem d_M_hostFits_69 : decode prog_15_method_73_code 69 = .ok (.iconst 0, 1) := fx_dat dk_M_hostFits 34 rfl
theorem d_M_hostFits_70 : decode prog_15_method_73_code 70 = .ok (.istore_n 2, 1) := fx_dat dk_M_hostFits 35 rfl
theorem d_M_hostFits_71 : decode prog_15_method_73_code 71 = .ok (.aload_n 0, 1) := fx_dat dk_M_hostFits 36 rfl
theorem d_M_hostFits_72 : decode prog_15_method_73_code 72 = .ok (.iconst (-1), 1) := fx_dat dk_M_hostFits 37 rfl
theorem d_M_hostFits_73 : decode prog_15_method_73_code 73 = .ok (.aload_n 0, 1) := fx_dat dk_M_hostFits 38 rfl
theorem d_M_hostFits_74 : decode prog_15_method_73_code 74 = .ok (.getfield 196, 3) := fx_dat dk_M_hostFits 39 rfl
theorem d_M_hostFits_77 : decode prog_15_method_73_code 77 = .ok (.invokevirtual 140, 3) := fx_dat dk_M_hostFits 40 rfl
theorem d_M_hostFits_80 : decode prog_15_method_73_code 80 = .ok (.istore_n 3, 1) := fx_dat dk_M_hostFits 41 rfl
theorem d_M_hostFits_81 : decode prog_15_method_73_code 81 = .ok (.iload_n 3, 1) := fx_dat dk_M_hostFits 42 rfl
theorem d_M_hostFits_82 : decode prog_15_method_73_code 82 = .ok (.aload_n 0, 1) := fx_dat dk_M_hostFits 43 rfl
theorem d_M_hostFits_83 : decode prog_15_method_73_code 83 = .ok (.getfield 128, 3) := fx_dat dk_M_hostFits 44 rfl
theorem d_M_hostFits_86 : decode prog_15_method_73_code 86 = .ok (.isub, 1) := fx_dat dk_M_hostFits 45 rfl
theorem d_M_hostFits_87 : decode prog_15_method_73_code 87 = .ok (.istore 4, 2) := fx_dat dk_M_hostFits 46 rfl
theorem d_M_hostFits_89 : decode prog_15_method_73_code 89 = .ok (.iload_n 2, 1) := fx_dat dk_M_hostFits 47 rfl
theorem d_M_hostFits_90 : decode prog_15_method_73_code 90 = .ok (.ifCond .eq 19, 3) := fx_dat dk_M_hostFits 48 rfl
theorem d_M_hostFits_93 : decode prog_15_method_73_code 93 = .ok (.aload_n 0, 1) := fx_dat dk_M_hostFits 49 rfl
theorem d_M_hostFits_94 : decode prog_15_method_73_code 94 = .ok (.aload_n 0, 1) := fx_dat dk_M_hostFits 50 rfl
theorem d_M_hostFits_95 : decode prog_15_method_73_code 95 = .ok (.getfield 128, 3) := fx_dat dk_M_hostFits 51 rfl
theorem d_M_hostFits_98 : decode prog_15_method_73_code 98 = .ok (.iload 4, 2) := fx_dat dk_M_hostFits 52 rfl
theorem d_M_hostFits_100 : decode prog_15_method_73_code 100 = .ok (.iconst 0, 1) := fx_dat dk_M_hostFits 53 rfl
theorem d_M_hostFits_101 : decode prog_15_method_73_code 101 = .ok (.invokevirtual 421, 3) := fx_dat dk_M_hostFits 54 rfl
theorem d_M_hostFits_104 : decode prog_15_method_73_code 104 = .ok (.ifCond .eq 5, 3) := fx_dat dk_M_hostFits 55 rfl
theorem d_M_hostFits_107 : decode prog_15_method_73_code 107 = .ok (.iconst 1, 1) := fx_dat dk_M_hostFits 56 rfl
theorem d_M_hostFits_108 : decode prog_15_method_73_code 108 = .ok (.ireturn, 1) := fx_dat dk_M_hostFits 57 rfl
theorem d_M_hostFits_109 : decode prog_15_method_73_code 109 = .ok (.iload_n 2, 1) := fx_dat dk_M_hostFits 58 rfl
theorem d_M_hostFits_110 : decode prog_15_method_73_code 110 = .ok (.ifCond .eq 41, 3) := fx_dat dk_M_hostFits 59 rfl
theorem d_M_hostFits_113 : decode prog_15_method_73_code 113 = .ok (.iload 4, 2) := fx_dat dk_M_hostFits 60 rfl
theorem d_M_hostFits_115 : decode prog_15_method_73_code 115 = .ok (.iconst 2, 1) := fx_dat dk_M_hostFits 61 rfl
theorem d_M_hostFits_116 : decode prog_15_method_73_code 116 = .ok (.if_icmp .le 35, 3) := fx_dat dk_M_hostFits 62 rfl
theorem d_M_hostFits_119 : decode prog_15_method_73_code 119 = .ok (.aload_n 0, 1) := fx_dat dk_M_hostFits 63 rfl
theorem d_M_hostFits_120 : decode prog_15_method_73_code 120 = .ok (.aload_n 0, 1) := fx_dat dk_M_hostFits 64 rfl
theorem d_M_hostFits_121 : decode prog_15_method_73_code 121 = .ok (.getfield 128, 3) := fx_dat dk_M_hostFits 65 rfl
theorem d_M_hostFits_124 : decode prog_15_method_73_code 124 = .ok (.invokevirtual 131, 3) := fx_dat dk_M_hostFits 66 rfl
theorem d_M_hostFits_127 : decode prog_15_method_73_code 127 = .ok (.bipush 42, 2) := fx_dat dk_M_hostFits 67 rfl
theorem d_M_hostFits_129 : decode prog_15_method_73_code 129 = .ok (.if_icmp .ne 22, 3) := fx_dat dk_M_hostFits 68 rfl
theorem d_M_hostFits_132 : decode prog_15_method_73_code 132 = .ok (.aload_n 0, 1) := fx_dat dk_M_hostFits 69 rfl
theorem d_M_hostFits_133 : decode prog_15_method_73_code 133 = .ok (.aload_n 0, 1) := fx_dat dk_M_hostFits 70 rfl
theorem d_M_hostFits_134 : decode prog_15_method_73_code 134 = .ok (.getfield 128, 3) := fx_dat dk_M_hostFits 71 rfl
theorem d_M_hostFits_137 : decode prog_15_method_73_code 137 = .ok (.iconst 1, 1) := fx_dat dk_M_hostFits 72 rfl
theorem d_M_hostFits_138 : decode prog_15_method_73_code 138 = .ok (.iadd, 1) := fx_dat dk_M_hostFits 73 rfl
theorem d_M_hostFits_139 : decode prog_15_method_73_code 139 = .ok (.invokevirtual 131, 3) := fx_dat dk_M_hostFits 74 rfl
theorem d_M_hostFits_142 : decode prog_15_method_73_code 142 = .ok (.bipush 46, 2) := fx_dat dk_M_hostFits 75 rfl
theorem d_M_hostFits_144 : decode prog_15_method_73_code 144 = .ok (.if_icmp .ne 7, 3) := fx_dat dk_M_hostFits 76 rfl
theorem d_M_hostFits_147 : decode prog_15_method_73_code 147 = .ok (.iconst 1, 1) := fx_dat dk_M_hostFits 77 rfl
theorem d_M_hostFits_148 : decode prog_15_method_73_code 148 = .ok (.goto 4, 3) := fx_dat dk_M_hostFits 78 rfl
theorem d_M_hostFits_151 : decode prog_15_method_73_code 151 = .ok (.iconst 0, 1) := fx_dat dk_M_hostFits 79 rfl
theorem d_M_hostFits_152 : decode prog_15_method_73_code 152 = .ok (.istore 5, 2) := fx_dat dk_M_hostFits 80 rfl
theorem d_M_hostFits_154 : decode prog_15_method_73_code 154 = .ok (.iload 5, 2) := fx_dat dk_M_hostFits 81 rfl
theorem d_M_hostFits_156 : decode prog_15_method_73_code 156 = .ok (.ifCond .eq 37, 3) := fx_dat dk_M_hostFits 82 rfl
theorem d_M_hostFits_159 : decode prog_15_method_73_code 159 = .ok (.iload_n 1, 1) := fx_dat dk_M_hostFits 83 rfl
theorem d_M_hostFits_160 : decode prog_15_method_73_code 160 = .ok (.ifCond .le 33, 3) := fx_dat dk_M_hostFits 84 rfl
theorem d_M_hostFits_163 : decode prog_15_method_73_code 163 = .ok (.iload_n 1, 1) := fx_dat dk_M_hostFits 85 rfl
theorem d_M_hostFits_164 : decode prog_15_method_73_code 164 = .ok (.aload_n 0, 1) := fx_dat dk_M_hostFits 86 rfl
theorem d_M_hostFits_165 : decode prog_15_method_73_code 165 = .ok (.getfield 402, 3) := fx_dat dk_M_hostFits 87 rfl
theorem d_M_hostFits_168 : decode prog_15_method_73_code 168 = .ok (.if_icmp .ge 25, 3) := fx_dat dk_M_hostFits 88 rfl
theorem d_M_hostFits_171 : decode prog_15_method_73_code 171 = .ok (.aload_n 0, 1) := fx_dat dk_M_hostFits 89 rfl
theorem d_M_hostFits_172 : decode prog_15_method_73_code 172 = .ok (.aload_n 0, 1) := fx_dat dk_M_hostFits 90 rfl
theorem d_M_hostFits_173 : decode prog_15_method_73_code 173 = .ok (.getfield 128, 3) := fx_dat dk_M_hostFits 91 rfl
theorem d_M_hostFits_176 : decode prog_15_method_73_code 176 = .ok (.iconst 2, 1) := fx_dat dk_M_hostFits 92 rfl
theorem d_M_hostFits_177 : decode prog_15_method_73_code 177 = .ok (.iadd, 1) := fx_dat dk_M_hostFits 93 rfl
theorem d_M_hostFits_178 : decode prog_15_method_73_code 178 = .ok (.iload 4, 2) := fx_dat dk_M_hostFits 94 rfl
theorem d_M_hostFits_180 : decode prog_15_method_73_code 180 = .ok (.iconst 2, 1) := fx_dat dk_M_hostFits 95 rfl
theorem d_M_hostFits_181 : decode prog_15_method_73_code 181 = .ok (.isub, 1) := fx_dat dk_M_hostFits 96 rfl
theorem d_M_hostFits_182 : decode prog_15_method_73_code 182 = .ok (.iload_n 1, 1) := fx_dat dk_M_hostFits 97 rfl
theorem d_M_hostFits_183 : decode prog_15_method_73_code 183 = .ok (.iconst 1, 1) := fx_dat dk_M_hostFits 98 rfl
theorem d_M_hostFits_184 : decode prog_15_method_73_code 184 = .ok (.iadd, 1) := fx_dat dk_M_hostFits 99 rfl
theorem d_M_hostFits_185 : decode prog_15_method_73_code 185 = .ok (.invokevirtual 421, 3) := fx_dat dk_M_hostFits 100 rfl
theorem d_M_hostFits_188 : decode prog_15_method_73_code 188 = .ok (.ifCond .eq 5, 3) := fx_dat dk_M_hostFits 101 rfl
theorem d_M_hostFits_191 : decode prog_15_method_73_code 191 = .ok (.iconst 1, 1) := fx_dat dk_M_hostFits 102 rfl
theorem d_M_hostFits_192 : decode prog_15_method_73_code 192 = .ok (.ireturn, 1) := fx_dat dk_M_hostFits 103 rfl
theorem d_M_hostFits_193 : decode prog_15_method_73_code 193 = .ok (.aload_n 0, 1) := fx_dat dk_M_hostFits 104 rfl
theorem d_M_hostFits_194 : decode prog_15_method_73_code 194 = .ok (.iload_n 3, 1) := fx_dat dk_M_hostFits 105 rfl
theorem d_M_hostFits_195 : decode prog_15_method_73_code 195 = .ok (.putfield 128, 3) := fx_dat dk_M_hostFits 106 rfl
theorem d_M_hostFits_198 : decode prog_15_method_73_code 198 = .ok (.goto (-158), 3) := fx_dat dk_M_hostFits 107 rfl
theorem d_M_hostFits_201 : decode prog_15_method_73_code 201 = .ok (.iconst 0, 1) := fx_dat dk_M_hostFits 108 rfl
theorem d_M_hostFits_202 : decode prog_15_method_73_code 202 = .ok (.ireturn, 1) := fx_dat dk_M_hostFits 109 rfl
def m_M_hostFits_193 (Q : Int32 → AH → Prop) (X40 : AH → Prop) (r0 : Nat) (x1 : Int32) (x3 : Int32) (h : AH) : Prop := hp_k h r0 = 13 ∧ ∀ h1 : AH, h1 = up_I h r0 20 x3 → X40 h1
def m_M_hostFits_152 (Q : Int32 → AH → Prop) (X40 : AH → Prop) (r0 : Nat) (x1 : Int32) (x3 : Int32) (x4 : Int32) (sx0 : Int32) (h : AH) : Prop := (sx0 = 0 → m_M_hostFits_193 Q X40 r0 x1 x3 h) ∧ (¬ sx0 = 0 → (x1 ≤ 0 → m_M_hostFits_193 Q X40 r0 x1 x3 h) ∧ (¬ x1 ≤ 0 → hp_k h r0 = 13 ∧ ((hp_I h r0 6) ≤ x1 → m_M_hostFits_193 Q X40 r0 x1 x3 h) ∧ (¬ (hp_I h r0 6) ≤ x1 → m_M_likeHost (fun v1 h1 => fx_ext h h1 → zb v1 → (v1 = 0 → m_M_hostFits_193 Q X40 r0 x1 x3 h1) ∧ (¬ v1 = 0 → Q (1 : Int32) h1)) r0 ((hp_I h r0 20) + (2 : Int32)) (x4 - (2 : Int32)) (x1 + (1 : Int32)) h)))
def m_M_hostFits_151 (Q : Int32 → AH → Prop) (X40 : AH → Prop) (r0 : Nat) (x1 : Int32) (x3 : Int32) (x4 : Int32) (h : AH) : Prop := m_M_hostFits_152 Q X40 r0 x1 x3 x4 (0 : Int32) h
def m_M_hostFits_109 (Q : Int32 → AH → Prop) (X40 : AH → Prop) (r0 : Nat) (x1 : Int32) (x2 : Int32) (x3 : Int32) (x4 : Int32) (h : AH) : Prop := (x2 = 0 → m_M_hostFits_151 Q X40 r0 x1 x3 x4 h) ∧ (¬ x2 = 0 → (x4 ≤ (2 : Int32) → m_M_hostFits_151 Q X40 r0 x1 x3 x4 h) ∧ (¬ x4 ≤ (2 : Int32) → hp_k h r0 = 13 ∧ m_M_here (fun v1 h1 => fx_ext h h1 → (¬ v1 = (42 : Int32) → m_M_hostFits_151 Q X40 r0 x1 x3 x4 h1) ∧ (v1 = (42 : Int32) → m_M_here (fun v2 h2 => fx_ext h1 h2 → (¬ v2 = (46 : Int32) → m_M_hostFits_151 Q X40 r0 x1 x3 x4 h2) ∧ (v2 = (46 : Int32) → m_M_hostFits_152 Q X40 r0 x1 x3 x4 (1 : Int32) h2)) r0 ((hp_I h1 r0 20) + (1 : Int32)) h1)) r0 (hp_I h r0 20) h))
def m_M_hostFits_70 (Q : Int32 → AH → Prop) (X40 : AH → Prop) (r0 : Nat) (x1 : Int32) (sx0 : Int32) (h : AH) : Prop := hp_k h r0 = 13 ∧ m_M_open (fun v1 h1 => fx_ext h h1 → ∀ v2 : Int32, v2 = (v1 - (hp_I h1 r0 20)) → (sx0 = 0 → m_M_hostFits_109 Q X40 r0 x1 sx0 v1 v2 h1) ∧ (¬ sx0 = 0 → m_M_likeHost (fun v3 h2 => fx_ext h1 h2 → zb v3 → (v3 = 0 → m_M_hostFits_109 Q X40 r0 x1 sx0 v1 v2 h2) ∧ (¬ v3 = 0 → Q (1 : Int32) h2)) r0 (hp_I h1 r0 20) v2 (0 : Int32) h1)) r0 (-1 : Int32) (hp_I h r0 43) h
def m_M_hostFits_40_b (Q : Int32 → AH → Prop) (X40 : AH → Prop) (r0 : Nat) (x1 : Int32) (h : AH) : Prop := hp_k h r0 = 13 ∧ ((hp_I h r0 43) ≤ (hp_I h r0 20) → Q (0 : Int32) h) ∧ (¬ (hp_I h r0 43) ≤ (hp_I h r0 20) → m_M_here (fun v1 h1 => fx_ext h h1 → (¬ v1 = (130 : Int32) → m_M_hostFits_70 Q X40 r0 x1 (0 : Int32) h1) ∧ (v1 = (130 : Int32) → m_M_hostFits_70 Q X40 r0 x1 (1 : Int32) h1)) r0 (hp_I h r0 20) h)
def m_M_hostFits_40 (Q : Int32 → AH → Prop) (r0 : Nat) (x1 : Int32) (h : AH) : Prop := fx_loop (fun (X40 : AH → Prop) (st : AH) => m_M_hostFits_40_b Q X40 r0 x1 st) (h)
def m_M_hostFits_27 (Q : Int32 → AH → Prop) (r0 : Nat) (x1 : Int32) (h : AH) : Prop := hp_k h r0 = 13 ∧ ∀ h1 : AH, h1 = up_I h r0 20 (hp_I h r0 42) → ∀ h2 : AH, h2 = up_I h1 r0 21 (0 : Int32) → m_M_hostFits_40 Q r0 x1 h2
def m_M_hostFits_2_b (Q : Int32 → AH → Prop) (X2 : Int32 × AH → Prop) (r0 : Nat) (x1 : Int32) (h : AH) : Prop := hp_k h r0 = 13 ∧ ((hp_I h r0 6) ≤ x1 → m_M_hostFits_27 Q r0 x1 h) ∧ (¬ (hp_I h r0 6) ≤ x1 → ∃ b1, hp_R h r0 3 = some b1 ∧ bk (hp_k h b1) ∧ vp_in x1 (hp_n h b1) ∧ (by8 (hp_I h b1 x1.toNatClampNeg) → ((hp_I h b1 x1.toNatClampNeg) = (46 : Int32) → m_M_hostFits_27 Q r0 x1 h) ∧ (¬ (hp_I h b1 x1.toNatClampNeg) = (46 : Int32) → ∀ v1 : Int32, v1 = (x1 + (1 : Int32)) → X2 (v1, h))))
def m_M_hostFits_2 (Q : Int32 → AH → Prop) (r0 : Nat) (x1 : Int32) (h : AH) : Prop := fx_loop (fun (X2 : Int32 × AH → Prop) (st : Int32 × AH) => m_M_hostFits_2_b Q X2 r0 st.1 st.2) (x1, h)
def m_M_hostFits (Q : Int32 → AH → Prop) (r0 : Nat) (h : AH) : Prop := m_M_hostFits_2 Q r0 (0 : Int32) h
theorem b_M_hostFits_193 {p : Program} {l : Launch} {e : Env} {R : Room} {s : State} {m : MethodId} {args : Array Value} {below : List Frame} {meth : Method} {c : Code} {D : DD} {h0 : AH} {Q : Int32 → AH → Prop} {X40 : AH → Prop} (C : fx_CX D y_M_hostFits prog_15_method_73_code 6 2 32 (Option.some FieldType.boolean) [] h0 p R s m meth c) (hl : l.flags = flags0) (r0 : Nat) (x1 : Int32) (x3 : Int32) (h : AH) (hX40 : ∀ st, X40 st → ∀ (ls : Array Slot) (H : Heap) (locs : List Loc) (cells slots : Nat), lv_has ls 6 [(0, .ref r0), (1, .int x1)] → fx_F D h0 st H locs cells slots → W p l e R s m args below meth c H locs cells slots (fx_Z D below s h0 (fx_oZ Q fx_no)) (F0 m 40 ls [])) (hw : m_M_hostFits_193 Q X40 r0 x1 x3 h) : ∀ (ls : Array Slot) (H : Heap) (locs : List Loc) (cells slots : Nat), lv_has ls 6 [(0, .ref r0), (1, .int x1), (3, .int x3)] → fx_F D h0 h H locs cells slots → W p l e R s m args below meth c H locs cells slots (fx_Z D below s h0 (fx_oZ Q fx_no)) (F0 m 193 ls []) := by
  unfold m_M_hostFits_193 at hw
  intro ls H locs cells slots hv F
  refine lv_aload_n C.ex C.by d_M_hostFits_193 rfl (lv_at hv 0 rfl) ?_
  refine lv_iload_n C.ex C.by d_M_hostFits_194 rfl (lv_at hv 2 rfl) ?_
  obtain ⟨hk1, hw⟩ := hw
  let h1 : AH := up_I h r0 20 x3
  replace hw := hw h1 rfl
  refine fx_putI C F lf_M_128 hk1 rfl rfl (fx_mayF.no rfl rfl) d_M_hostFits_195 (fun H locs (F : fx_F D h0 h1 H locs _ _) => ?_)
  refine lv_goto C.ex C.by d_M_hostFits_198 rfl ?_
  exact hX40 _ hw _ _ _ _ _ (lv_sub hv [0, 1] rfl) F
theorem b_M_hostFits_152 {p : Program} {l : Launch} {e : Env} {R : Room} {s : State} {m : MethodId} {args : Array Value} {below : List Frame} {meth : Method} {c : Code} {D : DD} {h0 : AH} {Q : Int32 → AH → Prop} {X40 : AH → Prop} (C : fx_CX D y_M_hostFits prog_15_method_73_code 6 2 32 (Option.some FieldType.boolean) [] h0 p R s m meth c) (hl : l.flags = flags0) (r0 : Nat) (x1 : Int32) (x3 : Int32) (x4 : Int32) (sx0 : Int32) (h : AH) (hX40 : ∀ st, X40 st → ∀ (ls : Array Slot) (H : Heap) (locs : List Loc) (cells slots : Nat), lv_has ls 6 [(0, .ref r0), (1, .int x1)] → fx_F D h0 st H locs cells slots → W p l e R s m args below meth c H locs cells slots (fx_Z D below s h0 (fx_oZ Q fx_no)) (F0 m 40 ls [])) (hw : m_M_hostFits_152 Q X40 r0 x1 x3 x4 sx0 h) : ∀ (ls : Array Slot) (H : Heap) (locs : List Loc) (cells slots : Nat), lv_has ls 6 [(0, .ref r0), (1, .int x1), (3, .int x3), (4, .int x4)] → fx_F D h0 h H locs cells slots → W p l e R s m args below meth c H locs cells slots (fx_Z D below s h0 (fx_oZ Q fx_no)) (F0 m 152 ls [.int sx0]) := by
  unfold m_M_hostFits_152 at hw
  intro ls H locs cells slots hv F
  refine lv_istore (lv' := [(5, .int sx0), (0, .ref r0), (1, .int x1), (3, .int x3), (4, .int x4)]) C.ex C.by d_M_hostFits_152 hv (by decide) rfl (fun ls hv => ?_)
  refine lv_iload C.ex C.by d_M_hostFits_154 (lv_at hv 0 rfl) ?_
  refine lv_if_eq C.ex C.by d_M_hostFits_156 rfl (fun hc => ?_) (fun hc => ?_)
  · replace hw := hw.1 hc
    exact b_M_hostFits_193 C hl _ _ _ _ hX40 hw _ _ _ _ _ (lv_sub hv [1, 2, 3] rfl) F
  · replace hw := hw.2 hc
    refine lv_iload_n C.ex C.by d_M_hostFits_159 rfl (lv_at hv 2 rfl) ?_
    refine lv_if_le C.ex C.by d_M_hostFits_160 rfl (fun hc => ?_) (fun hc => ?_)
    · replace hw := hw.1 hc
      exact b_M_hostFits_193 C hl _ _ _ _ hX40 hw _ _ _ _ _ (lv_sub hv [1, 2, 3] rfl) F
    · replace hw := hw.2 hc
      refine lv_iload_n C.ex C.by d_M_hostFits_163 rfl (lv_at hv 2 rfl) ?_
      refine lv_aload_n C.ex C.by d_M_hostFits_164 rfl (lv_at hv 1 rfl) ?_
      obtain ⟨hk1, hw⟩ := hw
      refine fx_getI C F lf_M_402 hk1 rfl d_M_hostFits_165 ?_
      refine lv_icmp_ge C.ex C.by d_M_hostFits_168 rfl (fun hc => ?_) (fun hc => ?_)
      · replace hw := hw.1 hc
        exact b_M_hostFits_193 C hl _ _ _ _ hX40 hw _ _ _ _ _ (lv_sub hv [1, 2, 3] rfl) F
      · replace hw := hw.2 hc
        refine lv_aload_n C.ex C.by d_M_hostFits_171 rfl (lv_at hv 1 rfl) ?_
        refine lv_aload_n C.ex C.by d_M_hostFits_172 rfl (lv_at hv 1 rfl) ?_
        refine fx_getI C F lf_M_128 hk1 rfl d_M_hostFits_173 ?_
        refine lv_iconst (v := (2 : Int32)) C.ex C.by d_M_hostFits_176 (by decide) ?_
        refine lv_iadd C.ex C.by d_M_hostFits_177 ?_
        refine lv_iload C.ex C.by d_M_hostFits_178 (lv_at hv 4 rfl) ?_
        refine lv_iconst (v := (2 : Int32)) C.ex C.by d_M_hostFits_180 (by decide) ?_
        refine lv_isub C.ex C.by d_M_hostFits_181 ?_
        refine lv_iload_n C.ex C.by d_M_hostFits_182 rfl (lv_at hv 2 rfl) ?_
        refine lv_iconst (v := (1 : Int32)) C.ex C.by d_M_hostFits_183 (by decide) ?_
        refine lv_iadd C.ex C.by d_M_hostFits_184 ?_
        refine fx_callZ C F (c_M_likeHost hl hw) hm_M_likeHost hi_M_likeHost hv.1 (by decide) (Nat.le_of_ble_eq_true rfl) (iv_M_likeHost C F lm_M_421 hk1 d_M_hostFits_185) (fx_out0 _) fx_eno (fun v1 h1 H locs cells slots hw hx1 hzb F => ?_)
        replace hw := hw hx1 hzb
        have hk1 := (hx1).k hk1
        refine lv_if_eq C.ex C.by d_M_hostFits_188 rfl (fun hc => ?_) (fun hc => ?_)
        · replace hw := hw.1 hc
          exact b_M_hostFits_193 C hl _ _ _ _ hX40 hw _ _ _ _ _ (lv_sub hv [1, 2, 3] rfl) F
        · replace hw := hw.2 hc
          refine lv_iconst (v := (1 : Int32)) C.ex C.by d_M_hostFits_191 (by decide) ?_
          exact fx_zret C F d_M_hostFits_192 (Or.inr rfl) (Or.inl ⟨_, rfl, Or.inr rfl, hw⟩)
theorem b_M_hostFits_151 {p : Program} {l : Launch} {e : Env} {R : Room} {s : State} {m : MethodId} {args : Array Value} {below : List Frame} {meth : Method} {c : Code} {D : DD} {h0 : AH} {Q : Int32 → AH → Prop} {X40 : AH → Prop} (C : fx_CX D y_M_hostFits prog_15_method_73_code 6 2 32 (Option.some FieldType.boolean) [] h0 p R s m meth c) (hl : l.flags = flags0) (r0 : Nat) (x1 : Int32) (x3 : Int32) (x4 : Int32) (h : AH) (hX40 : ∀ st, X40 st → ∀ (ls : Array Slot) (H : Heap) (locs : List Loc) (cells slots : Nat), lv_has ls 6 [(0, .ref r0), (1, .int x1)] → fx_F D h0 st H locs cells slots → W p l e R s m args below meth c H locs cells slots (fx_Z D below s h0 (fx_oZ Q fx_no)) (F0 m 40 ls [])) (hw : m_M_hostFits_151 Q X40 r0 x1 x3 x4 h) : ∀ (ls : Array Slot) (H : Heap) (locs : List Loc) (cells slots : Nat), lv_has ls 6 [(0, .ref r0), (1, .int x1), (3, .int x3), (4, .int x4)] → fx_F D h0 h H locs cells slots → W p l e R s m args below meth c H locs cells slots (fx_Z D below s h0 (fx_oZ Q fx_no)) (F0 m 151 ls []) := by
  unfold m_M_hostFits_151 at hw
  intro ls H locs cells slots hv F
  refine lv_iconst (v := (0 : Int32)) C.ex C.by d_M_hostFits_151 (by decide) ?_
  exact b_M_hostFits_152 C hl _ _ _ _ _ _ hX40 hw _ _ _ _ _ hv F
theorem b_M_hostFits_109 {p : Program} {l : Launch} {e : Env} {R : Room} {s : State} {m : MethodId} {args : Array Value} {below : List Frame} {meth : Method} {c : Code} {D : DD} {h0 : AH} {Q : Int32 → AH → Prop} {X40 : AH → Prop} (C : fx_CX D y_M_hostFits prog_15_method_73_code 6 2 32 (Option.some FieldType.boolean) [] h0 p R s m meth c) (hl : l.flags = flags0) (r0 : Nat) (x1 : Int32) (x2 : Int32) (x3 : Int32) (x4 : Int32) (h : AH) (hX40 : ∀ st, X40 st → ∀ (ls : Array Slot) (H : Heap) (locs : List Loc) (cells slots : Nat), lv_has ls 6 [(0, .ref r0), (1, .int x1)] → fx_F D h0 st H locs cells slots → W p l e R s m args below meth c H locs cells slots (fx_Z D below s h0 (fx_oZ Q fx_no)) (F0 m 40 ls [])) (hw : m_M_hostFits_109 Q X40 r0 x1 x2 x3 x4 h) : ∀ (ls : Array Slot) (H : Heap) (locs : List Loc) (cells slots : Nat), lv_has ls 6 [(0, .ref r0), (1, .int x1), (2, .int x2), (3, .int x3), (4, .int x4)] → fx_F D h0 h H locs cells slots → W p l e R s m args below meth c H locs cells slots (fx_Z D below s h0 (fx_oZ Q fx_no)) (F0 m 109 ls []) := by
  unfold m_M_hostFits_109 at hw
  intro ls H locs cells slots hv F
  refine lv_iload_n C.ex C.by d_M_hostFits_109 rfl (lv_at hv 2 rfl) ?_
  refine lv_if_eq C.ex C.by d_M_hostFits_110 rfl (fun hc => ?_) (fun hc => ?_)
  · replace hw := hw.1 hc
    exact b_M_hostFits_151 C hl _ _ _ _ _ hX40 hw _ _ _ _ _ (lv_sub hv [0, 1, 3, 4] rfl) F
  · replace hw := hw.2 hc
    refine lv_iload C.ex C.by d_M_hostFits_113 (lv_at hv 4 rfl) ?_
    refine lv_iconst (v := (2 : Int32)) C.ex C.by d_M_hostFits_115 (by decide) ?_
    refine lv_icmp_le C.ex C.by d_M_hostFits_116 rfl (fun hc => ?_) (fun hc => ?_)
    · replace hw := hw.1 hc
      exact b_M_hostFits_151 C hl _ _ _ _ _ hX40 hw _ _ _ _ _ (lv_sub hv [0, 1, 3, 4] rfl) F
    · replace hw := hw.2 hc
      refine lv_aload_n C.ex C.by d_M_hostFits_119 rfl (lv_at hv 0 rfl) ?_
      refine lv_aload_n C.ex C.by d_M_hostFits_120 rfl (lv_at hv 0 rfl) ?_
      obtain ⟨hk1, hw⟩ := hw
      refine fx_getI C F lf_M_128 hk1 rfl d_M_hostFits_121 ?_
      refine fx_callI C F (c_M_here hl hw) hm_M_here hi_M_here hv.1 (by decide) (Nat.le_of_ble_eq_true rfl) (iv_M_here C F lm_M_131 hk1 d_M_hostFits_124) (fx_out0 _) fx_eno (fun v1 h1 H locs cells slots hw hx1 F => ?_)
      replace hw := hw hx1
      have hk1 := (hx1).k hk1
      refine lv_bipush (v := (42 : Int32)) C.ex C.by d_M_hostFits_127 (by decide) ?_
      refine lv_icmp_ne C.ex C.by d_M_hostFits_129 rfl (fun hc => ?_) (fun hc => ?_)
      · replace hw := hw.1 hc
        exact b_M_hostFits_151 C hl _ _ _ _ _ hX40 hw _ _ _ _ _ (lv_sub hv [0, 1, 3, 4] rfl) F
      · replace hw := hw.2 hc
        refine lv_aload_n C.ex C.by d_M_hostFits_132 rfl (lv_at hv 0 rfl) ?_
        refine lv_aload_n C.ex C.by d_M_hostFits_133 rfl (lv_at hv 0 rfl) ?_
        refine fx_getI C F lf_M_128 hk1 rfl d_M_hostFits_134 ?_
        refine lv_iconst (v := (1 : Int32)) C.ex C.by d_M_hostFits_137 (by decide) ?_
        refine lv_iadd C.ex C.by d_M_hostFits_138 ?_
        refine fx_callI C F (c_M_here hl hw) hm_M_here hi_M_here hv.1 (by decide) (Nat.le_of_ble_eq_true rfl) (iv_M_here C F lm_M_131 hk1 d_M_hostFits_139) (fx_out0 _) fx_eno (fun v2 h2 H locs cells slots hw hx2 F => ?_)
        replace hw := hw hx2
        have hk1 := (hx2).k hk1
        refine lv_bipush (v := (46 : Int32)) C.ex C.by d_M_hostFits_142 (by decide) ?_
        refine lv_icmp_ne C.ex C.by d_M_hostFits_144 rfl (fun hc => ?_) (fun hc => ?_)
        · replace hw := hw.1 hc
          exact b_M_hostFits_151 C hl _ _ _ _ _ hX40 hw _ _ _ _ _ (lv_sub hv [0, 1, 3, 4] rfl) F
        · replace hw := hw.2 hc
          refine lv_iconst (v := (1 : Int32)) C.ex C.by d_M_hostFits_147 (by decide) ?_
          refine lv_goto C.ex C.by d_M_hostFits_148 rfl ?_
          exact b_M_hostFits_152 C hl _ _ _ _ _ _ hX40 hw _ _ _ _ _ (lv_sub hv [0, 1, 3, 4] rfl) F
theorem b_M_hostFits_70 {p : Program} {l : Launch} {e : Env} {R : Room} {s : State} {m : MethodId} {args : Array Value} {below : List Frame} {meth : Method} {c : Code} {D : DD} {h0 : AH} {Q : Int32 → AH → Prop} {X40 : AH → Prop} (C : fx_CX D y_M_hostFits prog_15_method_73_code 6 2 32 (Option.some FieldType.boolean) [] h0 p R s m meth c) (hl : l.flags = flags0) (r0 : Nat) (x1 : Int32) (sx0 : Int32) (h : AH) (hX40 : ∀ st, X40 st → ∀ (ls : Array Slot) (H : Heap) (locs : List Loc) (cells slots : Nat), lv_has ls 6 [(0, .ref r0), (1, .int x1)] → fx_F D h0 st H locs cells slots → W p l e R s m args below meth c H locs cells slots (fx_Z D below s h0 (fx_oZ Q fx_no)) (F0 m 40 ls [])) (hw : m_M_hostFits_70 Q X40 r0 x1 sx0 h) : ∀ (ls : Array Slot) (H : Heap) (locs : List Loc) (cells slots : Nat), lv_has ls 6 [(0, .ref r0), (1, .int x1)] → fx_F D h0 h H locs cells slots → W p l e R s m args below meth c H locs cells slots (fx_Z D below s h0 (fx_oZ Q fx_no)) (F0 m 70 ls [.int sx0]) := by
  unfold m_M_hostFits_70 at hw
  intro ls H locs cells slots hv F
  refine lv_istore_n (lv' := [(2, .int sx0), (0, .ref r0), (1, .int x1)]) C.ex C.by d_M_hostFits_70 rfl hv (by decide) rfl (fun ls hv => ?_)
  refine lv_aload_n C.ex C.by d_M_hostFits_71 rfl (lv_at hv 1 rfl) ?_
  refine lv_iconst (v := (-1 : Int32)) C.ex C.by d_M_hostFits_72 (by decide) ?_
  refine lv_aload_n C.ex C.by d_M_hostFits_73 rfl (lv_at hv 1 rfl) ?_
  obtain ⟨hk1, hw⟩ := hw
  refine fx_getI C F lf_M_196 hk1 rfl d_M_hostFits_74 ?_
  refine fx_callI C F (c_M_open hl hw) hm_M_open hi_M_open hv.1 (by decide) (Nat.le_of_ble_eq_true rfl) (iv_M_open C F lm_M_140 hk1 d_M_hostFits_77) (fx_out0 _) fx_eno (fun v1 h1 H locs cells slots hw hx1 F => ?_)
  replace hw := hw hx1
  have hk1 := (hx1).k hk1
  refine lv_istore_n (lv' := [(3, .int v1), (2, .int sx0), (0, .ref r0), (1, .int x1)]) C.ex C.by d_M_hostFits_80 rfl hv (by decide) rfl (fun ls hv => ?_)
  refine lv_iload_n C.ex C.by d_M_hostFits_81 rfl (lv_at hv 0 rfl) ?_
  refine lv_aload_n C.ex C.by d_M_hostFits_82 rfl (lv_at hv 2 rfl) ?_
  refine fx_getI C F lf_M_128 hk1 rfl d_M_hostFits_83 ?_
  refine lv_isub C.ex C.by d_M_hostFits_86 ?_
  let v2 : Int32 := (v1 - (hp_I h1 r0 20))
  replace hw := hw v2 rfl
  refine lv_istore (lv' := [(4, .int v2), (3, .int v1), (2, .int sx0), (0, .ref r0), (1, .int x1)]) C.ex C.by d_M_hostFits_87 hv (by decide) rfl (fun ls hv => ?_)
  refine lv_iload_n C.ex C.by d_M_hostFits_89 rfl (lv_at hv 2 rfl) ?_
  refine lv_if_eq C.ex C.by d_M_hostFits_90 rfl (fun hc => ?_) (fun hc => ?_)
  · replace hw := hw.1 hc
    exact b_M_hostFits_109 C hl _ _ _ _ _ _ hX40 hw _ _ _ _ _ (lv_sub hv [3, 4, 2, 1, 0] rfl) F
  · replace hw := hw.2 hc
    refine lv_aload_n C.ex C.by d_M_hostFits_93 rfl (lv_at hv 3 rfl) ?_
    refine lv_aload_n C.ex C.by d_M_hostFits_94 rfl (lv_at hv 3 rfl) ?_
    refine fx_getI C F lf_M_128 hk1 rfl d_M_hostFits_95 ?_
    refine lv_iload C.ex C.by d_M_hostFits_98 (lv_at hv 0 rfl) ?_
    refine lv_iconst (v := (0 : Int32)) C.ex C.by d_M_hostFits_100 (by decide) ?_
    refine fx_callZ C F (c_M_likeHost hl hw) hm_M_likeHost hi_M_likeHost hv.1 (by decide) (Nat.le_of_ble_eq_true rfl) (iv_M_likeHost C F lm_M_421 hk1 d_M_hostFits_101) (fx_out0 _) fx_eno (fun v3 h2 H locs cells slots hw hx2 hzb F => ?_)
    replace hw := hw hx2 hzb
    have hk1 := (hx2).k hk1
    refine lv_if_eq C.ex C.by d_M_hostFits_104 rfl (fun hc => ?_) (fun hc => ?_)
    · replace hw := hw.1 hc
      exact b_M_hostFits_109 C hl _ _ _ _ _ _ hX40 hw _ _ _ _ _ (lv_sub hv [3, 4, 2, 1, 0] rfl) F
    · replace hw := hw.2 hc
      refine lv_iconst (v := (1 : Int32)) C.ex C.by d_M_hostFits_107 (by decide) ?_
      exact fx_zret C F d_M_hostFits_108 (Or.inr rfl) (Or.inl ⟨_, rfl, Or.inr rfl, hw⟩)
theorem b_M_hostFits_40 {p : Program} {l : Launch} {e : Env} {R : Room} {s : State} {m : MethodId} {args : Array Value} {below : List Frame} {meth : Method} {c : Code} {D : DD} {h0 : AH} {Q : Int32 → AH → Prop} (C : fx_CX D y_M_hostFits prog_15_method_73_code 6 2 32 (Option.some FieldType.boolean) [] h0 p R s m meth c) (hl : l.flags = flags0) (r0 : Nat) (x1 : Int32) (h : AH) (hw : m_M_hostFits_40 Q r0 x1 h) : ∀ (ls : Array Slot) (H : Heap) (locs : List Loc) (cells slots : Nat), lv_has ls 6 [(0, .ref r0), (1, .int x1)] → fx_F D h0 h H locs cells slots → W p l e R s m args below meth c H locs cells slots (fx_Z D below s h0 (fx_oZ Q fx_no)) (F0 m 40 ls []) := by
  refine fx_loop.use hw (fun st => ∀ (ls : Array Slot) (H : Heap) (locs : List Loc) (cells slots : Nat), lv_has ls 6 [(0, .ref r0), (1, .int x1)] → fx_F D h0 st H locs cells slots → W p l e R s m args below meth c H locs cells slots (fx_Z D below s h0 (fx_oZ Q fx_no)) (F0 m 40 ls [])) (fun X40 h hX40 hw => ?_)
  replace hw : m_M_hostFits_40_b Q X40 r0 x1 h := hw
  unfold m_M_hostFits_40_b at hw
  intro ls H locs cells slots hv F
  refine lv_aload_n C.ex C.by d_M_hostFits_40 rfl (lv_at hv 0 rfl) ?_
  obtain ⟨hk1, hw⟩ := hw
  refine fx_getI C F lf_M_128 hk1 rfl d_M_hostFits_41 ?_
  refine lv_aload_n C.ex C.by d_M_hostFits_44 rfl (lv_at hv 0 rfl) ?_
  refine fx_getI C F lf_M_196 hk1 rfl d_M_hostFits_45 ?_
  refine lv_icmp_ge C.ex C.by d_M_hostFits_48 rfl (fun hc => ?_) (fun hc => ?_)
  · replace hw := hw.1 hc
    refine lv_iconst (v := (0 : Int32)) C.ex C.by d_M_hostFits_201 (by decide) ?_
    exact fx_zret C F d_M_hostFits_202 (Or.inl rfl) (Or.inl ⟨_, rfl, Or.inl rfl, hw⟩)
  · replace hw := hw.2 hc
    refine lv_aload_n C.ex C.by d_M_hostFits_51 rfl (lv_at hv 0 rfl) ?_
    refine lv_aload_n C.ex C.by d_M_hostFits_52 rfl (lv_at hv 0 rfl) ?_
    refine fx_getI C F lf_M_128 hk1 rfl d_M_hostFits_53 ?_
    refine fx_callI C F (c_M_here hl hw) hm_M_here hi_M_here hv.1 (by decide) (Nat.le_of_ble_eq_true rfl) (iv_M_here C F lm_M_131 hk1 d_M_hostFits_56) (fx_out0 _) fx_eno (fun v1 h1 H locs cells slots hw hx1 F => ?_)
    replace hw := hw hx1
    have hk1 := (hx1).k hk1
    refine lv_sipush (v := (130 : Int32)) C.ex C.by d_M_hostFits_59 (by decide) ?_
    refine lv_icmp_ne C.ex C.by d_M_hostFits_62 rfl (fun hc => ?_) (fun hc => ?_)
    · replace hw := hw.1 hc
      refine lv_iconst (v := (0 : Int32)) C.ex C.by d_M_hostFits_69 (by decide) ?_
      exact b_M_hostFits_70 C hl _ _ _ _ hX40 hw _ _ _ _ _ hv F
    · replace hw := hw.2 hc
      refine lv_iconst (v := (1 : Int32)) C.ex C.by d_M_hostFits_65 (by decide) ?_
      refine lv_goto C.ex C.by d_M_hostFits_66 rfl ?_
      exact b_M_hostFits_70 C hl _ _ _ _ hX40 hw _ _ _ _ _ hv F
theorem b_M_hostFits_27 {p : Program} {l : Launch} {e : Env} {R : Room} {s : State} {m : MethodId} {args : Array Value} {below : List Frame} {meth : Method} {c : Code} {D : DD} {h0 : AH} {Q : Int32 → AH → Prop} (C : fx_CX D y_M_hostFits prog_15_method_73_code 6 2 32 (Option.some FieldType.boolean) [] h0 p R s m meth c) (hl : l.flags = flags0) (r0 : Nat) (x1 : Int32) (h : AH) (hw : m_M_hostFits_27 Q r0 x1 h) : ∀ (ls : Array Slot) (H : Heap) (locs : List Loc) (cells slots : Nat), lv_has ls 6 [(0, .ref r0), (1, .int x1)] → fx_F D h0 h H locs cells slots → W p l e R s m args below meth c H locs cells slots (fx_Z D below s h0 (fx_oZ Q fx_no)) (F0 m 27 ls []) := by
  unfold m_M_hostFits_27 at hw
  intro ls H locs cells slots hv F
  refine lv_aload_n C.ex C.by d_M_hostFits_27 rfl (lv_at hv 0 rfl) ?_
  refine lv_aload_n C.ex C.by d_M_hostFits_28 rfl (lv_at hv 0 rfl) ?_
  obtain ⟨hk1, hw⟩ := hw
  refine fx_getI C F lf_M_193 hk1 rfl d_M_hostFits_29 ?_
  let h1 : AH := up_I h r0 20 (hp_I h r0 42)
  replace hw := hw h1 rfl
  refine fx_putI C F lf_M_128 hk1 rfl rfl (fx_mayF.no rfl rfl) d_M_hostFits_32 (fun H locs (F : fx_F D h0 h1 H locs _ _) => ?_)
  refine lv_aload_n C.ex C.by d_M_hostFits_35 rfl (lv_at hv 0 rfl) ?_
  refine lv_iconst (v := (0 : Int32)) C.ex C.by d_M_hostFits_36 (by decide) ?_
  let h2 : AH := up_I h1 r0 21 (0 : Int32)
  replace hw := hw h2 rfl
  refine fx_putZ C F lf_M_124 hk1 rfl rfl (Or.inl rfl) (fx_mayF.no rfl rfl) d_M_hostFits_37 (fun H locs (F : fx_F D h0 h2 H locs _ _) => ?_)
  exact b_M_hostFits_40 C hl _ _ _ hw _ _ _ _ _ hv F
theorem b_M_hostFits_2 {p : Program} {l : Launch} {e : Env} {R : Room} {s : State} {m : MethodId} {args : Array Value} {below : List Frame} {meth : Method} {c : Code} {D : DD} {h0 : AH} {Q : Int32 → AH → Prop} (C : fx_CX D y_M_hostFits prog_15_method_73_code 6 2 32 (Option.some FieldType.boolean) [] h0 p R s m meth c) (hl : l.flags = flags0) (r0 : Nat) (x1 : Int32) (h : AH) (hw : m_M_hostFits_2 Q r0 x1 h) : ∀ (ls : Array Slot) (H : Heap) (locs : List Loc) (cells slots : Nat), lv_has ls 6 [(0, .ref r0), (1, .int x1)] → fx_F D h0 h H locs cells slots → W p l e R s m args below meth c H locs cells slots (fx_Z D below s h0 (fx_oZ Q fx_no)) (F0 m 2 ls []) := by
  refine fx_loop.use hw (fun st => ∀ (ls : Array Slot) (H : Heap) (locs : List Loc) (cells slots : Nat), lv_has ls 6 [(0, .ref r0), (1, .int st.1)] → fx_F D h0 st.2 H locs cells slots → W p l e R s m args below meth c H locs cells slots (fx_Z D below s h0 (fx_oZ Q fx_no)) (F0 m 2 ls [])) (fun X2 st hX2 hw => ?_)
  obtain ⟨x1, h⟩ := st
  replace hw : m_M_hostFits_2_b Q X2 r0 x1 h := hw
  unfold m_M_hostFits_2_b at hw
  intro ls H locs cells slots hv F
  refine lv_iload_n C.ex C.by d_M_hostFits_2 rfl (lv_at hv 1 rfl) ?_
  refine lv_aload_n C.ex C.by d_M_hostFits_3 rfl (lv_at hv 0 rfl) ?_
  obtain ⟨hk1, hw⟩ := hw
  refine fx_getI C F lf_M_402 hk1 rfl d_M_hostFits_4 ?_
  refine lv_icmp_ge C.ex C.by d_M_hostFits_7 rfl (fun hc => ?_) (fun hc => ?_)
  · replace hw := hw.1 hc
    exact b_M_hostFits_27 C hl _ _ _ hw _ _ _ _ _ hv F
  · replace hw := hw.2 hc
    refine lv_aload_n C.ex C.by d_M_hostFits_10 rfl (lv_at hv 0 rfl) ?_
    obtain ⟨b1, hb1, hw⟩ := hw
    refine fx_getR C F lf_M_17 hk1 rfl hb1 d_M_hostFits_11 ?_
    refine lv_iload_n C.ex C.by d_M_hostFits_14 rfl (lv_at hv 1 rfl) ?_
    obtain ⟨hk2, hw⟩ := hw
    obtain ⟨hi1, hw⟩ := hw
    refine fx_bald C F hk2 hi1 d_M_hostFits_15 (fun h8 => ?_)
    replace hw := hw h8
    refine lv_bipush (v := (46 : Int32)) C.ex C.by d_M_hostFits_16 (by decide) ?_
    refine lv_icmp_eq C.ex C.by d_M_hostFits_18 rfl (fun hc => ?_) (fun hc => ?_)
    · replace hw := hw.1 hc
      exact b_M_hostFits_27 C hl _ _ _ hw _ _ _ _ _ hv F
    · replace hw := hw.2 hc
      let v1 : Int32 := (x1 + (1 : Int32))
      replace hw := hw v1 rfl
      refine lv_iinc (v := v1) (k := 1) (lv' := [(1, .int v1), (0, .ref r0)]) C.ex C.by d_M_hostFits_21 hv rfl (congrArg (fun z => x1 + z) (by decide)) (by decide) rfl (fun ls hv => ?_)
      refine lv_goto C.ex C.by d_M_hostFits_24 rfl ?_
      exact hX2 _ hw _ _ _ _ _ (lv_sub hv [1, 0] rfl) F
theorem b_M_hostFits_0 {p : Program} {l : Launch} {e : Env} {R : Room} {s : State} {m : MethodId} {args : Array Value} {below : List Frame} {meth : Method} {c : Code} {D : DD} {h0 : AH} {Q : Int32 → AH → Prop} (C : fx_CX D y_M_hostFits prog_15_method_73_code 6 2 32 (Option.some FieldType.boolean) [] h0 p R s m meth c) (hl : l.flags = flags0) (r0 : Nat) (h : AH) (hw : m_M_hostFits Q r0 h) : ∀ (ls : Array Slot) (H : Heap) (locs : List Loc) (cells slots : Nat), lv_has ls 6 [(0, .ref r0)] → fx_F D h0 h H locs cells slots → W p l e R s m args below meth c H locs cells slots (fx_Z D below s h0 (fx_oZ Q fx_no)) (F0 m 0 ls []) := by
  unfold m_M_hostFits at hw
  intro ls H locs cells slots hv F
  refine lv_iconst (v := (0 : Int32)) C.ex C.by d_M_hostFits_0 (by decide) ?_
  refine lv_istore_n (lv' := [(1, .int (0 : Int32)), (0, .ref r0)]) C.ex C.by d_M_hostFits_1 rfl hv (by decide) rfl (fun ls hv => ?_)
  exact b_M_hostFits_2 C hl _ _ _ hw _ _ _ _ _ (lv_sub hv [1, 0] rfl) F
theorem hm_M_hostFits : fx_hd y_M_hostFits prog_15_method_73_code 6 (Option.some FieldType.boolean) [] ∈ tables_1 := (fx_m7 (List.mem_of_getElem? (i := 229) rfl))
theorem hi_M_hostFits : Cond.initialized y_M_hostFits.cls ∈ tables_1 := (fx_m1 (List.mem_of_getElem? (i := 15) rfl))
theorem c_M_hostFits {l : Launch} (hl : l.flags = flags0) {D : DD} {Q : Int32 → AH → Prop} {r0 : Nat} {h : AH} (hw : m_M_hostFits Q r0 h) : fx_Mt l D y_M_hostFits (fx_hd y_M_hostFits prog_15_method_73_code 6 (Option.some FieldType.boolean) []) 2 32 [.ref r0] h (fx_oZ Q fx_no) := by
  refine fx_ofW (plainFor_of_name (by decide)) (fun p e s m below meth c C F => ?_)
  have hv := lv_entry ([.ref r0]) (n := 6) (Nat.le_of_ble_eq_true rfl)
  rw [lg_entry_eq]
  generalize (lg_sl ([.ref r0]) ++ List.replicate (6 - (lg_sl ([.ref r0])).length) Slot.unset).toArray = ls at hv ⊢
  have hv : lv_has ls 6 [(0, .ref r0)] := hv
  exact b_M_hostFits_0 C hl _ _ hw _ _ _ _ _ hv F
/-! ChainJudgeModel.verdict(II)I: frames 9, words 147 -/
abbrev y_M_verdict : MethodName := ⟨"ChainJudgeModel", "verdict", "(II)I"⟩
theorem lm_M_424 : Cond.methodLink "ChainJudgeModel" 424 y_M_further ∈ tables_1 ∨ ∃ host, Cond.methodLinkNest "ChainJudgeModel" 424 y_M_further host ∈ tables_1 := Or.inl (fx_m7 (List.mem_of_getElem? (i := 206) rfl))
theorem lm_M_427 : Cond.methodLink "ChainJudgeModel" 427 y_M_onPath ∈ tables_1 ∨ ∃ host, Cond.methodLinkNest "ChainJudgeModel" 427 y_M_onPath host ∈ tables_1 := Or.inl (fx_m7 (List.mem_of_getElem? (i := 222) rfl))
theorem lm_M_430 : Cond.methodLink "ChainJudgeModel" 430 y_M_hostFits ∈ tables_1 ∨ ∃ host, Cond.methodLinkNest "ChainJudgeModel" 430 y_M_hostFits host ∈ tables_1 := Or.inl (fx_m7 (List.mem_of_getElem? (i := 226) rfl))
section
variable {p : Program} {l : Launch} {e : Env} {R : Room} {s : State} {m : MethodId} {args : Array Value} {below : List Frame} {meth : Method} {c : Code} {H : Heap} {locs : List Loc} {cells slots : Nat}
variable {D : DD} {y : MethodName} {cc : ByteArray} {nL kf kw : Nat} {ret : Option FieldType} {hh : List (Nat × Nat × Nat × Nat)} {h0 h : AH} {pc : Nat} {ls : Array Slot} {rest : List Value} {b idx : Nat}
theorem iv_M_further (C : fx_CX D y cc nL kf kw ret hh h0 p R s m meth c) (F : fx_F D h0 h H locs cells slots) (hw1 : Cond.methodLink y.cls idx y_M_further ∈ tables_1 ∨ ∃ host, Cond.methodLinkNest y.cls idx y_M_further host ∈ tables_1) (hk : hp_k h b = 13) (hd : decode cc pc = .ok (.invokevirtual idx, 3)) : fx_IV p l e R s m args below meth c H locs cells slots (F0 m pc ls (.ref b :: rest)) rest y_M_further [.ref b] 3 := fun T hT X => fx_invV (As := []) (Cn := "ChainJudgeModel") C X hw1 (fx_m7 (List.mem_of_getElem? (i := 208) rfl)) (fx_selP C ⟨by decide, by decide⟩ (fx_m5 (List.mem_of_getElem? (i := 217) rfl)) (fx_m7 (List.mem_of_getElem? (i := 207) rfl)) (fx_m7 (List.mem_of_getElem? (i := 208) rfl))) hm_M_further ⟨by decide, by decide⟩ (by rw [hT]; exact fx_clsO (ci := 12) (r := ("ChainJudgeModel", fx_T12, 57)) C F rfl (by decide) hk) rfl (n := 0) (by decide +kernel) rfl rfl hd
theorem iv_M_hostFits (C : fx_CX D y cc nL kf kw ret hh h0 p R s m meth c) (F : fx_F D h0 h H locs cells slots) (hw1 : Cond.methodLink y.cls idx y_M_hostFits ∈ tables_1 ∨ ∃ host, Cond.methodLinkNest y.cls idx y_M_hostFits host ∈ tables_1) (hk : hp_k h b = 13) (hd : decode cc pc = .ok (.invokevirtual idx, 3)) : fx_IV p l e R s m args below meth c H locs cells slots (F0 m pc ls (.ref b :: rest)) rest y_M_hostFits [.ref b] 3 := fun T hT X => fx_invV (As := []) (Cn := "ChainJudgeModel") C X hw1 (fx_m7 (List.mem_of_getElem? (i := 228) rfl)) (fx_selP C ⟨by decide, by decide⟩ (fx_m5 (List.mem_of_getElem? (i := 217) rfl)) (fx_m7 (List.mem_of_getElem? (i := 227) rfl)) (fx_m7 (List.mem_of_getElem? (i := 228) rfl))) hm_M_hostFits ⟨by decide, by decide⟩ (by rw [hT]; exact fx_clsO (ci := 12) (r := ("ChainJudgeModel", fx_T12, 57)) C F rfl (by decide) hk) rfl (n := 0) (by decide +kernel) rfl rfl hd
theorem iv_M_onPath {x1 : Int32} (C : fx_CX D y cc nL kf kw ret hh h0 p R s m meth c) (F : fx_F D h0 h H locs cells slots) (hw1 : Cond.methodLink y.cls idx y_M_onPath ∈ tables_1 ∨ ∃ host, Cond.methodLinkNest y.cls idx y_M_onPath host ∈ tables_1) (hk : hp_k h b = 13) (hd : decode cc pc = .ok (.invokevirtual idx, 3)) : fx_IV p l e R s m args below meth c H locs cells slots (F0 m pc ls (.int x1 :: .ref b :: rest)) rest y_M_onPath [.ref b, .int x1] 3 := fun T hT X => fx_invV (As := [.int x1]) (Cn := "ChainJudgeModel") C X hw1 (fx_m7 (List.mem_of_getElem? (i := 224) rfl)) (fx_selP C ⟨by decide, by decide⟩ (fx_m5 (List.mem_of_getElem? (i := 217) rfl)) (fx_m7 (List.mem_of_getElem? (i := 223) rfl)) (fx_m7 (List.mem_of_getElem? (i := 224) rfl))) hm_M_onPath ⟨by decide, by decide⟩ (by rw [hT]; exact fx_clsO (ci := 12) (r := ("ChainJudgeModel", fx_T12, 57)) C F rfl (by decide) hk) rfl (n := 1) (by decide +kernel) rfl rfl hd
end
def dl_M_verdict : List (Nat × Instr × Nat) := [(0, .aload_n 0, 1), (1, .iconst 0, 1), (2, .putfield 405, 3), (5, .aload_n 0, 1), (6, .iconst (-1), 1), (7, .putfield 40, 3), (10, .iconst 0, 1), (11, .istore_n 3, 1), (12, .iload_n 3, 1), (13, .aload_n 0, 1), (14, .getfield 396, 3), (17, .if_icmp .ge 25, 3), (20, .aload_n 0, 1), (21, .aload_n 0, 1), (22, .getfield 31, 3), (25, .iload_n 3, 1), (26, .iaload, 1), (27, .invokevirtual 368, 3), (30, .ifCond .ne 6, 3), (33, .bipush 42, 2), (35, .ireturn, 1), (36, .iinc 3 1, 3), (39, .goto (-27), 3), (42, .aload_n 0, 1), (43, .getfield 37, 3), (46, .iconst 0, 1), (47, .iconst 0, 1), (48, .iastore, 1), (49, .aload_n 0, 1), (50, .iconst 1, 1), (51, .putfield 405, 3), (54, .iconst 1, 1), (55, .istore_n 3, 1), (56, .iload_n 3, 1), (57, .iconst 1, 1), (58, .if_icmp .ne 11, 3), (61, .aload_n 0, 1), (62, .invokevirtual 424, 3), (65, .istore_n 3, 1), (66, .goto (-10), 3), (69, .iload_n 3, 1), (70, .iconst 1, 1), (71, .if_icmp .le 5, 3), (74, .iload_n 3, 1), (75, .ireturn, 1), (76, .iconst 0, 1), (77, .istore 4, 2), (79, .iload 4, 2), (81, .aload_n 0, 1), (82, .getfield 405, 3), (85, .if_icmp .gt 51, 3), (88, .aload_n 0, 1), (89, .aload_n 0, 1), (90, .iload 4, 2), (92, .invokevirtual 427, 3), (95, .invokevirtual 368, 3), (98, .pop, 1), (99, .ldc2_w 179, 3), (102, .iload_n 2, 1), (103, .i2l, 1), (104, .lmul, 1), (105, .aload_n 0, 1), (106, .getfield 255, 3), (109, .lcmp, 1), (110, .ifCond .lt 17, 3), (113, .ldc2_w 179, 3), (116, .iload_n 2, 1), (117, .i2l, 1), (118, .lmul, 1), (119, .aload_n 0, 1), (120, .getfield 259, 3), (123, .lcmp, 1), (124, .ifCond .le 6, 3), (127, .bipush 45, 2), (129, .ireturn, 1), (130, .iinc 4 1, 3), (133, .goto (-54), 3), (136, .iconst 0, 1), (137, .istore 4, 2), (139, .iload 4, 2), (141, .aload_n 0, 1), (142, .getfield 405, 3), (145, .if_icmp .gt 123, 3), (148, .aload_n 0, 1), (149, .aload_n 0, 1), (150, .iload 4, 2), (152, .invokevirtual 427, 3), (155, .invokevirtual 368, 3), (158, .pop, 1), (159, .aload_n 0, 1), (160, .getfield 226, 3), (163, .ifCond .eq 6, 3), (166, .bipush 43, 2), (168, .ireturn, 1), (169, .iload 4, 2), (171, .ifCond .le 47, 3), (174, .aload_n 0, 1), (175, .getfield 184, 3), (178, .ifCond .eq 37, 3), (181, .aload_n 0, 1), (182, .getfield 190, 3), (185, .ifCond .lt 12, 3), (188, .aload_n 0, 1), (189, .getfield 190, 3), (192, .iconst 4, 1), (193, .iand, 1), (194, .ifCond .eq 21, 3), (197, .aload_n 0, 1), (198, .getfield 187, 3), (201, .ifCond .lt 17, 3), (204, .iload 4, 2), (206, .iconst 1, 1), (207, .isub, 1), (208, .aload_n 0, 1), (209, .getfield 187, 3), (212, .if_icmp .le 6, 3), (215, .bipush 43, 2), (217, .ireturn, 1), (218, .iload 4, 2), (220, .ifCond .ne 42, 3), (223, .aload_n 0, 1), (224, .getfield 190, 3), (227, .ifCond .lt 14, 3), (230, .aload_n 0, 1), (231, .getfield 190, 3), (234, .sipush 128, 3), (237, .iand, 1), (238, .ifCond .eq 21, 3), (241, .aload_n 0, 1), (242, .getfield 202, 3), (245, .ifCond .lt 17, 3), (248, .aload_n 0, 1), (249, .getfield 202, 3), (252, .iload_n 1, 1), (253, .ishr, 1), (254, .iconst 1, 1), (255, .iand, 1), (256, .ifCond .ne 6, 3), (259, .bipush 43, 2), (261, .ireturn, 1), (262, .iinc 4 1, 3), (265, .goto (-126), 3), (268, .aload_n 0, 1), (269, .aload_n 0, 1), (270, .getfield 31, 3), (273, .iconst 0, 1), (274, .iaload, 1), (275, .invokevirtual 368, 3), (278, .pop, 1), (279, .iload_n 1, 1), (280, .ifCond .ne 22, 3), (283, .aload_n 0, 1), (284, .getfield 402, 3), (287, .ifCond .le 15, 3), (290, .aload_n 0, 1), (291, .invokevirtual 430, 3), (294, .ifCond .ne 8, 3), (297, .bipush 46, 2), (299, .goto 4, 3), (302, .iconst 0, 1), (303, .ireturn, 1)]
theorem dk_M_verdict : fx_dec prog_15_method_74_code dl_M_verdict = true := by decide +kernel
theorem d_M_verdict_0 : decode prog_15_method_74_code 0 = .ok (.aload_n 0, 1) := fx_dat dk_M_verdict 0 rfl
theorem d_M_verdict_1 : decode prog_15_method_74_code 1 = .ok (.iconst 0, 1) := fx_dat dk_M_verdict 1 rfl
theorem d_M_verdict_2 : decode prog_15_method_74_code 2 = .ok (.putfield 405, 3) := fx_dat dk_M_verdict 2 rfl
theorem d_M_verdict_5 : decode prog_15_method_74_code 5 = .ok (.aload_n 0, 1) := fx_dat dk_M_verdict 3 rfl
theorem d_M_verdict_6 : decode prog_15_method_74_code 6 = .ok (.iconst (-1), 1) := fx_dat dk_M_verdict 4 rfl
theorem d_M_verdict_7 : decode prog_15_method_74_code 7 = .ok (.putfield 40, 3) := fx_dat dk_M_verdict 5 rfl
theorem d_M_verdict_10 : decode prog_15_method_74_code 10 = .ok (.iconst 0, 1) := fx_dat dk_M_verdict 6 rfl
theorem d_M_verdict_11 : decode prog_15_method_74_code 11 = .ok (.istore_n 3, 1) := fx_dat dk_M_verdict 7 rfl
theorem d_M_verdict_12 : decode prog_15_method_74_code 12 = .ok (.iload_n 3, 1) := fx_dat dk_M_verdict 8 rfl
theorem d_M_verdict_13 : decode prog_15_method_74_code 13 = .ok (.aload_n 0, 1) := fx_dat dk_M_verdict 9 rfl
theorem d_M_verdict_14 : decode prog_15_method_74_code 14 = .ok (.getfield 396, 3) := fx_dat dk_M_verdict 10 rfl
theorem d_M_verdict_17 : decode prog_15_method_74_code 17 = .ok (.if_icmp .ge 25, 3) := fx_dat dk_M_verdict 11 rfl
theorem d_M_verdict_20 : decode prog_15_method_74_code 20 = .ok (.aload_n 0, 1) := fx_dat dk_M_verdict 12 rfl
theorem d_M_verdict_21 : decode prog_15_method_74_code 21 = .ok (.aload_n 0, 1) := fx_dat dk_M_verdict 13 rfl
theorem d_M_verdict_22 : decode prog_15_method_74_code 22 = .ok (.getfield 31, 3) := fx_dat dk_M_verdict 14 rfl
theorem d_M_verdict_25 : decode prog_15_method_74_code 25 = .ok (.iload_n 3, 1) := fx_dat dk_M_verdict 15 rfl
theorem d_M_verdict_26 : decode prog_15_method_74_code 26 = .ok (.iaload, 1) := fx_dat dk_M_verdict 16 rfl
theorem d_M_verdict_27 : decode prog_15_method_74_code 27 = .ok (.invokevirtual 368, 3) := fx_dat dk_M_verdict 17 rfl
theorem d_M_verdict_30 : decode prog_15_method_74_code 30 = .ok (.ifCond .ne 6, 3) := fx_dat dk_M_verdict 18 rfl
theorem d_M_verdict_33 : decode prog_15_method_74_code 33 = .ok (.bipush 42, 2) := fx_dat dk_M_verdict 19 rfl
theorem d_M_verdict_35 : decode prog_15_method_74_code 35 = .ok (.ireturn, 1) := fx_dat dk_M_verdict 20 rfl
theorem d_M_verdict_36 : decode prog_15_method_74_code 36 = .ok (.iinc 3 1, 3) := fx_dat dk_M_verdict 21 rfl
theorem d_M_verdict_39 : decode prog_15_method_74_code 39 = .ok (.goto (-27), 3) := fx_dat dk_M_verdict 22 rfl
theorem d_M_verdict_42 : decode prog_15_method_74_code 42 = .ok (.aload_n 0, 1) := fx_dat dk_M_verdict 23 rfl
theorem d_M_verdict_43 : decode prog_15_method_74_code 43 = .ok (.getfield 37, 3) := fx_dat dk_M_verdict 24 rfl
theorem d_M_verdict_46 : decode prog_15_method_74_code 46 = .ok (.iconst 0, 1) := fx_dat dk_M_verdict 25 rfl
theorem d_M_verdict_47 : decode prog_15_method_74_code 47 = .ok (.iconst 0, 1) := fx_dat dk_M_verdict 26 rfl
theorem d_M_verdict_48 : decode prog_15_method_74_code 48 = .ok (.iastore, 1) := fx_dat dk_M_verdict 27 rfl
theorem d_M_verdict_49 : decode prog_15_method_74_code 49 = .ok (.aload_n 0, 1) := fx_dat dk_M_verdict 28 rfl
theorem d_M_verdict_50 : decode prog_15_method_74_code 50 = .ok (.iconst 1, 1) := fx_dat dk_M_verdict 29 rfl
theorem d_M_verdict_51 : decode prog_15_method_74_code 51 = .ok (.putfield 405, 3) := fx_dat dk_M_verdict 30 rfl
theorem d_M_verdict_54 : decode prog_15_method_74_code 54 = .ok (.iconst 1, 1) := fx_dat dk_M_verdict 31 rfl
theorem d_M_verdict_55 : decode prog_15_method_74_code 55 = .ok (.istore_n 3, 1) := fx_dat dk_M_verdict 32 rfl
theorem d_M_verdict_56 : decode prog_15_method_74_code 56 = .ok (.iload_n 3, 1) := fx_dat dk_M_verdict 33 rfl
theorem d_M_verdict_57 : decode prog_15_method_74_code 57 = .ok (.iconst 1, 1) := fx_dat dk_M_verdict 34 rfl
theorem d_M_verdict_58 : decode prog_15_method_74_code 58 = .ok (.if_icmp .ne 11, 3) := fx_dat dk_M_verdict 35 rfl
theorem d_M_verdict_61 : decode prog_15_method_74_code 61 = .ok (.aload_n 0, 1) := fx_dat dk_M_verdict 36 rfl
theorem d_M_verdict_62 : decode prog_15_method_74_code 62 = .ok (.invokevirtual 424, 3) := fx_dat dk_M_verdict 37 rfl
theorem d_M_verdict_65 : decode prog_15_method_74_code 65 = .ok (.istore_n 3, 1) := fx_dat dk_M_verdict 38 rfl
theorem d_M_verdict_66 : decode prog_15_method_74_code 66 = .ok (.goto (-10), 3) := fx_dat dk_M_verdict 39 rfl
theorem d_M_verdict_69 : decode prog_15_method_74_code 69 = .ok (.iload_n 3, 1) := fx_dat dk_M_verdict 40 rfl
theorem d_M_verdict_70 : decode prog_15_method_74_code 70 = .ok (.iconst 1, 1) := fx_dat dk_M_verdict 41 rfl
theorem d_M_verdict_71 : decode prog_15_method_74_code 71 = .ok (.if_icmp .le 5, 3) := fx_dat dk_M_verdict 42 rfl
theorem d_M_verdict_74 : decode prog_15_method_74_code 74 = .ok (.iload_n 3, 1) := fx_dat dk_M_verdict 43 rfl
theorem d_M_verdict_75 : decode prog_15_method_74_code 75 = .ok (.ireturn, 1) := fx_dat dk_M_verdict 44 rfl
theorem d_M_verdict_76 : decode prog_15_method_74_code 76 = .ok (.iconst 0, 1) := fx_dat dk_M_verdict 45 rfl
theorem d_M_verdict_77 : decode prog_15_method_74_code 77 = .ok (.istore 4, 2) := fx_dat dk_M_verdict 46 rfl
theorem d_M_verdict_79 : decode prog_15_method_74_code 79 = .ok (.iload 4, 2) := fx_dat dk_M_verdict 47 rfl
theorem d_M_verdict_81 : decode prog_15_method_74_code 81 = .ok (.aload_n 0, 1) := fx_dat dk_M_verdict 48 rfl
theorem d_M_verdict_82 : decode prog_15_method_74_code 82 = .ok (.getfield 405, 3) := fx_dat dk_M_verdict 49 rfl
theorem d_M_verdict_85 : decode prog_15_method_74_code 85 = .ok (.if_icmp .gt 51, 3) := fx_dat dk_M_verdict 50 rfl
theorem d_M_verdict_88 : decode prog_15_method_74_code 88 = .ok (.aload_n 0, 1) := fx_dat dk_M_verdict 51 rfl
theorem d_M_verdict_89 : decode prog_15_method_74_code 89 = .ok (.aload_n 0, 1) := fx_dat dk_M_verdict 52 rfl
theorem d_M_verdict_90 : decode prog_15_method_74_code 90 = .ok (.iload 4, 2) := fx_dat dk_M_verdict 53 rfl
theorem d_M_verdict_92 : decode prog_15_method_74_code 92 = .ok (.invokevirtual 427, 3) := fx_dat dk_M_verdict 54 rfl
theorem d_M_verdict_95 : decode prog_15_method_74_code 95 = .ok (.invokevirtual 368, 3) := fx_dat dk_M_verdict 55 rfl
theorem d_M_verdict_98 : decode prog_15_method_74_code 98 = .ok (.pop, 1) := fx_dat dk_M_verdict 56 rfl
theorem d_M_verdict_99 : decode prog_15_method_74_code 99 = .ok (.ldc2_w 179, 3) := fx_dat dk_M_verdict 57 rfl
theorem d_M_verdict_102 : decode prog_15_method_74_code 102 = .ok (.iload_n 2, 1) := fx_dat dk_M_verdict 58 rfl
theorem d_M_verdict_103 : decode prog_15_method_74_code 103 = .ok (.i2l, 1) := fx_dat dk_M_verdict 59 rfl
theorem d_M_verdict_104 : decode prog_15_method_74_code 104 = .ok (.lmul, 1) := fx_dat dk_M_verdict 60 rfl
theorem d_M_verdict_105 : decode prog_15_method_74_code 105 = .ok (.aload_n 0, 1) := fx_dat dk_M_verdict 61 rfl
theorem d_M_verdict_106 : decode prog_15_method_74_code 106 = .ok (.getfield 255, 3) := fx_dat dk_M_verdict 62 rfl
theorem d_M_verdict_109 : decode prog_15_method_74_code 109 = .ok (.lcmp, 1) := fx_dat dk_M_verdict 63 rfl
theorem d_M_verdict_110 : decode prog_15_method_74_code 110 = .ok (.ifCond .lt 17, 3) := fx_dat dk_M_verdict 64 rfl
theorem d_M_verdict_113 : decode prog_15_method_74_code 113 = .ok (.ldc2_w 179, 3) := fx_dat dk_M_verdict 65 rfl
theorem d_M_verdict_116 : decode prog_15_method_74_code 116 = .ok (.iload_n 2, 1) := fx_dat dk_M_verdict 66 rfl
theorem d_M_verdict_117 : decode prog_15_method_74_code 117 = .ok (.i2l, 1) := fx_dat dk_M_verdict 67 rfl
theorem d_M_verdict_118 : decode prog_15_method_74_code 118 = .ok (.lmul, 1) := fx_dat dk_M_verdict 68 rfl
theorem d_M_verdict_119 : decode prog_15_method_74_code 119 = .ok (.aload_n 0, 1) := fx_dat dk_M_verdict 69 rfl
theorem d_M_verdict_120 : decode prog_15_method_74_code 120 = .ok (.getfield 259, 3) := fx_dat dk_M_verdict 70 rfl
theorem d_M_verdict_123 : decode prog_15_method_74_code 123 = .ok (.lcmp, 1) := fx_dat dk_M_verdict 71 rfl
theorem d_M_verdict_124 : decode prog_15_method_74_code 124 = .ok (.ifCond .le 6, 3) := fx_dat dk_M_verdict 72 rfl
theorem d_M_verdict_127 : decode prog_15_method_74_code 127 = .ok (.bipush 45, 2) := fx_dat dk_M_verdict 73 rfl
theorem d_M_verdict_129 : decode prog_15_method_74_code 129 = .ok (.ireturn, 1) := fx_dat dk_M_verdict 74 rfl
theorem d_M_verdict_130 : decode prog_15_method_74_code 130 = .ok (.iinc 4 1, 3) := fx_dat dk_M_verdict 75 rfl
theorem d_M_verdict_133 : decode prog_15_method_74_code 133 = .ok (.goto (-54), 3) := fx_dat dk_M_verdict 76 rfl
theorem d_M_verdict_136 : decode prog_15_method_74_code 136 = .ok (.iconst 0, 1) := fx_dat dk_M_verdict 77 rfl
theorem d_M_verdict_137 : decode prog_15_method_74_code 137 = .ok (.istore 4, 2) := fx_dat dk_M_verdict 78 rfl
theorem d_M_verdict_139 : decode prog_15_method_74_code 139 = .ok (.iload 4, 2) := fx_dat dk_M_verdict 79 rfl
theorem d_M_verdict_141 : decode prog_15_method_74_code 141 = .ok (.aload_n 0, 1) := fx_dat dk_M_verdict 80 rfl
theorem d_M_verdict_142 : decode prog_15_method_74_code 142 = .ok (.getfield 405, 3) := fx_dat dk_M_verdict 81 rfl
theorem d_M_verdict_145 : decode prog_15_method_74_code 145 = .ok (.if_icmp .gt 123, 3) := fx_dat dk_M_verdict 82 rfl
theorem d_M_verdict_148 : decode prog_15_method_74_code 148 = .ok (.aload_n 0, 1) := fx_dat dk_M_verdict 83 rfl
theorem d_M_verdict_149 : decode prog_15_method_74_code 149 = .ok (.aload_n 0, 1) := fx_dat dk_M_verdict 84 rfl
theorem d_M_verdict_150 : decode prog_15_method_74_code 150 = .ok (.iload 4, 2) := fx_dat dk_M_verdict 85 rfl
theorem d_M_verdict_152 : decode prog_15_method_74_code 152 = .ok (.invokevirtual 427, 3) := fx_dat dk_M_verdict 86 rfl
theorem d_M_verdict_155 : decode prog_15_method_74_code 155 = .ok (.invokevirtual 368, 3) := fx_dat dk_M_verdict 87 rfl
theorem d_M_verdict_158 : decode prog_15_method_74_code 158 = .ok (.pop, 1) := fx_dat dk_M_verdict 88 rfl
theorem d_M_verdict_159 : decode prog_15_method_74_code 159 = .ok (.aload_n 0, 1) := fx_dat dk_M_verdict 89 rfl
theorem d_M_verdict_160 : decode prog_15_method_74_code 160 = .ok (.getfield 226, 3) := fx_dat dk_M_verdict 90 rfl
theorem d_M_verdict_163 : decode prog_15_method_74_code 163 = .ok (.ifCond .eq 6, 3) := fx_dat dk_M_verdict 91 rfl
theorem d_M_verdict_166 : decode prog_15_method_74_code 166 = .ok (.bipush 43, 2) := fx_dat dk_M_verdict 92 rfl
theorem d_M_verdict_168 : decode prog_15_method_74_code 168 = .ok (.ireturn, 1) := fx_dat dk_M_verdict 93 rfl
theorem d_M_verdict_169 : decode prog_15_method_74_code 169 = .ok (.iload 4, 2) := fx_dat dk_M_verdict 94 rfl
theorem d_M_verdict_171 : decode prog_15_method_74_code 171 = .ok (.ifCond .le 47, 3) := fx_dat dk_M_verdict 95 rfl
theorem d_M_verdict_174 : decode prog_15_method_74_code 174 = .ok (.aload_n 0, 1) := fx_dat dk_M_verdict 96 rfl
theorem d_M_verdict_175 : decode prog_15_method_74_code 175 = .ok (.getfield 184, 3) := fx_dat dk_M_verdict 97 rfl
theorem d_M_verdict_178 : decode prog_15_method_74_code 178 = .ok (.ifCond .eq 37, 3) := fx_dat dk_M_verdict 98 rfl
theorem d_M_verdict_181 : decode prog_15_method_74_code 181 = .ok (.aload_n 0, 1) := fx_dat dk_M_verdict 99 rfl
theorem d_M_verdict_182 : decode prog_15_method_74_code 182 = .ok (.getfield 190, 3) := fx_dat dk_M_verdict 100 rfl
theorem d_M_verdict_185 : decode prog_15_method_74_code 185 = .ok (.ifCond .lt 12, 3) := fx_dat dk_M_verdict 101 rfl
theorem d_M_verdict_188 : decode prog_15_method_74_code 188 = .ok (.aload_n 0, 1) := fx_dat dk_M_verdict 102 rfl
theorem d_M_verdict_189 : decode prog_15_method_74_code 189 = .ok (.getfield 190, 3) := fx_dat dk_M_verdict 103 rfl
theorem d_M_verdict_192 : decode prog_15_method_74_code 192 = .ok (.iconst 4, 1) := fx_dat dk_M_verdict 104 rfl
theorem d_M_verdict_193 : decode prog_15_method_74_code 193 = .ok (.iand, 1) := fx_dat dk_M_verdict 105 rfl
theorem d_M_verdict_194 : decode prog_15_method_74_code 194 = .ok (.ifCond .eq 21, 3) := fx_dat dk_M_verdict 106 rfl
theorem d_M_verdict_197 : decode prog_15_method_74_code 197 = .ok (.aload_n 0, 1) := fx_dat dk_M_verdict 107 rfl
theorem d_M_verdict_198 : decode prog_15_method_74_code 198 = .ok (.getfield 187, 3) := fx_dat dk_M_verdict 108 rfl
theorem d_M_verdict_201 : decode prog_15_method_74_code 201 = .ok (.ifCond .lt 17, 3) := fx_dat dk_M_verdict 109 rfl
theorem d_M_verdict_204 : decode prog_15_method_74_code 204 = .ok (.iload 4, 2) := fx_dat dk_M_verdict 110 rfl
theorem d_M_verdict_206 : decode prog_15_method_74_code 206 = .ok (.iconst 1, 1) := fx_dat dk_M_verdict 111 rfl
theorem d_M_verdict_207 : decode prog_15_method_74_code 207 = .ok (.isub, 1) := fx_dat dk_M_verdict 112 rfl
theorem d_M_verdict_208 : decode prog_15_method_74_code 208 = .ok (.aload_n 0, 1) := fx_dat dk_M_verdict 113 rfl
theorem d_M_verdict_209 : decode prog_15_method_74_code 209 = .ok (.getfield 187, 3) := fx_dat dk_M_verdict 114 rfl
theorem d_M_verdict_212 : decode prog_15_method_74_code 212 = .ok (.if_icmp .le 6, 3) := fx_dat dk_M_verdict 115 rfl
theorem d_M_verdict_215 : decode prog_15_method_74_code 215 = .ok (.bipush 43, 2) := fx_dat dk_M_verdict 116 rfl
theorem d_M_verdict_217 : decode prog_15_method_74_code 217 = .ok (.ireturn, 1) := fx_dat dk_M_verdict 117 rfl
theorem d_M_verdict_218 : decode prog_15_method_74_code 218 = .ok (.iload 4, 2) := fx_dat dk_M_verdict 118 rfl
theorem d_M_verdict_220 : decode prog_15_method_74_code 220 = .ok (.ifCond .ne 42, 3) := fx_dat dk_M_verdict 119 rfl
theorem d_M_verdict_223 : decode prog_15_method_74_code 223 = .ok (.aload_n 0, 1) := fx_dat dk_M_verdict 120 rfl
theorem d_M_verdict_224 : decode prog_15_method_74_code 224 = .ok (.getfield 190, 3) := fx_dat dk_M_verdict 121 rfl
theorem d_M_verdict_227 : decode prog_15_method_74_code 227 = .ok (.ifCond .lt 14, 3) := fx_dat dk_M_verdict 122 rfl
theorem d_M_verdict_230 : decode prog_15_method_74_code 230 = .ok (.aload_n 0, 1) := fx_dat dk_M_verdict 123 rfl
theorem d_M_verdict_231 : decode prog_15_method_74_code 231 = .ok (.getfield 190, 3) := fx_dat dk_M_verdict 124 rfl
theorem d_M_verdict_234 : decode prog_15_method_74_code 234 = .ok (.sipush 128, 3) := fx_dat dk_M_verdict 125 rfl
theorem d_M_verdict_237 : decode prog_15_method_74_code 237 = .ok (.iand, 1) := fx_dat dk_M_verdict 126 rfl
theorem d_M_verdict_238 : decode prog_15_method_74_code 238 = .ok (.ifCond .eq 21, 3) := fx_dat dk_M_verdict 127 rfl
theorem d_M_verdict_241 : decode prog_15_method_74_code 241 = .ok (.aload_n 0, 1) := fx_dat dk_M_verdict 128 rfl
theorem d_M_verdict_242 : decode prog_15_method_74_code 242 = .ok (.getfield 202, 3) := fx_dat dk_M_verdict 129 rfl
theorem d_M_verdict_245 : decode prog_15_method_74_code 245 = .ok (.ifCond .lt 17, 3) := fx_dat dk_M_verdict 130 rfl
theorem d_M_verdict_248 : decode prog_15_method_74_code 248 = .ok (.aload_n 0, 1) := fx_dat dk_M_verdict 131 rfl
theorem d_M_verdict_249 : decode prog_15_method_74_code 249 = .ok (.getfield 202, 3) := fx_dat dk_M_verdict 132 rfl
theorem d_M_verdict_252 : decode prog_15_method_74_code 252 = .ok (.iload_n 1, 1) := fx_dat dk_M_verdict 133 rfl
theorem d_M_verdict_253 : decode prog_15_method_74_code 253 = .ok (.ishr, 1) := fx_dat dk_M_verdict 134 rfl
theorem d_M_verdict_254 : decode prog_15_method_74_code 254 = .ok (.iconst 1, 1) := fx_dat dk_M_verdict 135 rfl
theorem d_M_verdict_255 : decode prog_15_method_74_code 255 = .ok (.iand, 1) := fx_dat dk_M_verdict 136 rfl
theorem d_M_verdict_256 : decode prog_15_method_74_code 256 = .ok (.ifCond .ne 6, 3) := fx_dat dk_M_verdict 137 rfl
theorem d_M_verdict_259 : decode prog_15_method_74_code 259 = .ok (.bipush 43, 2) := fx_dat dk_M_verdict 138 rfl
theorem d_M_verdict_261 : decode prog_15_method_74_code 261 = .ok (.ireturn, 1) := fx_dat dk_M_verdict 139 rfl
theorem d_M_verdict_262 : decode prog_15_method_74_code 262 = .ok (.iinc 4 1, 3) := fx_dat dk_M_verdict 140 rfl
theorem d_M_verdict_265 : decode prog_15_method_74_code 265 = .ok (.goto (-126), 3) := fx_dat dk_M_verdict 141 rfl
theorem d_M_verdict_268 : decode prog_15_method_74_code 268 = .ok (.aload_n 0, 1) := fx_dat dk_M_verdict 142 rfl
theorem d_M_verdict_269 : decode prog_15_method_74_code 269 = .ok (.aload_n 0, 1) := fx_dat dk_M_verdict 143 rfl
theorem d_M_verdict_270 : decode prog_15_method_74_code 270 = .ok (.getfield 31, 3) := fx_dat dk_M_verdict 144 rfl
theorem d_M_verdict_273 : decode prog_15_method_74_code 273 = .ok (.iconst 0, 1) := fx_dat dk_M_verdict 145 rfl
theorem d_M_verdict_274 : decode prog_15_method_74_code 274 = .ok (.iaload, 1) := fx_dat dk_M_verdict 146 rfl
theorem d_M_verdict_275 : decode prog_15_method_74_code 275 = .ok (.invokevirtual 368, 3) := fx_dat dk_M_verdict 147 rfl
theorem d_M_verdict_278 : decode prog_15_method_74_code 278 = .ok (.pop, 1) := fx_dat dk_M_verdict 148 rfl
theorem d_M_verdict_279 : decode prog_15_method_74_code 279 = .ok (.iload_n 1, 1) := fx_dat dk_M_verdict 149 rfl
theorem d_M_verdict_280 : decode prog_15_method_74_code 280 = .ok (.ifCond .ne 22, 3) := fx_dat dk_M_verdict 150 rfl
theorem d_M_verdict_283 : decode prog_15_method_74_code 283 = .ok (.aload_n 0, 1) := fx_dat dk_M_verdict 151 rfl
theorem d_M_verdict_284 : decode prog_15_method_74_code 284 = .ok (.getfield 402, 3) := fx_dat dk_M_verdict 152 rfl
theorem d_M_verdict_287 : decode prog_15_method_74_code 287 = .ok (.ifCond .le 15, 3) := fx_dat dk_M_verdict 153 rfl
theorem d_M_verdict_290 : decode prog_15_method_74_code 290 = .ok (.aload_n 0, 1) := fx_dat dk_M_verdict 154 rfl
theorem d_M_verdict_291 : decode prog_15_method_74_code 291 = .ok (.invokevirtual 430, 3) := fx_dat dk_M_verdict 155 rfl
theorem d_M_verdict_294 : decode prog_15_method_74_code 294 = .ok (.ifCond .ne 8, 3) := fx_dat dk_M_verdict 156 rfl
theorem d_M_verdict_297 : decode prog_15_method_74_code 297 = .ok (.bipush 46, 2) := fx_dat dk_M_verdict 157 rfl
theorem d_M_verdict_299 : decode prog_15_method_74_code 299 = .ok (.goto 4, 3) := fx_dat dk_M_verdict 158 rfl
theorem d_M_verdict_302 : decode prog_15_method_74_code 302 = .ok (.iconst 0, 1) := fx_dat dk_M_verdict 159 rfl
theorem d_M_verdict_303 : decode prog_15_method_74_code 303 = .ok (.ireturn, 1) := fx_dat dk_M_verdict 160 rfl
def m_M_verdict_303 (Q : Int32 → AH → Prop) (sx0 : Int32) (h : AH) : Prop := Q sx0 h
def m_M_verdict_302 (Q : Int32 → AH → Prop) (h : AH) : Prop := m_M_verdict_303 Q (0 : Int32) h
def m_M_verdict_262 (Q : Int32 → AH → Prop) (X139 : Int32 × AH → Prop) (r0 : Nat) (x1 : Int32) (x4 : Int32) (h : AH) : Prop := ∀ v1 : Int32, v1 = (x4 + (1 : Int32)) → X139 (v1, h)
def m_M_verdict_259 (Q : Int32 → AH → Prop) (h : AH) : Prop := Q (43 : Int32) h
def m_M_verdict_241 (Q : Int32 → AH → Prop) (X139 : Int32 × AH → Prop) (r0 : Nat) (x1 : Int32) (x4 : Int32) (h : AH) : Prop := hp_k h r0 = 13 ∧ ((hp_I h r0 29) < 0 → m_M_verdict_262 Q X139 r0 x1 x4 h) ∧ (¬ (hp_I h r0 29) < 0 → (¬ (((hp_I h r0 29) >>> (x1 &&& 31)) &&& (1 : Int32)) = 0 → m_M_verdict_262 Q X139 r0 x1 x4 h) ∧ ((((hp_I h r0 29) >>> (x1 &&& 31)) &&& (1 : Int32)) = 0 → m_M_verdict_259 Q h))
def m_M_verdict_218 (Q : Int32 → AH → Prop) (X139 : Int32 × AH → Prop) (r0 : Nat) (x1 : Int32) (x4 : Int32) (h : AH) : Prop := (¬ x4 = 0 → m_M_verdict_262 Q X139 r0 x1 x4 h) ∧ (x4 = 0 → hp_k h r0 = 13 ∧ ((hp_I h r0 28) < 0 → m_M_verdict_241 Q X139 r0 x1 x4 h) ∧ (¬ (hp_I h r0 28) < 0 → (((hp_I h r0 28) &&& (128 : Int32)) = 0 → m_M_verdict_259 Q h) ∧ (¬ ((hp_I h r0 28) &&& (128 : Int32)) = 0 → m_M_verdict_241 Q X139 r0 x1 x4 h)))
def m_M_verdict_215 (Q : Int32 → AH → Prop) (h : AH) : Prop := Q (43 : Int32) h
def m_M_verdict_197 (Q : Int32 → AH → Prop) (X139 : Int32 × AH → Prop) (r0 : Nat) (x1 : Int32) (x4 : Int32) (h : AH) : Prop := hp_k h r0 = 13 ∧ ((hp_I h r0 27) < 0 → m_M_verdict_218 Q X139 r0 x1 x4 h) ∧ (¬ (hp_I h r0 27) < 0 → ((x4 - (1 : Int32)) ≤ (hp_I h r0 27) → m_M_verdict_218 Q X139 r0 x1 x4 h) ∧ (¬ (x4 - (1 : Int32)) ≤ (hp_I h r0 27) → m_M_verdict_215 Q h))
def m_M_verdict_139_b (Q : Int32 → AH → Prop) (X139 : Int32 × AH → Prop) (r0 : Nat) (x1 : Int32) (x4 : Int32) (h : AH) : Prop := hp_k h r0 = 13 ∧ ((hp_I h r0 16) < x4 → ∃ b1, hp_R h r0 11 = some b1 ∧ ik (hp_k h b1) ∧ vp_in (0 : Int32) (hp_n h b1) ∧ m_M_parses (fun v1 h1 => fx_ext h h1 → zb v1 → (¬ x1 = 0 → m_M_verdict_302 Q h1) ∧ (x1 = 0 → ((hp_I h1 r0 6) ≤ 0 → m_M_verdict_302 Q h1) ∧ (¬ (hp_I h1 r0 6) ≤ 0 → m_M_hostFits (fun v2 h2 => fx_ext h1 h2 → zb v2 → (¬ v2 = 0 → m_M_verdict_302 Q h2) ∧ (v2 = 0 → m_M_verdict_303 Q (46 : Int32) h2)) r0 h1))) r0 (hp_I h b1 (0 : Int32).toNatClampNeg) h) ∧ (¬ (hp_I h r0 16) < x4 → m_M_onPath (fun v3 h3 => fx_ext h h3 → m_M_parses (fun v4 h4 => fx_ext h3 h4 → zb v4 → ((hp_I h4 r0 26) = 0 → (x4 ≤ 0 → m_M_verdict_218 Q X139 r0 x1 x4 h4) ∧ (¬ x4 ≤ 0 → ((hp_I h4 r0 25) = 0 → m_M_verdict_215 Q h4) ∧ (¬ (hp_I h4 r0 25) = 0 → ((hp_I h4 r0 28) < 0 → m_M_verdict_197 Q X139 r0 x1 x4 h4) ∧ (¬ (hp_I h4 r0 28) < 0 → (((hp_I h4 r0 28) &&& (4 : Int32)) = 0 → m_M_verdict_215 Q h4) ∧ (¬ ((hp_I h4 r0 28) &&& (4 : Int32)) = 0 → m_M_verdict_197 Q X139 r0 x1 x4 h4))))) ∧ (¬ (hp_I h4 r0 26) = 0 → Q (43 : Int32) h4)) r0 v3 h3) r0 x4 h)
def m_M_verdict_139 (Q : Int32 → AH → Prop) (r0 : Nat) (x1 : Int32) (x4 : Int32) (h : AH) : Prop := fx_loop (fun (X139 : Int32 × AH → Prop) (st : Int32 × AH) => m_M_verdict_139_b Q X139 r0 x1 st.1 st.2) (x4, h)
def m_M_verdict_127 (Q : Int32 → AH → Prop) (h : AH) : Prop := Q (45 : Int32) h
def m_M_verdict_79_b (Q : Int32 → AH → Prop) (X79 : Int32 × AH → Prop) (r0 : Nat) (x1 : Int32) (x2 : Int32) (x4 : Int32) (h : AH) : Prop := hp_k h r0 = 13 ∧ ((hp_I h r0 16) < x4 → m_M_verdict_139 Q r0 x1 (0 : Int32) h) ∧ (¬ (hp_I h r0 16) < x4 → m_M_onPath (fun v1 h1 => fx_ext h h1 → m_M_parses (fun v2 h2 => fx_ext h1 h2 → zb v2 → ((lg_cmp ((60 : Int64) * ((x2).toInt64)) (hp_L h2 r0 23)) < 0 → m_M_verdict_127 Q h2) ∧ (¬ (lg_cmp ((60 : Int64) * ((x2).toInt64)) (hp_L h2 r0 23)) < 0 → ((lg_cmp ((60 : Int64) * ((x2).toInt64)) (hp_L h2 r0 24)) ≤ 0 → ∀ v3 : Int32, v3 = (x4 + (1 : Int32)) → X79 (v3, h2)) ∧ (¬ (lg_cmp ((60 : Int64) * ((x2).toInt64)) (hp_L h2 r0 24)) ≤ 0 → m_M_verdict_127 Q h2))) r0 v1 h1) r0 x4 h)
def m_M_verdict_79 (Q : Int32 → AH → Prop) (r0 : Nat) (x1 : Int32) (x2 : Int32) (x4 : Int32) (h : AH) : Prop := fx_loop (fun (X79 : Int32 × AH → Prop) (st : Int32 × AH) => m_M_verdict_79_b Q X79 r0 x1 x2 st.1 st.2) (x4, h)
def m_M_verdict_56_b (Q : Int32 → AH → Prop) (X56 : Int32 × AH → Prop) (r0 : Nat) (x1 : Int32) (x2 : Int32) (x3 : Int32) (h : AH) : Prop := (¬ x3 = (1 : Int32) → (x3 ≤ (1 : Int32) → m_M_verdict_79 Q r0 x1 x2 (0 : Int32) h) ∧ (¬ x3 ≤ (1 : Int32) → Q x3 h)) ∧ (x3 = (1 : Int32) → hp_k h r0 = 13 ∧ m_M_further (fun v1 h1 => fx_ext h h1 → X56 (v1, h1)) r0 h)
def m_M_verdict_56 (Q : Int32 → AH → Prop) (r0 : Nat) (x1 : Int32) (x2 : Int32) (x3 : Int32) (h : AH) : Prop := fx_loop (fun (X56 : Int32 × AH → Prop) (st : Int32 × AH) => m_M_verdict_56_b Q X56 r0 x1 x2 st.1 st.2) (x3, h)
def m_M_verdict_12_b (Q : Int32 → AH → Prop) (X12 : Int32 × AH → Prop) (r0 : Nat) (x1 : Int32) (x2 : Int32) (x3 : Int32) (h : AH) : Prop := hp_k h r0 = 13 ∧ ((hp_I h r0 14) ≤ x3 → ∃ b1, hp_R h r0 13 = some b1 ∧ hp_k h b1 = 102 ∧ vp_in (0 : Int32) (hp_n h b1) ∧ ∀ h1 : AH, h1 = up_I h b1 ((0 : Int32)).toNatClampNeg (0 : Int32) → ∀ h2 : AH, h2 = up_I h1 r0 16 (1 : Int32) → m_M_verdict_56 Q r0 x1 x2 (1 : Int32) h2) ∧ (¬ (hp_I h r0 14) ≤ x3 → ∃ b2, hp_R h r0 11 = some b2 ∧ ik (hp_k h b2) ∧ vp_in x3 (hp_n h b2) ∧ m_M_parses (fun v1 h3 => fx_ext h h3 → zb v1 → (¬ v1 = 0 → ∀ v2 : Int32, v2 = (x3 + (1 : Int32)) → X12 (v2, h3)) ∧ (v1 = 0 → Q (42 : Int32) h3)) r0 (hp_I h b2 x3.toNatClampNeg) h)
def m_M_verdict_12 (Q : Int32 → AH → Prop) (r0 : Nat) (x1 : Int32) (x2 : Int32) (x3 : Int32) (h : AH) : Prop := fx_loop (fun (X12 : Int32 × AH → Prop) (st : Int32 × AH) => m_M_verdict_12_b Q X12 r0 x1 x2 st.1 st.2) (x3, h)
def m_M_verdict (Q : Int32 → AH → Prop) (r0 : Nat) (x1 : Int32) (x2 : Int32) (h : AH) : Prop := hp_k h r0 = 13 ∧ ∀ h1 : AH, h1 = up_I h r0 16 (0 : Int32) → ∀ h2 : AH, h2 = up_I h1 r0 17 (-1 : Int32) → m_M_verdict_12 Q r0 x1 x2 (0 : Int32) h2
theorem b_M_verdict_303 {p : Program} {l : Launch} {e : Env} {R : Room} {s : State} {m : MethodId} {args : Array Value} {below : List Frame} {meth : Method} {c : Code} {D : DD} {h0 : AH} {Q : Int32 → AH → Prop} (C : fx_CX D y_M_verdict prog_15_method_74_code 5 9 147 (Option.some FieldType.int) [] h0 p R s m meth c) (hl : l.flags = flags0) (sx0 : Int32) (h : AH) (hw : m_M_verdict_303 Q sx0 h) : ∀ (ls : Array Slot) (H : Heap) (locs : List Loc) (cells slots : Nat), lv_has ls 5 [] → fx_F D h0 h H locs cells slots → W p l e R s m args below meth c H locs cells slots (fx_Z D below s h0 (fx_oI Q fx_no)) (F0 m 303 ls [.int sx0]) := by
  unfold m_M_verdict_303 at hw
  intro ls H locs cells slots hv F
  exact fx_iret C F d_M_verdict_303 (Or.inl ⟨_, rfl, hw⟩)
theorem b_M_verdict_302 {p : Program} {l : Launch} {e : Env} {R : Room} {s : State} {m : MethodId} {args : Array Value} {below : List Frame} {meth : Method} {c : Code} {D : DD} {h0 : AH} {Q : Int32 → AH → Prop} (C : fx_CX D y_M_verdict prog_15_method_74_code 5 9 147 (Option.some FieldType.int) [] h0 p R s m meth c) (hl : l.flags = flags0) (h : AH) (hw : m_M_verdict_302 Q h) : ∀ (ls : Array Slot) (H : Heap) (locs : List Loc) (cells slots : Nat), lv_has ls 5 [] → fx_F D h0 h H locs cells slots → W p l e R s m args below meth c H locs cells slots (fx_Z D below s h0 (fx_oI Q fx_no)) (F0 m 302 ls []) := by
  unfold m_M_verdict_302 at hw
  intro ls H locs cells slots hv F
  refine lv_iconst (v := (0 : Int32)) C.ex C.by d_M_verdict_302 (by decide) ?_
  exact b_M_verdict_303 C hl _ _ hw _ _ _ _ _ hv F
theorem b_M_verdict_262 {p : Program} {l : Launch} {e : Env} {R : Room} {s : State} {m : MethodId} {args : Array Value} {below : List Frame} {meth : Method} {c : Code} {D : DD} {h0 : AH} {Q : Int32 → AH → Prop} {X139 : Int32 × AH → Prop} (C : fx_CX D y_M_verdict prog_15_method_74_code 5 9 147 (Option.some FieldType.int) [] h0 p R s m meth c) (hl : l.flags = flags0) (r0 : Nat) (x1 : Int32) (x4 : Int32) (h : AH) (hX139 : ∀ st, X139 st → ∀ (ls : Array Slot) (H : Heap) (locs : List Loc) (cells slots : Nat), lv_has ls 5 [(0, .ref r0), (1, .int x1), (4, .int st.1)] → fx_F D h0 st.2 H locs cells slots → W p l e R s m args below meth c H locs cells slots (fx_Z D below s h0 (fx_oI Q fx_no)) (F0 m 139 ls [])) (hw : m_M_verdict_262 Q X139 r0 x1 x4 h) : ∀ (ls : Array Slot) (H : Heap) (locs : List Loc) (cells slots : Nat), lv_has ls 5 [(0, .ref r0), (1, .int x1), (4, .int x4)] → fx_F D h0 h H locs cells slots → W p l e R s m args below meth c H locs cells slots (fx_Z D below s h0 (fx_oI Q fx_no)) (F0 m 262 ls []) := by
  unfold m_M_verdict_262 at hw
  intro ls H locs cells slots hv F
  let v1 : Int32 := (x4 + (1 : Int32))
  replace hw := hw v1 rfl
  refine lv_iinc (v := v1) (k := 2) (lv' := [(4, .int v1), (0, .ref r0), (1, .int x1)]) C.ex C.by d_M_verdict_262 hv rfl (congrArg (fun z => x4 + z) (by decide)) (by decide) rfl (fun ls hv => ?_)
  refine lv_goto C.ex C.by d_M_verdict_265 rfl ?_
  exact hX139 _ hw _ _ _ _ _ (lv_sub hv [1, 2, 0] rfl) F
theorem b_M_verdict_259 {p : Program} {l : Launch} {e : Env} {R : Room} {s : State} {m : MethodId} {args : Array Value} {below : List Frame} {meth : Method} {c : Code} {D : DD} {h0 : AH} {Q : Int32 → AH → Prop} (C : fx_CX D y_M_verdict prog_15_method_74_code 5 9 147 (Option.some FieldType.int) [] h0 p R s m meth c) (hl : l.flags = flags0) (h : AH) (hw : m_M_verdict_259 Q h) : ∀ (ls : Array Slot) (H : Heap) (locs : List Loc) (cells slots : Nat), lv_has ls 5 [] → fx_F D h0 h H locs cells slots → W p l e R s m args below meth c H locs cells slots (fx_Z D below s h0 (fx_oI Q fx_no)) (F0 m 259 ls []) := by
  unfold m_M_verdict_259 at hw
  intro ls H locs cells slots hv F
  refine lv_bipush (v := (43 : Int32)) C.ex C.by d_M_verdict_259 (by decide) ?_
  exact fx_iret C F d_M_verdict_261 (Or.inl ⟨_, rfl, hw⟩)
theorem b_M_verdict_241 {p : Program} {l : Launch} {e : Env} {R : Room} {s : State} {m : MethodId} {args : Array Value} {below : List Frame} {meth : Method} {c : Code} {D : DD} {h0 : AH} {Q : Int32 → AH → Prop} {X139 : Int32 × AH → Prop} (C : fx_CX D y_M_verdict prog_15_method_74_code 5 9 147 (Option.some FieldType.int) [] h0 p R s m meth c) (hl : l.flags = flags0) (r0 : Nat) (x1 : Int32) (x4 : Int32) (h : AH) (hX139 : ∀ st, X139 st → ∀ (ls : Array Slot) (H : Heap) (locs : List Loc) (cells slots : Nat), lv_has ls 5 [(0, .ref r0), (1, .int x1), (4, .int st.1)] → fx_F D h0 st.2 H locs cells slots → W p l e R s m args below meth c H locs cells slots (fx_Z D below s h0 (fx_oI Q fx_no)) (F0 m 139 ls [])) (hw : m_M_verdict_241 Q X139 r0 x1 x4 h) : ∀ (ls : Array Slot) (H : Heap) (locs : List Loc) (cells slots : Nat), lv_has ls 5 [(0, .ref r0), (1, .int x1), (4, .int x4)] → fx_F D h0 h H locs cells slots → W p l e R s m args below meth c H locs cells slots (fx_Z D below s h0 (fx_oI Q fx_no)) (F0 m 241 ls []) := by
  unfold m_M_verdict_241 at hw
  intro ls H locs cells slots hv F
  refine lv_aload_n C.ex C.by d_M_verdict_241 rfl (lv_at hv 0 rfl) ?_
  obtain ⟨hk1, hw⟩ := hw
  refine fx_getI C F lf_M_202 hk1 rfl d_M_verdict_242 ?_
  refine lv_if_lt C.ex C.by d_M_verdict_245 rfl (fun hc => ?_) (fun hc => ?_)
  · replace hw := hw.1 hc
    exact b_M_verdict_262 C hl _ _ _ _ hX139 hw _ _ _ _ _ hv F
  · replace hw := hw.2 hc
    refine lv_aload_n C.ex C.by d_M_verdict_248 rfl (lv_at hv 0 rfl) ?_
    refine fx_getI C F lf_M_202 hk1 rfl d_M_verdict_249 ?_
    refine lv_iload_n C.ex C.by d_M_verdict_252 rfl (lv_at hv 1 rfl) ?_
    refine lv_ishr C.ex C.by d_M_verdict_253 ?_
    refine lv_iconst (v := (1 : Int32)) C.ex C.by d_M_verdict_254 (by decide) ?_
    refine lv_iand C.ex C.by d_M_verdict_255 ?_
    refine lv_if_ne C.ex C.by d_M_verdict_256 rfl (fun hc => ?_) (fun hc => ?_)
    · replace hw := hw.1 hc
      exact b_M_verdict_262 C hl _ _ _ _ hX139 hw _ _ _ _ _ hv F
    · replace hw := hw.2 hc
      exact b_M_verdict_259 C hl _ hw _ _ _ _ _ (lv_sub hv [] rfl) F
theorem b_M_verdict_218 {p : Program} {l : Launch} {e : Env} {R : Room} {s : State} {m : MethodId} {args : Array Value} {below : List Frame} {meth : Method} {c : Code} {D : DD} {h0 : AH} {Q : Int32 → AH → Prop} {X139 : Int32 × AH → Prop} (C : fx_CX D y_M_verdict prog_15_method_74_code 5 9 147 (Option.some FieldType.int) [] h0 p R s m meth c) (hl : l.flags = flags0) (r0 : Nat) (x1 : Int32) (x4 : Int32) (h : AH) (hX139 : ∀ st, X139 st → ∀ (ls : Array Slot) (H : Heap) (locs : List Loc) (cells slots : Nat), lv_has ls 5 [(0, .ref r0), (1, .int x1), (4, .int st.1)] → fx_F D h0 st.2 H locs cells slots → W p l e R s m args below meth c H locs cells slots (fx_Z D below s h0 (fx_oI Q fx_no)) (F0 m 139 ls [])) (hw : m_M_verdict_218 Q X139 r0 x1 x4 h) : ∀ (ls : Array Slot) (H : Heap) (locs : List Loc) (cells slots : Nat), lv_has ls 5 [(0, .ref r0), (1, .int x1), (4, .int x4)] → fx_F D h0 h H locs cells slots → W p l e R s m args below meth c H locs cells slots (fx_Z D below s h0 (fx_oI Q fx_no)) (F0 m 218 ls []) := by
  unfold m_M_verdict_218 at hw
  intro ls H locs cells slots hv F
  refine lv_iload C.ex C.by d_M_verdict_218 (lv_at hv 2 rfl) ?_
  refine lv_if_ne C.ex C.by d_M_verdict_220 rfl (fun hc => ?_) (fun hc => ?_)
  · replace hw := hw.1 hc
    exact b_M_verdict_262 C hl _ _ _ _ hX139 hw _ _ _ _ _ hv F
  · replace hw := hw.2 hc
    refine lv_aload_n C.ex C.by d_M_verdict_223 rfl (lv_at hv 0 rfl) ?_
    obtain ⟨hk1, hw⟩ := hw
    refine fx_getI C F lf_M_190 hk1 rfl d_M_verdict_224 ?_
    refine lv_if_lt C.ex C.by d_M_verdict_227 rfl (fun hc => ?_) (fun hc => ?_)
    · replace hw := hw.1 hc
      exact b_M_verdict_241 C hl _ _ _ _ hX139 hw _ _ _ _ _ hv F
    · replace hw := hw.2 hc
      refine lv_aload_n C.ex C.by d_M_verdict_230 rfl (lv_at hv 0 rfl) ?_
      refine fx_getI C F lf_M_190 hk1 rfl d_M_verdict_231 ?_
      refine lv_sipush (v := (128 : Int32)) C.ex C.by d_M_verdict_234 (by decide) ?_
      refine lv_iand C.ex C.by d_M_verdict_237 ?_
      refine lv_if_eq C.ex C.by d_M_verdict_238 rfl (fun hc => ?_) (fun hc => ?_)
      · replace hw := hw.1 hc
        exact b_M_verdict_259 C hl _ hw _ _ _ _ _ (lv_sub hv [] rfl) F
      · replace hw := hw.2 hc
        exact b_M_verdict_241 C hl _ _ _ _ hX139 hw _ _ _ _ _ hv F
theorem b_M_verdict_215 {p : Program} {l : Launch} {e : Env} {R : Room} {s : State} {m : MethodId} {args : Array Value} {below : List Frame} {meth : Method} {c : Code} {D : DD} {h0 : AH} {Q : Int32 → AH → Prop} (C : fx_CX D y_M_verdict prog_15_method_74_code 5 9 147 (Option.some FieldType.int) [] h0 p R s m meth c) (hl : l.flags = flags0) (h : AH) (hw : m_M_verdict_215 Q h) : ∀ (ls : Array Slot) (H : Heap) (locs : List Loc) (cells slots : Nat), lv_has ls 5 [] → fx_F D h0 h H locs cells slots → W p l e R s m args below meth c H locs cells slots (fx_Z D below s h0 (fx_oI Q fx_no)) (F0 m 215 ls []) := by
  unfold m_M_verdict_215 at hw
  intro ls H locs cells slots hv F
  refine lv_bipush (v := (43 : Int32)) C.ex C.by d_M_verdict_215 (by decide) ?_
  exact fx_iret C F d_M_verdict_217 (Or.inl ⟨_, rfl, hw⟩)
theorem b_M_verdict_197 {p : Program} {l : Launch} {e : Env} {R : Room} {s : State} {m : MethodId} {args : Array Value} {below : List Frame} {meth : Method} {c : Code} {D : DD} {h0 : AH} {Q : Int32 → AH → Prop} {X139 : Int32 × AH → Prop} (C : fx_CX D y_M_verdict prog_15_method_74_code 5 9 147 (Option.some FieldType.int) [] h0 p R s m meth c) (hl : l.flags = flags0) (r0 : Nat) (x1 : Int32) (x4 : Int32) (h : AH) (hX139 : ∀ st, X139 st → ∀ (ls : Array Slot) (H : Heap) (locs : List Loc) (cells slots : Nat), lv_has ls 5 [(0, .ref r0), (1, .int x1), (4, .int st.1)] → fx_F D h0 st.2 H locs cells slots → W p l e R s m args below meth c H locs cells slots (fx_Z D below s h0 (fx_oI Q fx_no)) (F0 m 139 ls [])) (hw : m_M_verdict_197 Q X139 r0 x1 x4 h) : ∀ (ls : Array Slot) (H : Heap) (locs : List Loc) (cells slots : Nat), lv_has ls 5 [(0, .ref r0), (1, .int x1), (4, .int x4)] → fx_F D h0 h H locs cells slots → W p l e R s m args below meth c H locs cells slots (fx_Z D below s h0 (fx_oI Q fx_no)) (F0 m 197 ls []) := by
  unfold m_M_verdict_197 at hw
  intro ls H locs cells slots hv F
  refine lv_aload_n C.ex C.by d_M_verdict_197 rfl (lv_at hv 0 rfl) ?_
  obtain ⟨hk1, hw⟩ := hw
  refine fx_getI C F lf_M_187 hk1 rfl d_M_verdict_198 ?_
  refine lv_if_lt C.ex C.by d_M_verdict_201 rfl (fun hc => ?_) (fun hc => ?_)
  · replace hw := hw.1 hc
    exact b_M_verdict_218 C hl _ _ _ _ hX139 hw _ _ _ _ _ hv F
  · replace hw := hw.2 hc
    refine lv_iload C.ex C.by d_M_verdict_204 (lv_at hv 2 rfl) ?_
    refine lv_iconst (v := (1 : Int32)) C.ex C.by d_M_verdict_206 (by decide) ?_
    refine lv_isub C.ex C.by d_M_verdict_207 ?_
    refine lv_aload_n C.ex C.by d_M_verdict_208 rfl (lv_at hv 0 rfl) ?_
    refine fx_getI C F lf_M_187 hk1 rfl d_M_verdict_209 ?_
    refine lv_icmp_le C.ex C.by d_M_verdict_212 rfl (fun hc => ?_) (fun hc => ?_)
    · replace hw := hw.1 hc
      exact b_M_verdict_218 C hl _ _ _ _ hX139 hw _ _ _ _ _ hv F
    · replace hw := hw.2 hc
      exact b_M_verdict_215 C hl _ hw _ _ _ _ _ (lv_sub hv [] rfl) F
theorem b_M_verdict_139 {p : Program} {l : Launch} {e : Env} {R : Room} {s : State} {m : MethodId} {args : Array Value} {below : List Frame} {meth : Method} {c : Code} {D : DD} {h0 : AH} {Q : Int32 → AH → Prop} (C : fx_CX D y_M_verdict prog_15_method_74_code 5 9 147 (Option.some FieldType.int) [] h0 p R s m meth c) (hl : l.flags = flags0) (r0 : Nat) (x1 : Int32) (x4 : Int32) (h : AH) (hw : m_M_verdict_139 Q r0 x1 x4 h) : ∀ (ls : Array Slot) (H : Heap) (locs : List Loc) (cells slots : Nat), lv_has ls 5 [(0, .ref r0), (1, .int x1), (4, .int x4)] → fx_F D h0 h H locs cells slots → W p l e R s m args below meth c H locs cells slots (fx_Z D below s h0 (fx_oI Q fx_no)) (F0 m 139 ls []) := by
  refine fx_loop.use hw (fun st => ∀ (ls : Array Slot) (H : Heap) (locs : List Loc) (cells slots : Nat), lv_has ls 5 [(0, .ref r0), (1, .int x1), (4, .int st.1)] → fx_F D h0 st.2 H locs cells slots → W p l e R s m args below meth c H locs cells slots (fx_Z D below s h0 (fx_oI Q fx_no)) (F0 m 139 ls [])) (fun X139 st hX139 hw => ?_)
  obtain ⟨x4, h⟩ := st
  replace hw : m_M_verdict_139_b Q X139 r0 x1 x4 h := hw
  unfold m_M_verdict_139_b at hw
  intro ls H locs cells slots hv F
  refine lv_iload C.ex C.by d_M_verdict_139 (lv_at hv 2 rfl) ?_
  refine lv_aload_n C.ex C.by d_M_verdict_141 rfl (lv_at hv 0 rfl) ?_
  obtain ⟨hk1, hw⟩ := hw
  refine fx_getI C F lf_M_405 hk1 rfl d_M_verdict_142 ?_
  refine lv_icmp_gt C.ex C.by d_M_verdict_145 rfl (fun hc => ?_) (fun hc => ?_)
  · replace hw := hw.1 hc
    refine lv_aload_n C.ex C.by d_M_verdict_268 rfl (lv_at hv 0 rfl) ?_
    refine lv_aload_n C.ex C.by d_M_verdict_269 rfl (lv_at hv 0 rfl) ?_
    obtain ⟨b1, hb1, hw⟩ := hw
    refine fx_getR C F lf_M_31 hk1 rfl hb1 d_M_verdict_270 ?_
    refine lv_iconst (v := (0 : Int32)) C.ex C.by d_M_verdict_273 (by decide) ?_
    obtain ⟨hk2, hw⟩ := hw
    obtain ⟨hi1, hw⟩ := hw
    refine fx_iald C F hk2 hi1 d_M_verdict_274 ?_
    refine fx_callZ C F (c_M_parses hl hw) hm_M_parses hi_M_parses hv.1 (by decide) (Nat.le_of_ble_eq_true rfl) (iv_M_parses C F lm_M_368 hk1 d_M_verdict_275) (fx_out0 _) fx_eno (fun v1 h1 H locs cells slots hw hx1 hzb F => ?_)
    replace hw := hw hx1 hzb
    have hk2 := (hx1).gi hk2
    have hk1 := (hx1).k hk1
    refine lv_pop C.ex C.by d_M_verdict_278 rfl ?_
    refine lv_iload_n C.ex C.by d_M_verdict_279 rfl (lv_at hv 1 rfl) ?_
    refine lv_if_ne C.ex C.by d_M_verdict_280 rfl (fun hc => ?_) (fun hc => ?_)
    · replace hw := hw.1 hc
      exact b_M_verdict_302 C hl _ hw _ _ _ _ _ (lv_sub hv [] rfl) F
    · replace hw := hw.2 hc
      refine lv_aload_n C.ex C.by d_M_verdict_283 rfl (lv_at hv 0 rfl) ?_
      refine fx_getI C F lf_M_402 hk1 rfl d_M_verdict_284 ?_
      refine lv_if_le C.ex C.by d_M_verdict_287 rfl (fun hc => ?_) (fun hc => ?_)
      · replace hw := hw.1 hc
        exact b_M_verdict_302 C hl _ hw _ _ _ _ _ (lv_sub hv [] rfl) F
      · replace hw := hw.2 hc
        refine lv_aload_n C.ex C.by d_M_verdict_290 rfl (lv_at hv 0 rfl) ?_
        refine fx_callZ C F (c_M_hostFits hl hw) hm_M_hostFits hi_M_hostFits hv.1 (by decide) (Nat.le_of_ble_eq_true rfl) (iv_M_hostFits C F lm_M_430 hk1 d_M_verdict_291) (fx_out0 _) fx_eno (fun v2 h2 H locs cells slots hw hx2 hzb F => ?_)
        replace hw := hw hx2 hzb
        have hk2 := (hx2).gi hk2
        have hk1 := (hx2).k hk1
        refine lv_if_ne C.ex C.by d_M_verdict_294 rfl (fun hc => ?_) (fun hc => ?_)
        · replace hw := hw.1 hc
          exact b_M_verdict_302 C hl _ hw _ _ _ _ _ (lv_sub hv [] rfl) F
        · replace hw := hw.2 hc
          refine lv_bipush (v := (46 : Int32)) C.ex C.by d_M_verdict_297 (by decide) ?_
          refine lv_goto C.ex C.by d_M_verdict_299 rfl ?_
          exact b_M_verdict_303 C hl _ _ hw _ _ _ _ _ (lv_sub hv [] rfl) F
  · replace hw := hw.2 hc
    refine lv_aload_n C.ex C.by d_M_verdict_148 rfl (lv_at hv 0 rfl) ?_
    refine lv_aload_n C.ex C.by d_M_verdict_149 rfl (lv_at hv 0 rfl) ?_
    refine lv_iload C.ex C.by d_M_verdict_150 (lv_at hv 2 rfl) ?_
    refine fx_callI C F (c_M_onPath hl hw) hm_M_onPath hi_M_onPath hv.1 (by decide) (Nat.le_of_ble_eq_true rfl) (iv_M_onPath C F lm_M_427 hk1 d_M_verdict_152) (fx_out0 _) fx_eno (fun v3 h3 H locs cells slots hw hx3 F => ?_)
    replace hw := hw hx3
    have hk1 := (hx3).k hk1
    refine fx_callZ C F (c_M_parses hl hw) hm_M_parses hi_M_parses hv.1 (by decide) (Nat.le_of_ble_eq_true rfl) (iv_M_parses C F lm_M_368 hk1 d_M_verdict_155) (fx_out0 _) fx_eno (fun v4 h4 H locs cells slots hw hx4 hzb F => ?_)
    replace hw := hw hx4 hzb
    have hk1 := (hx4).k hk1
    refine lv_pop C.ex C.by d_M_verdict_158 rfl ?_
    refine lv_aload_n C.ex C.by d_M_verdict_159 rfl (lv_at hv 0 rfl) ?_
    refine fx_getI C F lf_M_226 hk1 rfl d_M_verdict_160 ?_
    refine lv_if_eq C.ex C.by d_M_verdict_163 rfl (fun hc => ?_) (fun hc => ?_)
    · replace hw := hw.1 hc
      refine lv_iload C.ex C.by d_M_verdict_169 (lv_at hv 2 rfl) ?_
      refine lv_if_le C.ex C.by d_M_verdict_171 rfl (fun hc => ?_) (fun hc => ?_)
      · replace hw := hw.1 hc
        exact b_M_verdict_218 C hl _ _ _ _ hX139 hw _ _ _ _ _ hv F
      · replace hw := hw.2 hc
        refine lv_aload_n C.ex C.by d_M_verdict_174 rfl (lv_at hv 0 rfl) ?_
        refine fx_getI C F lf_M_184 hk1 rfl d_M_verdict_175 ?_
        refine lv_if_eq C.ex C.by d_M_verdict_178 rfl (fun hc => ?_) (fun hc => ?_)
        · replace hw := hw.1 hc
          exact b_M_verdict_215 C hl _ hw _ _ _ _ _ (lv_sub hv [] rfl) F
        · replace hw := hw.2 hc
          refine lv_aload_n C.ex C.by d_M_verdict_181 rfl (lv_at hv 0 rfl) ?_
          refine fx_getI C F lf_M_190 hk1 rfl d_M_verdict_182 ?_
          refine lv_if_lt C.ex C.by d_M_verdict_185 rfl (fun hc => ?_) (fun hc => ?_)
          · replace hw := hw.1 hc
            exact b_M_verdict_197 C hl _ _ _ _ hX139 hw _ _ _ _ _ hv F
          · replace hw := hw.2 hc
            refine lv_aload_n C.ex C.by d_M_verdict_188 rfl (lv_at hv 0 rfl) ?_
            refine fx_getI C F lf_M_190 hk1 rfl d_M_verdict_189 ?_
            refine lv_iconst (v := (4 : Int32)) C.ex C.by d_M_verdict_192 (by decide) ?_
            refine lv_iand C.ex C.by d_M_verdict_193 ?_
            refine lv_if_eq C.ex C.by d_M_verdict_194 rfl (fun hc => ?_) (fun hc => ?_)
            · replace hw := hw.1 hc
              exact b_M_verdict_215 C hl _ hw _ _ _ _ _ (lv_sub hv [] rfl) F
            · replace hw := hw.2 hc
              exact b_M_verdict_197 C hl _ _ _ _ hX139 hw _ _ _ _ _ hv F
    · replace hw := hw.2 hc
      refine lv_bipush (v := (43 : Int32)) C.ex C.by d_M_verdict_166 (by decide) ?_
      exact fx_iret C F d_M_verdict_168 (Or.inl ⟨_, rfl, hw⟩)
theorem b_M_verdict_127 {p : Program} {l : Launch} {e : Env} {R : Room} {s : State} {m : MethodId} {args : Array Value} {below : List Frame} {meth : Method} {c : Code} {D : DD} {h0 : AH} {Q : Int32 → AH → Prop} (C : fx_CX D y_M_verdict prog_15_method_74_code 5 9 147 (Option.some FieldType.int) [] h0 p R s m meth c) (hl : l.flags = flags0) (h : AH) (hw : m_M_verdict_127 Q h) : ∀ (ls : Array Slot) (H : Heap) (locs : List Loc) (cells slots : Nat), lv_has ls 5 [] → fx_F D h0 h H locs cells slots → W p l e R s m args below meth c H locs cells slots (fx_Z D below s h0 (fx_oI Q fx_no)) (F0 m 127 ls []) := by
  unfold m_M_verdict_127 at hw
  intro ls H locs cells slots hv F
  refine lv_bipush (v := (45 : Int32)) C.ex C.by d_M_verdict_127 (by decide) ?_
  exact fx_iret C F d_M_verdict_129 (Or.inl ⟨_, rfl, hw⟩)
theorem b_M_verdict_79 {p : Program} {l : Launch} {e : Env} {R : Room} {s : State} {m : MethodId} {args : Array Value} {below : List Frame} {meth : Method} {c : Code} {D : DD} {h0 : AH} {Q : Int32 → AH → Prop} (C : fx_CX D y_M_verdict prog_15_method_74_code 5 9 147 (Option.some FieldType.int) [] h0 p R s m meth c) (hl : l.flags = flags0) (r0 : Nat) (x1 : Int32) (x2 : Int32) (x4 : Int32) (h : AH) (hw : m_M_verdict_79 Q r0 x1 x2 x4 h) : ∀ (ls : Array Slot) (H : Heap) (locs : List Loc) (cells slots : Nat), lv_has ls 5 [(0, .ref r0), (1, .int x1), (2, .int x2), (4, .int x4)] → fx_F D h0 h H locs cells slots → W p l e R s m args below meth c H locs cells slots (fx_Z D below s h0 (fx_oI Q fx_no)) (F0 m 79 ls []) := by
  refine fx_loop.use hw (fun st => ∀ (ls : Array Slot) (H : Heap) (locs : List Loc) (cells slots : Nat), lv_has ls 5 [(0, .ref r0), (1, .int x1), (2, .int x2), (4, .int st.1)] → fx_F D h0 st.2 H locs cells slots → W p l e R s m args below meth c H locs cells slots (fx_Z D below s h0 (fx_oI Q fx_no)) (F0 m 79 ls [])) (fun X79 st hX79 hw => ?_)
  obtain ⟨x4, h⟩ := st
  replace hw : m_M_verdict_79_b Q X79 r0 x1 x2 x4 h := hw
  unfold m_M_verdict_79_b at hw
  intro ls H locs cells slots hv F
  refine lv_iload C.ex C.by d_M_verdict_79 (lv_at hv 3 rfl) ?_
  refine lv_aload_n C.ex C.by d_M_verdict_81 rfl (lv_at hv 0 rfl) ?_
  obtain ⟨hk1, hw⟩ := hw
  refine fx_getI C F lf_M_405 hk1 rfl d_M_verdict_82 ?_
  refine lv_icmp_gt C.ex C.by d_M_verdict_85 rfl (fun hc => ?_) (fun hc => ?_)
  · replace hw := hw.1 hc
    refine lv_iconst (v := (0 : Int32)) C.ex C.by d_M_verdict_136 (by decide) ?_
    refine lv_istore (lv' := [(4, .int (0 : Int32)), (0, .ref r0), (1, .int x1), (2, .int x2)]) C.ex C.by d_M_verdict_137 hv (by decide) rfl (fun ls hv => ?_)
    exact b_M_verdict_139 C hl _ _ _ _ hw _ _ _ _ _ (lv_sub hv [1, 2, 0] rfl) F
  · replace hw := hw.2 hc
    refine lv_aload_n C.ex C.by d_M_verdict_88 rfl (lv_at hv 0 rfl) ?_
    refine lv_aload_n C.ex C.by d_M_verdict_89 rfl (lv_at hv 0 rfl) ?_
    refine lv_iload C.ex C.by d_M_verdict_90 (lv_at hv 3 rfl) ?_
    refine fx_callI C F (c_M_onPath hl hw) hm_M_onPath hi_M_onPath hv.1 (by decide) (Nat.le_of_ble_eq_true rfl) (iv_M_onPath C F lm_M_427 hk1 d_M_verdict_92) (fx_out0 _) fx_eno (fun v1 h1 H locs cells slots hw hx1 F => ?_)
    replace hw := hw hx1
    have hk1 := (hx1).k hk1
    refine fx_callZ C F (c_M_parses hl hw) hm_M_parses hi_M_parses hv.1 (by decide) (Nat.le_of_ble_eq_true rfl) (iv_M_parses C F lm_M_368 hk1 d_M_verdict_95) (fx_out0 _) fx_eno (fun v2 h2 H locs cells slots hw hx2 hzb F => ?_)
    replace hw := hw hx2 hzb
    have hk1 := (hx2).k hk1
    refine lv_pop C.ex C.by d_M_verdict_98 rfl ?_
    refine lv_ldc2 (v := (60 : Int64)) C.ex C.by C.ow (C.tw.at (fx_m7 (List.mem_of_getElem? (i := 30) rfl)) rfl rfl) d_M_verdict_99 ?_
    refine lv_iload_n C.ex C.by d_M_verdict_102 rfl (lv_at hv 2 rfl) ?_
    refine lv_i2l (v := ((x2).toInt64)) C.ex C.by d_M_verdict_103 rfl ?_
    refine lv_lmul C.ex C.by d_M_verdict_104 ?_
    refine lv_aload_n C.ex C.by d_M_verdict_105 rfl (lv_at hv 0 rfl) ?_
    refine fx_getL C F lf_M_255 hk1 rfl d_M_verdict_106 ?_
    refine W.lcmp C.ex C.by d_M_verdict_109 ?_
    refine lv_if_lt C.ex C.by d_M_verdict_110 rfl (fun hc => ?_) (fun hc => ?_)
    · replace hw := hw.1 hc
      exact b_M_verdict_127 C hl _ hw _ _ _ _ _ (lv_sub hv [] rfl) F
    · replace hw := hw.2 hc
      refine lv_ldc2 (v := (60 : Int64)) C.ex C.by C.ow (C.tw.at (fx_m7 (List.mem_of_getElem? (i := 30) rfl)) rfl rfl) d_M_verdict_113 ?_
      refine lv_iload_n C.ex C.by d_M_verdict_116 rfl (lv_at hv 2 rfl) ?_
      refine lv_i2l (v := ((x2).toInt64)) C.ex C.by d_M_verdict_117 rfl ?_
      refine lv_lmul C.ex C.by d_M_verdict_118 ?_
      refine lv_aload_n C.ex C.by d_M_verdict_119 rfl (lv_at hv 0 rfl) ?_
      refine fx_getL C F lf_M_259 hk1 rfl d_M_verdict_120 ?_
      refine W.lcmp C.ex C.by d_M_verdict_123 ?_
      refine lv_if_le C.ex C.by d_M_verdict_124 rfl (fun hc => ?_) (fun hc => ?_)
      · replace hw := hw.1 hc
        let v3 : Int32 := (x4 + (1 : Int32))
        replace hw := hw v3 rfl
        refine lv_iinc (v := v3) (k := 3) (lv' := [(4, .int v3), (0, .ref r0), (1, .int x1), (2, .int x2)]) C.ex C.by d_M_verdict_130 hv rfl (congrArg (fun z => x4 + z) (by decide)) (by decide) rfl (fun ls hv => ?_)
        refine lv_goto C.ex C.by d_M_verdict_133 rfl ?_
        exact hX79 _ hw _ _ _ _ _ (lv_sub hv [1, 2, 3, 0] rfl) F
      · replace hw := hw.2 hc
        exact b_M_verdict_127 C hl _ hw _ _ _ _ _ (lv_sub hv [] rfl) F
theorem b_M_verdict_56 {p : Program} {l : Launch} {e : Env} {R : Room} {s : State} {m : MethodId} {args : Array Value} {below : List Frame} {meth : Method} {c : Code} {D : DD} {h0 : AH} {Q : Int32 → AH → Prop} (C : fx_CX D y_M_verdict prog_15_method_74_code 5 9 147 (Option.some FieldType.int) [] h0 p R s m meth c) (hl : l.flags = flags0) (r0 : Nat) (x1 : Int32) (x2 : Int32) (x3 : Int32) (h : AH) (hw : m_M_verdict_56 Q r0 x1 x2 x3 h) : ∀ (ls : Array Slot) (H : Heap) (locs : List Loc) (cells slots : Nat), lv_has ls 5 [(0, .ref r0), (1, .int x1), (2, .int x2), (3, .int x3)] → fx_F D h0 h H locs cells slots → W p l e R s m args below meth c H locs cells slots (fx_Z D below s h0 (fx_oI Q fx_no)) (F0 m 56 ls []) := by
  refine fx_loop.use hw (fun st => ∀ (ls : Array Slot) (H : Heap) (locs : List Loc) (cells slots : Nat), lv_has ls 5 [(0, .ref r0), (1, .int x1), (2, .int x2), (3, .int st.1)] → fx_F D h0 st.2 H locs cells slots → W p l e R s m args below meth c H locs cells slots (fx_Z D below s h0 (fx_oI Q fx_no)) (F0 m 56 ls [])) (fun X56 st hX56 hw => ?_)
  obtain ⟨x3, h⟩ := st
  replace hw : m_M_verdict_56_b Q X56 r0 x1 x2 x3 h := hw
  unfold m_M_verdict_56_b at hw
  intro ls H locs cells slots hv F
  refine lv_iload_n C.ex C.by d_M_verdict_56 rfl (lv_at hv 3 rfl) ?_
  refine lv_iconst (v := (1 : Int32)) C.ex C.by d_M_verdict_57 (by decide) ?_
  refine lv_icmp_ne C.ex C.by d_M_verdict_58 rfl (fun hc => ?_) (fun hc => ?_)
  · replace hw := hw.1 hc
    refine lv_iload_n C.ex C.by d_M_verdict_69 rfl (lv_at hv 3 rfl) ?_
    refine lv_iconst (v := (1 : Int32)) C.ex C.by d_M_verdict_70 (by decide) ?_
    refine lv_icmp_le C.ex C.by d_M_verdict_71 rfl (fun hc => ?_) (fun hc => ?_)
    · replace hw := hw.1 hc
      refine lv_iconst (v := (0 : Int32)) C.ex C.by d_M_verdict_76 (by decide) ?_
      refine lv_istore (lv' := [(4, .int (0 : Int32)), (0, .ref r0), (1, .int x1), (2, .int x2), (3, .int x3)]) C.ex C.by d_M_verdict_77 hv (by decide) rfl (fun ls hv => ?_)
      exact b_M_verdict_79 C hl _ _ _ _ _ hw _ _ _ _ _ (lv_sub hv [1, 2, 3, 0] rfl) F
    · replace hw := hw.2 hc
      refine lv_iload_n C.ex C.by d_M_verdict_74 rfl (lv_at hv 3 rfl) ?_
      exact fx_iret C F d_M_verdict_75 (Or.inl ⟨_, rfl, hw⟩)
  · replace hw := hw.2 hc
    refine lv_aload_n C.ex C.by d_M_verdict_61 rfl (lv_at hv 0 rfl) ?_
    obtain ⟨hk1, hw⟩ := hw
    refine fx_callI C F (c_M_further hl hw) hm_M_further hi_M_further hv.1 (by decide) (Nat.le_of_ble_eq_true rfl) (iv_M_further C F lm_M_424 hk1 d_M_verdict_62) (fx_out0 _) fx_eno (fun v1 h1 H locs cells slots hw hx1 F => ?_)
    replace hw := hw hx1
    have hk1 := (hx1).k hk1
    refine lv_istore_n (lv' := [(3, .int v1), (0, .ref r0), (1, .int x1), (2, .int x2)]) C.ex C.by d_M_verdict_65 rfl hv (by decide) rfl (fun ls hv => ?_)
    refine lv_goto C.ex C.by d_M_verdict_66 rfl ?_
    exact hX56 _ hw _ _ _ _ _ (lv_sub hv [1, 2, 3, 0] rfl) F
theorem b_M_verdict_12 {p : Program} {l : Launch} {e : Env} {R : Room} {s : State} {m : MethodId} {args : Array Value} {below : List Frame} {meth : Method} {c : Code} {D : DD} {h0 : AH} {Q : Int32 → AH → Prop} (C : fx_CX D y_M_verdict prog_15_method_74_code 5 9 147 (Option.some FieldType.int) [] h0 p R s m meth c) (hl : l.flags = flags0) (r0 : Nat) (x1 : Int32) (x2 : Int32) (x3 : Int32) (h : AH) (hw : m_M_verdict_12 Q r0 x1 x2 x3 h) : ∀ (ls : Array Slot) (H : Heap) (locs : List Loc) (cells slots : Nat), lv_has ls 5 [(0, .ref r0), (1, .int x1), (2, .int x2), (3, .int x3)] → fx_F D h0 h H locs cells slots → W p l e R s m args below meth c H locs cells slots (fx_Z D below s h0 (fx_oI Q fx_no)) (F0 m 12 ls []) := by
  refine fx_loop.use hw (fun st => ∀ (ls : Array Slot) (H : Heap) (locs : List Loc) (cells slots : Nat), lv_has ls 5 [(0, .ref r0), (1, .int x1), (2, .int x2), (3, .int st.1)] → fx_F D h0 st.2 H locs cells slots → W p l e R s m args below meth c H locs cells slots (fx_Z D below s h0 (fx_oI Q fx_no)) (F0 m 12 ls [])) (fun X12 st hX12 hw => ?_)
  obtain ⟨x3, h⟩ := st
  replace hw : m_M_verdict_12_b Q X12 r0 x1 x2 x3 h := hw
  unfold m_M_verdict_12_b at hw
  intro ls H locs cells slots hv F
  refine lv_iload_n C.ex C.by d_M_verdict_12 rfl (lv_at hv 3 rfl) ?_
  refine lv_aload_n C.ex C.by d_M_verdict_13 rfl (lv_at hv 0 rfl) ?_
  obtain ⟨hk1, hw⟩ := hw
  refine fx_getI C F lf_M_396 hk1 rfl d_M_verdict_14 ?_
  refine lv_icmp_ge C.ex C.by d_M_verdict_17 rfl (fun hc => ?_) (fun hc => ?_)
  · replace hw := hw.1 hc
    refine lv_aload_n C.ex C.by d_M_verdict_42 rfl (lv_at hv 0 rfl) ?_
    obtain ⟨b1, hb1, hw⟩ := hw
    refine fx_getR C F lf_M_37 hk1 rfl hb1 d_M_verdict_43 ?_
    refine lv_iconst (v := (0 : Int32)) C.ex C.by d_M_verdict_46 (by decide) ?_
    refine lv_iconst (v := (0 : Int32)) C.ex C.by d_M_verdict_47 (by decide) ?_
    obtain ⟨hk2, hw⟩ := hw
    obtain ⟨hi1, hw⟩ := hw
    let h1 : AH := up_I h b1 ((0 : Int32)).toNatClampNeg (0 : Int32)
    replace hw := hw h1 rfl
    refine fx_iast C F hk2 hi1 d_M_verdict_48 (fun H locs (F : fx_F D h0 h1 H locs _ _) => ?_)
    refine lv_aload_n C.ex C.by d_M_verdict_49 rfl (lv_at hv 0 rfl) ?_
    refine lv_iconst (v := (1 : Int32)) C.ex C.by d_M_verdict_50 (by decide) ?_
    let h2 : AH := up_I h1 r0 16 (1 : Int32)
    replace hw := hw h2 rfl
    refine fx_putI C F lf_M_405 hk1 rfl rfl (fx_mayF.no rfl rfl) d_M_verdict_51 (fun H locs (F : fx_F D h0 h2 H locs _ _) => ?_)
    refine lv_iconst (v := (1 : Int32)) C.ex C.by d_M_verdict_54 (by decide) ?_
    refine lv_istore_n (lv' := [(3, .int (1 : Int32)), (0, .ref r0), (1, .int x1), (2, .int x2)]) C.ex C.by d_M_verdict_55 rfl hv (by decide) rfl (fun ls hv => ?_)
    exact b_M_verdict_56 C hl _ _ _ _ _ hw _ _ _ _ _ (lv_sub hv [1, 2, 3, 0] rfl) F
  · replace hw := hw.2 hc
    refine lv_aload_n C.ex C.by d_M_verdict_20 rfl (lv_at hv 0 rfl) ?_
    refine lv_aload_n C.ex C.by d_M_verdict_21 rfl (lv_at hv 0 rfl) ?_
    obtain ⟨b2, hb2, hw⟩ := hw
    refine fx_getR C F lf_M_31 hk1 rfl hb2 d_M_verdict_22 ?_
    refine lv_iload_n C.ex C.by d_M_verdict_25 rfl (lv_at hv 3 rfl) ?_
    obtain ⟨hk3, hw⟩ := hw
    obtain ⟨hi2, hw⟩ := hw
    refine fx_iald C F hk3 hi2 d_M_verdict_26 ?_
    refine fx_callZ C F (c_M_parses hl hw) hm_M_parses hi_M_parses hv.1 (by decide) (Nat.le_of_ble_eq_true rfl) (iv_M_parses C F lm_M_368 hk1 d_M_verdict_27) (fx_out0 _) fx_eno (fun v1 h3 H locs cells slots hw hx1 hzb F => ?_)
    replace hw := hw hx1 hzb
    have hk3 := (hx1).gi hk3
    have hk1 := (hx1).k hk1
    refine lv_if_ne C.ex C.by d_M_verdict_30 rfl (fun hc => ?_) (fun hc => ?_)
    · replace hw := hw.1 hc
      let v2 : Int32 := (x3 + (1 : Int32))
      replace hw := hw v2 rfl
      refine lv_iinc (v := v2) (k := 3) (lv' := [(3, .int v2), (0, .ref r0), (1, .int x1), (2, .int x2)]) C.ex C.by d_M_verdict_36 hv rfl (congrArg (fun z => x3 + z) (by decide)) (by decide) rfl (fun ls hv => ?_)
      refine lv_goto C.ex C.by d_M_verdict_39 rfl ?_
      exact hX12 _ hw _ _ _ _ _ (lv_sub hv [1, 2, 3, 0] rfl) F
    · replace hw := hw.2 hc
      refine lv_bipush (v := (42 : Int32)) C.ex C.by d_M_verdict_33 (by decide) ?_
      exact fx_iret C F d_M_verdict_35 (Or.inl ⟨_, rfl, hw⟩)
theorem b_M_verdict_0 {p : Program} {l : Launch} {e : Env} {R : Room} {s : State} {m : MethodId} {args : Array Value} {below : List Frame} {meth : Method} {c : Code} {D : DD} {h0 : AH} {Q : Int32 → AH → Prop} (C : fx_CX D y_M_verdict prog_15_method_74_code 5 9 147 (Option.some FieldType.int) [] h0 p R s m meth c) (hl : l.flags = flags0) (r0 : Nat) (x1 : Int32) (x2 : Int32) (h : AH) (hw : m_M_verdict Q r0 x1 x2 h) : ∀ (ls : Array Slot) (H : Heap) (locs : List Loc) (cells slots : Nat), lv_has ls 5 [(0, .ref r0), (1, .int x1), (2, .int x2)] → fx_F D h0 h H locs cells slots → W p l e R s m args below meth c H locs cells slots (fx_Z D below s h0 (fx_oI Q fx_no)) (F0 m 0 ls []) := by
  unfold m_M_verdict at hw
  intro ls H locs cells slots hv F
  refine lv_aload_n C.ex C.by d_M_verdict_0 rfl (lv_at hv 0 rfl) ?_
  refine lv_iconst (v := (0 : Int32)) C.ex C.by d_M_verdict_1 (by decide) ?_
  obtain ⟨hk1, hw⟩ := hw
  let h1 : AH := up_I h r0 16 (0 : Int32)
  replace hw := hw h1 rfl
  refine fx_putI C F lf_M_405 hk1 rfl rfl (fx_mayF.no rfl rfl) d_M_verdict_2 (fun H locs (F : fx_F D h0 h1 H locs _ _) => ?_)
  refine lv_aload_n C.ex C.by d_M_verdict_5 rfl (lv_at hv 0 rfl) ?_
  refine lv_iconst (v := (-1 : Int32)) C.ex C.by d_M_verdict_6 (by decide) ?_
  let h2 : AH := up_I h1 r0 17 (-1 : Int32)
  replace hw := hw h2 rfl
  refine fx_putI C F lf_M_40 hk1 rfl rfl (fx_mayF.no rfl rfl) d_M_verdict_7 (fun H locs (F : fx_F D h0 h2 H locs _ _) => ?_)
  refine lv_iconst (v := (0 : Int32)) C.ex C.by d_M_verdict_10 (by decide) ?_
  refine lv_istore_n (lv' := [(3, .int (0 : Int32)), (0, .ref r0), (1, .int x1), (2, .int x2)]) C.ex C.by d_M_verdict_11 rfl hv (by decide) rfl (fun ls hv => ?_)
  exact b_M_verdict_12 C hl _ _ _ _ _ hw _ _ _ _ _ (lv_sub hv [1, 2, 3, 0] rfl) F
theorem hm_M_verdict : fx_hd y_M_verdict prog_15_method_74_code 5 (Option.some FieldType.int) [] ∈ tables_1 := (fx_m7 (List.mem_of_getElem? (i := 205) rfl))
theorem hi_M_verdict : Cond.initialized y_M_verdict.cls ∈ tables_1 := (fx_m1 (List.mem_of_getElem? (i := 15) rfl))
theorem c_M_verdict {l : Launch} (hl : l.flags = flags0) {D : DD} {Q : Int32 → AH → Prop} {r0 : Nat} {x1 : Int32} {x2 : Int32} {h : AH} (hw : m_M_verdict Q r0 x1 x2 h) : fx_Mt l D y_M_verdict (fx_hd y_M_verdict prog_15_method_74_code 5 (Option.some FieldType.int) []) 9 147 [.ref r0, .int x1, .int x2] h (fx_oI Q fx_no) := by
  refine fx_ofW (plainFor_of_name (by decide)) (fun p e s m below meth c C F => ?_)
  have hv := lv_entry ([.ref r0, .int x1, .int x2]) (n := 5) (Nat.le_of_ble_eq_true rfl)
  rw [lg_entry_eq]
  generalize (lg_sl ([.ref r0, .int x1, .int x2]) ++ List.replicate (5 - (lg_sl ([.ref r0, .int x1, .int x2])).length) Slot.unset).toArray = ls at hv ⊢
  have hv : lv_has ls 5 [(0, .ref r0), (1, .int x1), (2, .int x2)] := hv
  exact b_M_verdict_0 C hl _ _ _ _ hw _ _ _ _ _ hv F
