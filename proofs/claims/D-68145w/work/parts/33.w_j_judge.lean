set_option maxRecDepth 10000
/-! ChainJudge.judge(II)I: frames 16, words 250, throws -/
abbrev y_J_judge : MethodName := ⟨"ChainJudge", "judge", "(II)I"⟩
theorem lf_J_290 : fx_Lk "ChainJudge" 290 6 7 := fx_Lk.mkN (C := "ChainJudge$Paths") (T := fx_T6) (N := 8) rfl (by decide) (by decide) (fx_m1 (List.mem_of_getElem? (i := 178) rfl))
theorem lm_J_281 : Cond.methodLink "ChainJudge" 281 y_Paths_begin ∈ tables_1 ∨ ∃ host, Cond.methodLinkNest "ChainJudge" 281 y_Paths_begin host ∈ tables_1 := Or.inl (fx_m5 (List.mem_of_getElem? (i := 137) rfl))
theorem lm_J_282 : Cond.methodLink "ChainJudge" 282 y_Paths_add ∈ tables_1 ∨ ∃ host, Cond.methodLinkNest "ChainJudge" 282 y_Paths_add host ∈ tables_1 := Or.inl (fx_m5 (List.mem_of_getElem? (i := 141) rfl))
theorem lm_J_286 : Cond.methodLink "ChainJudge" 286 y_Paths_judge ∈ tables_1 ∨ ∃ host, Cond.methodLinkNest "ChainJudge" 286 y_Paths_judge host ∈ tables_1 := Or.inl (fx_m5 (List.mem_of_getElem? (i := 152) rfl))
section
variable {p : Program} {l : Launch} {e : Env} {R : Room} {s : State} {m : MethodId} {args : Array Value} {below : List Frame} {meth : Method} {c : Code} {H : Heap} {locs : List Loc} {cells slots : Nat}
variable {D : DD} {y : MethodName} {cc : ByteArray} {nL kf kw : Nat} {ret : Option FieldType} {hh : List (Nat × Nat × Nat × Nat)} {h0 h : AH} {pc : Nat} {ls : Array Slot} {rest : List Value} {b idx : Nat}
theorem iv_Paths_add {r1 : Nat} {x2 : Int32} {x3 : Int32} (C : fx_CX D y cc nL kf kw ret hh h0 p R s m meth c) (F : fx_F D h0 h H locs cells slots) (hw1 : Cond.methodLink y.cls idx y_Paths_add ∈ tables_1 ∨ ∃ host, Cond.methodLinkNest y.cls idx y_Paths_add host ∈ tables_1) (hk : hp_k h b = 7) (hd : decode cc pc = .ok (.invokevirtual idx, 3)) : fx_IV p l e R s m args below meth c H locs cells slots (F0 m pc ls (.int x3 :: .int x2 :: .ref r1 :: .ref b :: rest)) rest y_Paths_add [.ref b, .ref r1, .int x2, .int x3] 3 := fun T hT X => fx_invV (As := [.ref r1, .int x2, .int x3]) (Cn := "ChainJudge$Paths") C X hw1 (fx_m5 (List.mem_of_getElem? (i := 142) rfl)) (fx_selW C (fx_m5 (List.mem_of_getElem? (i := 143) rfl))) hm_Paths_add ⟨by decide, by decide⟩ (by rw [hT]; exact fx_clsO (ci := 6) (r := ("ChainJudge$Paths", fx_T6, 8)) C F rfl (by decide) hk) rfl (n := 3) (by decide +kernel) rfl rfl hd
theorem iv_Paths_begin (C : fx_CX D y cc nL kf kw ret hh h0 p R s m meth c) (F : fx_F D h0 h H locs cells slots) (hw1 : Cond.methodLink y.cls idx y_Paths_begin ∈ tables_1 ∨ ∃ host, Cond.methodLinkNest y.cls idx y_Paths_begin host ∈ tables_1) (hk : hp_k h b = 7) (hd : decode cc pc = .ok (.invokevirtual idx, 3)) : fx_IV p l e R s m args below meth c H locs cells slots (F0 m pc ls (.ref b :: rest)) rest y_Paths_begin [.ref b] 3 := fun T hT X => fx_invV (As := []) (Cn := "ChainJudge$Paths") C X hw1 (fx_m5 (List.mem_of_getElem? (i := 138) rfl)) (fx_selW C (fx_m5 (List.mem_of_getElem? (i := 139) rfl))) hm_Paths_begin ⟨by decide, by decide⟩ (by rw [hT]; exact fx_clsO (ci := 6) (r := ("ChainJudge$Paths", fx_T6, 8)) C F rfl (by decide) hk) rfl (n := 0) (by decide +kernel) rfl rfl hd
theorem iv_Paths_judge {x1 : Int32} {w2 : Int64} {r4 : Nat} {x5 : Int32} (C : fx_CX D y cc nL kf kw ret hh h0 p R s m meth c) (F : fx_F D h0 h H locs cells slots) (hw1 : Cond.methodLink y.cls idx y_Paths_judge ∈ tables_1 ∨ ∃ host, Cond.methodLinkNest y.cls idx y_Paths_judge host ∈ tables_1) (hk : hp_k h b = 7) (hd : decode cc pc = .ok (.invokevirtual idx, 3)) : fx_IV p l e R s m args below meth c H locs cells slots (F0 m pc ls (.int x5 :: .ref r4 :: .long w2 :: .int x1 :: .ref b :: rest)) rest y_Paths_judge [.ref b, .int x1, .long w2, .ref r4, .int x5] 3 := fun T hT X => fx_invV (As := [.int x1, .long w2, .ref r4, .int x5]) (Cn := "ChainJudge$Paths") C X hw1 (fx_m5 (List.mem_of_getElem? (i := 153) rfl)) (fx_selW C (fx_m5 (List.mem_of_getElem? (i := 154) rfl))) hm_Paths_judge ⟨by decide, by decide⟩ (by rw [hT]; exact fx_clsO (ci := 6) (r := ("ChainJudge$Paths", fx_T6, 8)) C F rfl (by decide) hk) rfl (n := 4) (by decide +kernel) rfl rfl hd
end
def dl_J_judge : List (Nat × Instr × Nat) := [(0, .iload_n 1, 1), (1, .ifCond .lt 12, 3), (4, .iload_n 1, 1), (5, .iconst 1, 1), (6, .if_icmp .gt 7, 3), (9, .iload_n 2, 1), (10, .ifCond .ge 11, 3), (13, .new 107, 3), (16, .dup, 1), (17, .invokespecial 109, 3), (20, .athrow, 1), (21, .aload_n 0, 1), (22, .getfield 81, 3), (25, .ifCond .ne 11, 3), (28, .new 100, 3), (31, .dup, 1), (32, .invokespecial 102, 3), (35, .athrow, 1), (36, .aload_n 0, 1), (37, .getfield 52, 3), (40, .invokevirtual 281, 3), (43, .iconst 0, 1), (44, .istore_n 3, 1), (45, .iload_n 3, 1), (46, .aload_n 0, 1), (47, .getfield 81, 3), (50, .if_icmp .ge 46, 3), (53, .aload_n 0, 1), (54, .getfield 36, 3), (57, .aload_n 0, 1), (58, .getfield 77, 3), (61, .iload_n 3, 1), (62, .iaload, 1), (63, .invokevirtual 131, 3), (66, .checkcast 135, 3), (69, .astore 4, 2), (71, .aload_n 0, 1), (72, .getfield 52, 3), (75, .aload 4, 2), (77, .getfield 137, 3), (80, .iconst 0, 1), (81, .aload 4, 2), (83, .getfield 137, 3), (86, .arraylength, 1), (87, .invokevirtual 282, 3), (90, .iinc 3 1, 3), (93, .goto (-48), 3), (96, .aload_n 0, 1), (97, .getfield 52, 3), (100, .iload_n 1, 1), (101, .ldc2_w 284, 3), (104, .iload_n 2, 1), (105, .i2l, 1), (106, .lmul, 1), (107, .aload_n 0, 1), (108, .getfield 20, 3), (111, .getfield 110, 3), (114, .aload_n 0, 1), (115, .getfield 20, 3), (118, .getfield 96, 3), (121, .invokevirtual 286, 3), (124, .istore_n 3, 1), (125, .aload_n 0, 1), (126, .iconst (-1), 1), (127, .putfield 84, 3), (130, .iconst 0, 1), (131, .istore 4, 2), (133, .iload 4, 2), (135, .aload_n 0, 1), (136, .getfield 52, 3), (139, .getfield 275, 3), (142, .invokevirtual 125, 3), (145, .if_icmp .ge 37, 3), (148, .aload_n 0, 1), (149, .getfield 52, 3), (152, .getfield 275, 3), (155, .iload 4, 2), (157, .invokevirtual 131, 3), (160, .aload_n 0, 1), (161, .getfield 52, 3), (164, .getfield 290, 3), (167, .if_acmp .ne 9, 3), (170, .aload_n 0, 1), (171, .iload 4, 2), (173, .putfield 84, 3), (176, .iinc 4 1, 3), (179, .goto (-46), 3), (182, .aload_n 0, 1), (183, .dup, 1), (184, .getfield 87, 3), (187, .iconst 1, 1), (188, .iadd, 1), (189, .putfield 87, 3), (192, .iload_n 3, 1), (193, .ifCond .ne 13, 3), (196, .aload_n 0, 1), (197, .dup, 1), (198, .getfield 90, 3), (201, .iconst 1, 1), (202, .iadd, 1), (203, .putfield 90, 3), (206, .iload_n 3, 1), (207, .ireturn, 1)]
theorem dk_J_judge : fx_dec prog_1_method_24_code dl_J_judge = true := by decide +kernel
theorem d_J_judge_0 : decode prog_1_method_24_code 0 = .ok (.iload_n 1, 1) := fx_dat dk_J_judge 0 rfl
theorem d_J_judge_1 : decode prog_1_method_24_code 1 = .ok (.ifCond .lt 12, 3) := fx_dat dk_J_judge 1 rfl
theorem d_J_judge_4 : decode prog_1_method_24_code 4 = .ok (.iload_n 1, 1) := fx_dat dk_J_judge 2 rfl
theorem d_J_judge_5 : decode prog_1_method_24_code 5 = .ok (.iconst 1, 1) := fx_dat dk_J_judge 3 rfl
theorem d_J_judge_6 : decode prog_1_method_24_code 6 = .ok (.if_icmp .gt 7, 3) := fx_dat dk_J_judge 4 rfl
theorem d_J_judge_9 : decode prog_1_method_24_code 9 = .ok (.iload_n 2, 1) := fx_dat dk_J_judge 5 rfl
theorem d_J_judge_10 : decode prog_1_method_24_code 10 = .ok (.ifCond .ge 11, 3) := fx_dat dk_J_judge 6 rfl
theorem d_J_judge_13 : decode prog_1_method_24_code 13 = .ok (.new 107, 3) := fx_dat dk_J_judge 7 rfl
theorem d_J_judge_16 : decode prog_1_method_24_code 16 = .ok (.dup, 1) := fx_dat dk_J_judge 8 rfl
theorem d_J_judge_17 : decode prog_1_method_24_code 17 = .ok (.invokespecial 109, 3) := fx_dat dk_J_judge 9 rfl
theorem d_J_judge_20 : decode prog_1_method_24_code 20 = .ok (.athrow, 1) := fx_dat dk_J_judge 10 rfl
theorem d_J_judge_21 : decode prog_1_method_24_code 21 = .ok (.aload_n 0, 1) := fx_dat dk_J_judge 11 rfl
theorem d_J_judge_22 : decode prog_1_method_24_code 22 = .ok (.getfield 81, 3) := fx_dat dk_J_judge 12 rfl
theorem d_J_judge_25 : decode prog_1_method_24_code 25 = .ok (.ifCond .ne 11, 3) := fx_dat dk_J_judge 13 rfl
theorem d_J_judge_28 : decode prog_1_method_24_code 28 = .ok (.new 100, 3) := fx_dat dk_J_judge 14 rfl
theorem d_J_judge_31 : decode prog_1_method_24_code 31 = .ok (.dup, 1) := fx_dat dk_J_judge 15 rfl
theorem d_J_judge_32 : decode prog_1_method_24_code 32 = .ok (.invokespecial 102, 3) := fx_dat dk_J_judge 16 rfl
theorem d_J_judge_35 : decode prog_1_method_24_code 35 = .ok (.athrow, 1) := fx_dat dk_J_judge 17 rfl
theorem d_J_judge_36 : decode prog_1_method_24_code 36 = .ok (.aload_n 0, 1) := fx_dat dk_J_judge 18 rfl
theorem d_J_judge_37 : decode prog_1_method_24_code 37 = .ok (.getfield 52, 3) := fx_dat dk_J_judge 19 rfl
theorem d_J_judge_40 : decode prog_1_method_24_code 40 = .ok (.invokevirtual 281, 3) := fx_dat dk_J_judge 20 rfl
theorem d_J_judge_43 : decode prog_1_method_24_code 43 = .ok (.iconst 0, 1) := fx_dat dk_J_judge 21 rfl
theorem d_J_judge_44 : decode prog_1_method_24_code 44 = .ok (.istore_n 3, 1) := fx_dat dk_J_judge 22 rfl
theorem d_J_judge_45 : decode prog_1_method_24_code 45 = .ok (.iload_n 3, 1) := fx_dat dk_J_judge 23 rfl
theorem d_J_judge_46 : decode prog_1_method_24_code 46 = .ok (.aload_n 0, 1) := fx_dat dk_J_judge 24 rfl
theorem d_J_judge_47 : decode prog_1_method_24_code 47 = .ok (.getfield 81, 3) := fx_dat dk_J_judge 25 rfl
theorem d_J_judge_50 : decode prog_1_method_24_code 50 = .ok (.if_icmp .ge 46, 3) := fx_dat dk_J_judge 26 rfl
theorem d_J_judge_53 : decode prog_1_method_24_code 53 = .ok (.aload_n 0, 1) := fx_dat dk_J_judge 27 rfl
theorem d_J_judge_54 : decode prog_1_method_24_code 54 = .ok (.getfield 36, 3) := fx_dat dk_J_judge 28 rfl
theorem d_J_judge_57 : decode prog_1_method_24_code 57 = .ok (.aload_n 0, 1) := fx_dat dk_J_judge 29 rfl
theorem d_J_judge_58 : decode prog_1_method_24_code 58 = .ok (.getfield 77, 3) := fx_dat dk_J_judge 30 rfl
theorem d_J_judge_61 : decode prog_1_method_24_code 61 = .ok (.iload_n 3, 1) := fx_dat dk_J_judge 31 rfl
theorem d_J_judge_62 : decode prog_1_method_24_code 62 = .ok (.iaload, 1) := fx_dat dk_J_judge 32 rfl
theorem d_J_judge_63 : decode prog_1_method_24_code 63 = .ok (.invokevirtual 131, 3) := fx_dat dk_J_judge 33 rfl
theorem d_J_judge_66 : decode prog_1_method_24_code 66 = .ok (.checkcast 135, 3) := fx_dat dk_J_judge 34 rfl
theorem d_J_judge_69 : decode prog_1_method_24_code 69 = .ok (.astore 4, 2) := fx_dat dk_J_judge 35 rfl
theorem d_J_judge_71 : decode prog_1_method_24_code 71 = .ok (.aload_n 0, 1) := fx_dat dk_J_judge 36 rfl
theorem d_J_judge_72 : decode prog_1_method_24_code 72 = .ok (.getfield 52, 3) := fx_dat dk_J_judge 37 rfl
theorem d_J_judge_75 : decode prog_1_method_24_code 75 = .ok (.aload 4, 2) := fx_dat dk_J_judge 38 rfl
theorem d_J_judge_77 : decode prog_1_method_24_code 77 = .ok (.getfield 137, 3) := fx_dat dk_J_judge 39 rfl
theorem d_J_judge_80 : decode prog_1_method_24_code 80 = .ok (.iconst 0, 1) := fx_dat dk_J_judge 40 rfl
theorem d_J_judge_81 : decode prog_1_method_24_code 81 = .ok (.aload 4, 2) := fx_dat dk_J_judge 41 rfl
theorem d_J_judge_83 : decode prog_1_method_24_code 83 = .ok (.getfield 137, 3) := fx_dat dk_J_judge 42 rfl
theorem d_J_judge_86 : decode prog_1_method_24_code 86 = .ok (.arraylength, 1) := fx_dat dk_J_judge 43 rfl
theorem d_J_judge_87 : decode prog_1_method_24_code 87 = .ok (.invokevirtual 282, 3) := fx_dat dk_J_judge 44 rfl
theorem d_J_judge_90 : decode prog_1_method_24_code 90 = .ok (.iinc 3 1, 3) := fx_dat dk_J_judge 45 rfl
theorem d_J_judge_93 : decode prog_1_method_24_code 93 = .ok (.goto (-48), 3) := fx_dat dk_J_judge 46 rfl
theorem d_J_judge_96 : decode prog_1_method_24_code 96 = .ok (.aload_n 0, 1) := fx_dat dk_J_judge 47 rfl
theorem d_J_judge_97 : decode prog_1_method_24_code 97 = .ok (.getfield 52, 3) := fx_dat dk_J_judge 48 rfl
theorem d_J_judge_100 : decode prog_1_method_24_code 100 = .ok (.iload_n 1, 1) := fx_dat dk_J_judge 49 rfl
theorem d_J_judge_101 : decode prog_1_method_24_code 101 = .ok (.ldc2_w 284, 3) := fx_dat dk_J_judge 50 rfl
theorem d_J_judge_104 : decode prog_1_method_24_code 104 = .ok (.iload_n 2, 1) := fx_dat dk_J_judge 51 rfl
theorem d_J_judge_105 : decode prog_1_method_24_code 105 = .ok (.i2l, 1) := fx_dat dk_J_judge 52 rfl
theorem d_J_judge_106 : decode prog_1_method_24_code 106 = .ok (.lmul, 1) := fx_dat dk_J_judge 53 rfl
theorem d_J_judge_107 : decode prog_1_method_24_code 107 = .ok (.aload_n 0, 1) := fx_dat dk_J_judge 54 rfl
theorem d_J_judge_108 : decode prog_1_method_24_code 108 = .ok (.getfield 20, 3) := fx_dat dk_J_judge 55 rfl
theorem d_J_judge_111 : decode prog_1_method_24_code 111 = .ok (.getfield 110, 3) := fx_dat dk_J_judge 56 rfl
theorem d_J_judge_114 : decode prog_1_method_24_code 114 = .ok (.aload_n 0, 1) := fx_dat dk_J_judge 57 rfl
theorem d_J_judge_115 : decode prog_1_method_24_code 115 = .ok (.getfield 20, 3) := fx_dat dk_J_judge 58 rfl
theorem d_J_judge_118 : decode prog_1_method_24_code 118 = .ok (.getfield 96, 3) := fx_dat dk_J_judge 59 rfl
theorem d_J_judge_121 : decode prog_1_method_24_code 121 = .ok (.invokevirtual 286, 3) := fx_dat dk_J_judge 60 rfl
theorem d_J_judge_124 : decode prog_1_method_24_code 124 = .ok (.istore_n 3, 1) := fx_dat dk_J_judge 61 rfl
theorem d_J_judge_125 : decode prog_1_method_24_code 125 = .ok (.aload_n 0, 1) := fx_dat dk_J_judge 62 rfl
theorem d_J_judge_126 : decode prog_1_method_24_code 126 = .ok (.iconst (-1), 1) := fx_dat dk_J_judge 63 rfl
theorem d_J_judge_127 : decode prog_1_method_24_code 127 = .ok (.putfield 84, 3) := fx_dat dk_J_judge 64 rfl
theorem d_J_judge_130 : decode prog_1_method_24_code 130 = .ok (.iconst 0, 1) := fx_dat dk_J_judge 65 rfl
theorem d_J_judge_131 : decode prog_1_method_24_code 131 = .ok (.istore 4, 2) := fx_dat dk_J_judge 66 rfl
theorem d_J_judge_133 : decode prog_1_method_24_code 133 = .ok (.iload 4, 2) := fx_dat dk_J_judge 67 rfl
theorem d_J_judge_135 : decode prog_1_method_24_code 135 = .ok (.aload_n 0, 1) := fx_dat dk_J_judge 68 rfl
theorem d_J_judge_136 : decode prog_1_method_24_code 136 = .ok (.getfield 52, 3) := fx_dat dk_J_judge 69 rfl
theorem d_J_judge_139 : decode prog_1_method_24_code 139 = .ok (.getfield 275, 3) := fx_dat dk_J_judge 70 rfl
theorem d_J_judge_142 : decode prog_1_method_24_code 142 = .ok (.invokevirtual 125, 3) := fx_dat dk_J_judge 71 rfl
theorem d_J_judge_145 : decode prog_1_method_24_code 145 = .ok (.if_icmp .ge 37, 3) := fx_dat dk_J_judge 72 rfl
theorem d_J_judge_148 : decode prog_1_method_24_code 148 = .ok (.aload_n 0, 1) := fx_dat dk_J_judge 73 rfl
theorem d_J_judge_149 : decode prog_1_method_24_code 149 = .ok (.getfield 52, 3) := fx_dat dk_J_judge 74 rfl
theorem d_J_judge_152 : decode prog_1_method_24_code 152 = .ok (.getfield 275, 3) := fx_dat dk_J_judge 75 rfl
theorem d_J_judge_155 : decode prog_1_method_24_code 155 = .ok (.iload 4, 2) := fx_dat dk_J_judge 76 rfl
theorem d_J_judge_157 : decode prog_1_method_24_code 157 = .ok (.invokevirtual 131, 3) := fx_dat dk_J_judge 77 rfl
theorem d_J_judge_160 : decode prog_1_method_24_code 160 = .ok (.aload_n 0, 1) := fx_dat dk_J_judge 78 rfl
theorem d_J_judge_161 : decode prog_1_method_24_code 161 = .ok (.getfield 52, 3) := fx_dat dk_J_judge 79 rfl
theorem d_J_judge_164 : decode prog_1_method_24_code 164 = .ok (.getfield 290, 3) := fx_dat dk_J_judge 80 rfl
theorem d_J_judge_167 : decode prog_1_method_24_code 167 = .ok (.if_acmp .ne 9, 3) := fx_dat dk_J_judge 81 rfl
theorem d_J_judge_170 : decode prog_1_method_24_code 170 = .ok (.aload_n 0, 1) := fx_dat dk_J_judge 82 rfl
theorem d_J_judge_171 : decode prog_1_method_24_code 171 = .ok (.iload 4, 2) := fx_dat dk_J_judge 83 rfl
theorem d_J_judge_173 : decode prog_1_method_24_code 173 = .ok (.putfield 84, 3) := fx_dat dk_J_judge 84 rfl
theorem d_J_judge_176 : decode prog_1_method_24_code 176 = .ok (.iinc 4 1, 3) := fx_dat dk_J_judge 85 rfl
theorem d_J_judge_179 : decode prog_1_method_24_code 179 = .ok (.goto (-46), 3) := fx_dat dk_J_judge 86 rfl
theorem d_J_judge_182 : decode prog_1_method_24_code 182 = .ok (.aload_n 0, 1) := fx_dat dk_J_judge 87 rfl
theorem d_J_judge_183 : decode prog_1_method_24_code 183 = .ok (.dup, 1) := fx_dat dk_J_judge 88 rfl
theorem d_J_judge_184 : decode prog_1_method_24_code 184 = .ok (.getfield 87, 3) := fx_dat dk_J_judge 89 rfl
theorem d_J_judge_187 : decode prog_1_method_24_code 187 = .ok (.iconst 1, 1) := fx_dat dk_J_judge 90 rfl
theorem d_J_judge_188 : decode prog_1_method_24_code 188 = .ok (.iadd, 1) := fx_dat dk_J_judge 91 rfl
theorem d_J_judge_189 : decode prog_1_method_24_code 189 = .ok (.putfield 87, 3) := fx_dat dk_J_judge 92 rfl
theorem d_J_judge_192 : decode prog_1_method_24_code 192 = .ok (.iload_n 3, 1) := fx_dat dk_J_judge 93 rfl
theorem d_J_judge_193 : decode prog_1_method_24_code 193 = .ok (.ifCond .ne 13, 3) := fx_dat dk_J_judge 94 rfl
theorem d_J_judge_196 : decode prog_1_method_24_code 196 = .ok (.aload_n 0, 1) := fx_dat dk_J_judge 95 rfl
theorem d_J_judge_197 : decode prog_1_method_24_code 197 = .ok (.dup, 1) := fx_dat dk_J_judge 96 rfl
theorem d_J_judge_198 : decode prog_1_method_24_code 198 = .ok (.getfield 90, 3) := fx_dat dk_J_judge 97 rfl
theorem d_J_judge_201 : decode prog_1_method_24_code 201 = .ok (.iconst 1, 1) := fx_dat dk_J_judge 98 rfl
theorem d_J_judge_202 : decode prog_1_method_24_code 202 = .ok (.iadd, 1) := fx_dat dk_J_judge 99 rfl
theorem d_J_judge_203 : decode prog_1_method_24_code 203 = .ok (.putfield 90, 3) := fx_dat dk_J_judge 100 rfl
theorem d_J_judge_206 : decode prog_1_method_24_code 206 = .ok (.iload_n 3, 1) := fx_dat dk_J_judge 101 rfl
theorem d_J_judge_207 : decode prog_1_method_24_code 207 = .ok (.ireturn, 1) := fx_dat dk_J_judge 102 rfl
def m_J_judge_13 (Q : Int32 → AH → Prop) (E : Nat → AH → Prop) (h : AH) : Prop := fx_has h 6 ∧ ∀ (_ : fx_wf h) (q1 : Nat), q1 = hp_z h → ∀ h1 : AH, h1 = up_N h 14 0 6 → E q1 h1
def m_J_judge_206 (Q : Int32 → AH → Prop) (E : Nat → AH → Prop) (x3 : Int32) (h : AH) : Prop := Q x3 h
def m_J_judge_176 (Q : Int32 → AH → Prop) (E : Nat → AH → Prop) (X133 : Int32 × AH → Prop) (r0 : Nat) (x3 : Int32) (x4 : Int32) (h : AH) : Prop := ∀ v1 : Int32, v1 = (x4 + (1 : Int32)) → X133 (v1, h)
def m_J_judge_133_b (Q : Int32 → AH → Prop) (E : Nat → AH → Prop) (X133 : Int32 × AH → Prop) (r0 : Nat) (x3 : Int32) (x4 : Int32) (h : AH) : Prop := hp_k h r0 = 1 ∧ ∃ b1, hp_R h r0 6 = some b1 ∧ hp_k h b1 = 7 ∧ ∃ b2, hp_R h b1 2 = some b2 ∧ hp_k h b2 = 12 ∧ m_AL_size (fun v1 h1 => fx_ext h h1 → (v1 ≤ x4 → ∀ h2 : AH, h2 = up_I h1 r0 13 ((hp_I h1 r0 13) + (1 : Int32)) → (¬ x3 = 0 → m_J_judge_206 Q E x3 h2) ∧ (x3 = 0 → ∀ h3 : AH, h3 = up_I h2 r0 14 ((hp_I h2 r0 14) + (1 : Int32)) → m_J_judge_206 Q E x3 h3)) ∧ (¬ v1 ≤ x4 → ∃ b3, hp_R h1 r0 6 = some b3 ∧ hp_k h1 b3 = 7 ∧ ∃ b4, hp_R h1 b3 2 = some b4 ∧ hp_k h1 b4 = 12 ∧ m_AL_get (fun q1 h4 => fx_ext h1 h4 → ∃ b5, hp_R h4 r0 6 = some b5 ∧ hp_k h4 b5 = 7 ∧ (¬ (some q1) = (hp_R h4 b5 7) → m_J_judge_176 Q E X133 r0 x3 x4 h4) ∧ ((some q1) = (hp_R h4 b5 7) → ∀ h5 : AH, h5 = up_I h4 r0 12 x4 → m_J_judge_176 Q E X133 r0 x3 x4 h5)) b4 x4 h1)) b2 h
def m_J_judge_133 (Q : Int32 → AH → Prop) (E : Nat → AH → Prop) (r0 : Nat) (x3 : Int32) (x4 : Int32) (h : AH) : Prop := fx_loop (fun (X133 : Int32 × AH → Prop) (st : Int32 × AH) => m_J_judge_133_b Q E X133 r0 x3 st.1 st.2) (x4, h)
def m_J_judge_45_b (Q : Int32 → AH → Prop) (E : Nat → AH → Prop) (X45 : Int32 × AH → Prop) (r0 : Nat) (x1 : Int32) (x2 : Int32) (x3 : Int32) (h : AH) : Prop := hp_k h r0 = 1 ∧ ((hp_I h r0 11) ≤ x3 → ∃ b1, hp_R h r0 6 = some b1 ∧ ∃ b2, hp_R h r0 1 = some b2 ∧ hp_k h b2 = 2 ∧ ∃ b3, hp_R h b2 0 = some b3 ∧ hp_k h b1 = 7 ∧ m_Paths_judge (fun v1 h1 => fx_ext h h1 → ∀ h2 : AH, h2 = up_I h1 r0 12 (-1 : Int32) → m_J_judge_133 Q E r0 v1 (0 : Int32) h2) (fun a ht => fx_ext h ht → E a ht) b1 x1 ((60 : Int64) * ((x2).toInt64)) b3 (hp_I h b2 1) h) ∧ (¬ (hp_I h r0 11) ≤ x3 → ∃ b4, hp_R h r0 4 = some b4 ∧ ∃ b5, hp_R h r0 10 = some b5 ∧ ik (hp_k h b5) ∧ vp_in x3 (hp_n h b5) ∧ hp_k h b4 = 12 ∧ m_AL_get (fun q1 h3 => fx_ext h h3 → hp_k h3 q1 = 3 ∧ ∃ b6, hp_R h3 r0 6 = some b6 ∧ ∃ b7, hp_R h3 q1 0 = some b7 ∧ bk (hp_k h3 b7) ∧ hp_k h3 b6 = 7 ∧ m_Paths_add (fun h4 => fx_ext h3 h4 → ∀ v2 : Int32, v2 = (x3 + (1 : Int32)) → X45 (v2, h4)) b6 b7 (0 : Int32) (nI (hp_n h3 b7)) h3) b4 (hp_I h b5 x3.toNatClampNeg) h)
def m_J_judge_45 (Q : Int32 → AH → Prop) (E : Nat → AH → Prop) (r0 : Nat) (x1 : Int32) (x2 : Int32) (x3 : Int32) (h : AH) : Prop := fx_loop (fun (X45 : Int32 × AH → Prop) (st : Int32 × AH) => m_J_judge_45_b Q E X45 r0 x1 x2 st.1 st.2) (x3, h)
def m_J_judge (Q : Int32 → AH → Prop) (E : Nat → AH → Prop) (r0 : Nat) (x1 : Int32) (x2 : Int32) (h : AH) : Prop := (x1 < 0 → m_J_judge_13 Q E h) ∧ (¬ x1 < 0 → ((1 : Int32) < x1 → m_J_judge_13 Q E h) ∧ (¬ (1 : Int32) < x1 → (0 ≤ x2 → hp_k h r0 = 1 ∧ (¬ (hp_I h r0 11) = 0 → ∃ b1, hp_R h r0 6 = some b1 ∧ hp_k h b1 = 7 ∧ m_Paths_begin (fun h1 => fx_ext h h1 → m_J_judge_45 Q E r0 x1 x2 (0 : Int32) h1) b1 h) ∧ ((hp_I h r0 11) = 0 → fx_has h 6 ∧ ∀ (_ : fx_wf h) (q1 : Nat), q1 = hp_z h → ∀ h2 : AH, h2 = up_N h 15 0 6 → E q1 h2)) ∧ (¬ 0 ≤ x2 → m_J_judge_13 Q E h)))
theorem b_J_judge_13 {p : Program} {l : Launch} {e : Env} {R : Room} {s : State} {m : MethodId} {args : Array Value} {below : List Frame} {meth : Method} {c : Code} {D : DD} {h0 : AH} {Q : Int32 → AH → Prop} {E : Nat → AH → Prop} (C : fx_CX D y_J_judge prog_1_method_24_code 5 16 250 (Option.some FieldType.int) [] h0 p R s m meth c) (hl : l.flags = flags0) (h : AH) (hw : m_J_judge_13 Q E h) : ∀ (ls : Array Slot) (H : Heap) (locs : List Loc) (cells slots : Nat), lv_has ls 5 [] → fx_F D h0 h H locs cells slots → W p l e R s m args below meth c H locs cells slots (fx_Z D below s h0 (fx_oI Q E)) (F0 m 13 ls []) := by
  unfold m_J_judge_13 at hw
  intro ls H locs cells slots hv F
  obtain ⟨hs, hw⟩ := hw
  let q1 : Nat := hp_z h
  let h1 : AH := up_N h 14 0 6
  replace hw := hw F.wf q1 rfl h1 rfl
  have hkq1 : hp_k h1 q1 = 14 := fx_nk _ _ _ _
  refine fx_exc (r := ("java/lang/IllegalArgumentException", fx_T13, 0)) (names := fx_rn) C F rfl rfl (fx_m3 (List.mem_of_getElem? (i := 36) rfl)) (fx_m1 (List.mem_of_getElem? (i := 22) rfl)) (by decide +kernel) (by decide +kernel) ex_J_109 hs hv.1 hl d_J_judge_13 d_J_judge_16 d_J_judge_17 (by decide) (Nat.le_of_ble_eq_true rfl) (fun H locs cells slots (F : fx_F D h0 h1 H locs cells slots) => ?_)
  exact fx_athrow C F (fx_out0 _) d_J_judge_20 (Or.inr ⟨_, rfl, hw⟩)
theorem b_J_judge_206 {p : Program} {l : Launch} {e : Env} {R : Room} {s : State} {m : MethodId} {args : Array Value} {below : List Frame} {meth : Method} {c : Code} {D : DD} {h0 : AH} {Q : Int32 → AH → Prop} {E : Nat → AH → Prop} (C : fx_CX D y_J_judge prog_1_method_24_code 5 16 250 (Option.some FieldType.int) [] h0 p R s m meth c) (hl : l.flags = flags0) (x3 : Int32) (h : AH) (hw : m_J_judge_206 Q E x3 h) : ∀ (ls : Array Slot) (H : Heap) (locs : List Loc) (cells slots : Nat), lv_has ls 5 [(3, .int x3)] → fx_F D h0 h H locs cells slots → W p l e R s m args below meth c H locs cells slots (fx_Z D below s h0 (fx_oI Q E)) (F0 m 206 ls []) := by
  unfold m_J_judge_206 at hw
  intro ls H locs cells slots hv F
  refine lv_iload_n C.ex C.by d_J_judge_206 rfl (lv_at hv 0 rfl) ?_
  exact fx_iret C F d_J_judge_207 (Or.inl ⟨_, rfl, hw⟩)
theorem b_J_judge_176 {p : Program} {l : Launch} {e : Env} {R : Room} {s : State} {m : MethodId} {args : Array Value} {below : List Frame} {meth : Method} {c : Code} {D : DD} {h0 : AH} {Q : Int32 → AH → Prop} {E : Nat → AH → Prop} {X133 : Int32 × AH → Prop} (C : fx_CX D y_J_judge prog_1_method_24_code 5 16 250 (Option.some FieldType.int) [] h0 p R s m meth c) (hl : l.flags = flags0) (r0 : Nat) (x3 : Int32) (x4 : Int32) (h : AH) (hX133 : ∀ st, X133 st → ∀ (ls : Array Slot) (H : Heap) (locs : List Loc) (cells slots : Nat), lv_has ls 5 [(0, .ref r0), (3, .int x3), (4, .int st.1)] → fx_F D h0 st.2 H locs cells slots → W p l e R s m args below meth c H locs cells slots (fx_Z D below s h0 (fx_oI Q E)) (F0 m 133 ls [])) (hw : m_J_judge_176 Q E X133 r0 x3 x4 h) : ∀ (ls : Array Slot) (H : Heap) (locs : List Loc) (cells slots : Nat), lv_has ls 5 [(0, .ref r0), (3, .int x3), (4, .int x4)] → fx_F D h0 h H locs cells slots → W p l e R s m args below meth c H locs cells slots (fx_Z D below s h0 (fx_oI Q E)) (F0 m 176 ls []) := by
  unfold m_J_judge_176 at hw
  intro ls H locs cells slots hv F
  let v1 : Int32 := (x4 + (1 : Int32))
  replace hw := hw v1 rfl
  refine lv_iinc (v := v1) (k := 2) (lv' := [(4, .int v1), (0, .ref r0), (3, .int x3)]) C.ex C.by d_J_judge_176 hv rfl (congrArg (fun z => x4 + z) (by decide)) (by decide) rfl (fun ls hv => ?_)
  refine lv_goto C.ex C.by d_J_judge_179 rfl ?_
  exact hX133 _ hw _ _ _ _ _ (lv_sub hv [1, 2, 0] rfl) F
theorem b_J_judge_133 {p : Program} {l : Launch} {e : Env} {R : Room} {s : State} {m : MethodId} {args : Array Value} {below : List Frame} {meth : Method} {c : Code} {D : DD} {h0 : AH} {Q : Int32 → AH → Prop} {E : Nat → AH → Prop} (C : fx_CX D y_J_judge prog_1_method_24_code 5 16 250 (Option.some FieldType.int) [] h0 p R s m meth c) (hl : l.flags = flags0) (r0 : Nat) (x3 : Int32) (x4 : Int32) (h : AH) (hw : m_J_judge_133 Q E r0 x3 x4 h) : ∀ (ls : Array Slot) (H : Heap) (locs : List Loc) (cells slots : Nat), lv_has ls 5 [(0, .ref r0), (3, .int x3), (4, .int x4)] → fx_F D h0 h H locs cells slots → W p l e R s m args below meth c H locs cells slots (fx_Z D below s h0 (fx_oI Q E)) (F0 m 133 ls []) := by
  refine fx_loop.use hw (fun st => ∀ (ls : Array Slot) (H : Heap) (locs : List Loc) (cells slots : Nat), lv_has ls 5 [(0, .ref r0), (3, .int x3), (4, .int st.1)] → fx_F D h0 st.2 H locs cells slots → W p l e R s m args below meth c H locs cells slots (fx_Z D below s h0 (fx_oI Q E)) (F0 m 133 ls [])) (fun X133 st hX133 hw => ?_)
  obtain ⟨x4, h⟩ := st
  replace hw : m_J_judge_133_b Q E X133 r0 x3 x4 h := hw
  unfold m_J_judge_133_b at hw
  intro ls H locs cells slots hv F
  refine lv_iload C.ex C.by d_J_judge_133 (lv_at hv 2 rfl) ?_
  refine lv_aload_n C.ex C.by d_J_judge_135 rfl (lv_at hv 0 rfl) ?_
  obtain ⟨hk1, hw⟩ := hw
  obtain ⟨b1, hb1, hw⟩ := hw
  refine fx_getR C F lf_J_52 hk1 rfl hb1 d_J_judge_136 ?_
  obtain ⟨hk2, hw⟩ := hw
  obtain ⟨b2, hb2, hw⟩ := hw
  refine fx_getR C F lf_J_275 hk2 rfl hb2 d_J_judge_139 ?_
  obtain ⟨hk3, hw⟩ := hw
  refine fx_callI C F (c_AL_size hl hw) hm_AL_size hi_AL_size hv.1 (by decide) (Nat.le_of_ble_eq_true rfl) (iv_AL_size C F lm_J_125 hk3 d_J_judge_142) (fx_out0 _) fx_eno (fun v1 h1 H locs cells slots hw hx1 F => ?_)
  replace hw := hw hx1
  have hk2 := (hx1).k hk2
  have hk3 := (hx1).k hk3
  have hk1 := (hx1).k hk1
  refine lv_icmp_ge C.ex C.by d_J_judge_145 rfl (fun hc => ?_) (fun hc => ?_)
  · replace hw := hw.1 hc
    refine lv_aload_n C.ex C.by d_J_judge_182 rfl (lv_at hv 0 rfl) ?_
    refine lv_dup C.ex C.by d_J_judge_183 rfl ?_
    refine fx_getI C F lf_J_87 hk1 rfl d_J_judge_184 ?_
    refine lv_iconst (v := (1 : Int32)) C.ex C.by d_J_judge_187 (by decide) ?_
    refine lv_iadd C.ex C.by d_J_judge_188 ?_
    let h2 : AH := up_I h1 r0 13 ((hp_I h1 r0 13) + (1 : Int32))
    replace hw := hw h2 rfl
    refine fx_putI C F lf_J_87 hk1 rfl rfl (fx_mayF.no rfl rfl) d_J_judge_189 (fun H locs (F : fx_F D h0 h2 H locs _ _) => ?_)
    refine lv_iload_n C.ex C.by d_J_judge_192 rfl (lv_at hv 1 rfl) ?_
    refine lv_if_ne C.ex C.by d_J_judge_193 rfl (fun hc => ?_) (fun hc => ?_)
    · replace hw := hw.1 hc
      exact b_J_judge_206 C hl _ _ hw _ _ _ _ _ (lv_sub hv [1] rfl) F
    · replace hw := hw.2 hc
      refine lv_aload_n C.ex C.by d_J_judge_196 rfl (lv_at hv 0 rfl) ?_
      refine lv_dup C.ex C.by d_J_judge_197 rfl ?_
      refine fx_getI C F lf_J_90 hk1 rfl d_J_judge_198 ?_
      refine lv_iconst (v := (1 : Int32)) C.ex C.by d_J_judge_201 (by decide) ?_
      refine lv_iadd C.ex C.by d_J_judge_202 ?_
      let h3 : AH := up_I h2 r0 14 ((hp_I h2 r0 14) + (1 : Int32))
      replace hw := hw h3 rfl
      refine fx_putI C F lf_J_90 hk1 rfl rfl (fx_mayF.no rfl rfl) d_J_judge_203 (fun H locs (F : fx_F D h0 h3 H locs _ _) => ?_)
      exact b_J_judge_206 C hl _ _ hw _ _ _ _ _ (lv_sub hv [1] rfl) F
  · replace hw := hw.2 hc
    refine lv_aload_n C.ex C.by d_J_judge_148 rfl (lv_at hv 0 rfl) ?_
    obtain ⟨b3, hb3, hw⟩ := hw
    refine fx_getR C F lf_J_52 hk1 rfl hb3 d_J_judge_149 ?_
    obtain ⟨hk4, hw⟩ := hw
    obtain ⟨b4, hb4, hw⟩ := hw
    refine fx_getR C F lf_J_275 hk4 rfl hb4 d_J_judge_152 ?_
    refine lv_iload C.ex C.by d_J_judge_155 (lv_at hv 2 rfl) ?_
    obtain ⟨hk5, hw⟩ := hw
    refine fx_callR C F (c_AL_get hl hw) hm_AL_get hi_AL_get hv.1 (by decide) (Nat.le_of_ble_eq_true rfl) (iv_AL_get C F lm_J_131 hk5 d_J_judge_157) (fx_out0 _) fx_eno (fun q1 h4 H locs cells slots hw hx2 F => ?_)
    replace hw := hw hx2
    have hk2 := (hx2).k hk2
    have hk3 := (hx2).k hk3
    have hk4 := (hx2).k hk4
    have hk5 := (hx2).k hk5
    have hk1 := (hx2).k hk1
    refine lv_aload_n C.ex C.by d_J_judge_160 rfl (lv_at hv 0 rfl) ?_
    obtain ⟨b5, hb5, hw⟩ := hw
    refine fx_getR C F lf_J_52 hk1 rfl hb5 d_J_judge_161 ?_
    obtain ⟨hk6, hw⟩ := hw
    refine fx_getQ C F lf_J_290 hk6 rfl d_J_judge_164 ?_
    refine lv_acmp_ne (rx := (some q1)) (ry := (hp_R h4 b5 7)) C.ex C.by d_J_judge_167 rfl (fun hc => ?_) (fun hc => ?_)
    · replace hw := hw.1 hc
      exact b_J_judge_176 C hl _ _ _ _ hX133 hw _ _ _ _ _ hv F
    · replace hw := hw.2 hc
      refine lv_aload_n C.ex C.by d_J_judge_170 rfl (lv_at hv 0 rfl) ?_
      refine lv_iload C.ex C.by d_J_judge_171 (lv_at hv 2 rfl) ?_
      let h5 : AH := up_I h4 r0 12 x4
      replace hw := hw h5 rfl
      refine fx_putI C F lf_J_84 hk1 rfl rfl (fx_mayF.no rfl rfl) d_J_judge_173 (fun H locs (F : fx_F D h0 h5 H locs _ _) => ?_)
      exact b_J_judge_176 C hl _ _ _ _ hX133 hw _ _ _ _ _ hv F
theorem b_J_judge_45 {p : Program} {l : Launch} {e : Env} {R : Room} {s : State} {m : MethodId} {args : Array Value} {below : List Frame} {meth : Method} {c : Code} {D : DD} {h0 : AH} {Q : Int32 → AH → Prop} {E : Nat → AH → Prop} (C : fx_CX D y_J_judge prog_1_method_24_code 5 16 250 (Option.some FieldType.int) [] h0 p R s m meth c) (hl : l.flags = flags0) (r0 : Nat) (x1 : Int32) (x2 : Int32) (x3 : Int32) (h : AH) (hw : m_J_judge_45 Q E r0 x1 x2 x3 h) : ∀ (ls : Array Slot) (H : Heap) (locs : List Loc) (cells slots : Nat), lv_has ls 5 [(0, .ref r0), (1, .int x1), (2, .int x2), (3, .int x3)] → fx_F D h0 h H locs cells slots → W p l e R s m args below meth c H locs cells slots (fx_Z D below s h0 (fx_oI Q E)) (F0 m 45 ls []) := by
  refine fx_loop.use hw (fun st => ∀ (ls : Array Slot) (H : Heap) (locs : List Loc) (cells slots : Nat), lv_has ls 5 [(0, .ref r0), (1, .int x1), (2, .int x2), (3, .int st.1)] → fx_F D h0 st.2 H locs cells slots → W p l e R s m args below meth c H locs cells slots (fx_Z D below s h0 (fx_oI Q E)) (F0 m 45 ls [])) (fun X45 st hX45 hw => ?_)
  obtain ⟨x3, h⟩ := st
  replace hw : m_J_judge_45_b Q E X45 r0 x1 x2 x3 h := hw
  unfold m_J_judge_45_b at hw
  intro ls H locs cells slots hv F
  refine lv_iload_n C.ex C.by d_J_judge_45 rfl (lv_at hv 3 rfl) ?_
  refine lv_aload_n C.ex C.by d_J_judge_46 rfl (lv_at hv 0 rfl) ?_
  obtain ⟨hk1, hw⟩ := hw
  refine fx_getI C F lf_J_81 hk1 rfl d_J_judge_47 ?_
  refine lv_icmp_ge C.ex C.by d_J_judge_50 rfl (fun hc => ?_) (fun hc => ?_)
  · replace hw := hw.1 hc
    refine lv_aload_n C.ex C.by d_J_judge_96 rfl (lv_at hv 0 rfl) ?_
    obtain ⟨b1, hb1, hw⟩ := hw
    refine fx_getR C F lf_J_52 hk1 rfl hb1 d_J_judge_97 ?_
    refine lv_iload_n C.ex C.by d_J_judge_100 rfl (lv_at hv 1 rfl) ?_
    refine lv_ldc2 (v := (60 : Int64)) C.ex C.by C.ow (C.tw.at (fx_m5 (List.mem_of_getElem? (i := 151) rfl)) rfl rfl) d_J_judge_101 ?_
    refine lv_iload_n C.ex C.by d_J_judge_104 rfl (lv_at hv 2 rfl) ?_
    refine lv_i2l (v := ((x2).toInt64)) C.ex C.by d_J_judge_105 rfl ?_
    refine lv_lmul C.ex C.by d_J_judge_106 ?_
    refine lv_aload_n C.ex C.by d_J_judge_107 rfl (lv_at hv 0 rfl) ?_
    obtain ⟨b2, hb2, hw⟩ := hw
    refine fx_getR C F lf_J_20 hk1 rfl hb2 d_J_judge_108 ?_
    obtain ⟨hk2, hw⟩ := hw
    obtain ⟨b3, hb3, hw⟩ := hw
    refine fx_getR C F lf_J_110 hk2 rfl hb3 d_J_judge_111 ?_
    refine lv_aload_n C.ex C.by d_J_judge_114 rfl (lv_at hv 0 rfl) ?_
    refine fx_getR C F lf_J_20 hk1 rfl hb2 d_J_judge_115 ?_
    refine fx_getI C F lf_J_96 hk2 rfl d_J_judge_118 ?_
    obtain ⟨hk3, hw⟩ := hw
    refine fx_callI C F (c_Paths_judge hl hw) hm_Paths_judge hi_Paths_judge hv.1 (by decide) (Nat.le_of_ble_eq_true rfl) (iv_Paths_judge C F lm_J_286 hk3 d_J_judge_121) (fx_out0 _) (fun _ _ hE hx => Or.inr ⟨_, rfl, hE hx⟩) (fun v1 h1 H locs cells slots hw hx1 F => ?_)
    replace hw := hw hx1
    have hk3 := (hx1).k hk3
    have hk2 := (hx1).k hk2
    have hk1 := (hx1).k hk1
    refine lv_istore_n (lv' := [(3, .int v1), (0, .ref r0), (1, .int x1), (2, .int x2)]) C.ex C.by d_J_judge_124 rfl hv (by decide) rfl (fun ls hv => ?_)
    refine lv_aload_n C.ex C.by d_J_judge_125 rfl (lv_at hv 1 rfl) ?_
    refine lv_iconst (v := (-1 : Int32)) C.ex C.by d_J_judge_126 (by decide) ?_
    let h2 : AH := up_I h1 r0 12 (-1 : Int32)
    replace hw := hw h2 rfl
    refine fx_putI C F lf_J_84 hk1 rfl rfl (fx_mayF.no rfl rfl) d_J_judge_127 (fun H locs (F : fx_F D h0 h2 H locs _ _) => ?_)
    refine lv_iconst (v := (0 : Int32)) C.ex C.by d_J_judge_130 (by decide) ?_
    refine lv_istore (lv' := [(4, .int (0 : Int32)), (3, .int v1), (0, .ref r0), (1, .int x1), (2, .int x2)]) C.ex C.by d_J_judge_131 hv (by decide) rfl (fun ls hv => ?_)
    exact b_J_judge_133 C hl _ _ _ _ hw _ _ _ _ _ (lv_sub hv [2, 1, 0] rfl) F
  · replace hw := hw.2 hc
    refine lv_aload_n C.ex C.by d_J_judge_53 rfl (lv_at hv 0 rfl) ?_
    obtain ⟨b4, hb4, hw⟩ := hw
    refine fx_getR C F lf_J_36 hk1 rfl hb4 d_J_judge_54 ?_
    refine lv_aload_n C.ex C.by d_J_judge_57 rfl (lv_at hv 0 rfl) ?_
    obtain ⟨b5, hb5, hw⟩ := hw
    refine fx_getR C F lf_J_77 hk1 rfl hb5 d_J_judge_58 ?_
    refine lv_iload_n C.ex C.by d_J_judge_61 rfl (lv_at hv 3 rfl) ?_
    obtain ⟨hk4, hw⟩ := hw
    obtain ⟨hi1, hw⟩ := hw
    refine fx_iald C F hk4 hi1 d_J_judge_62 ?_
    obtain ⟨hk5, hw⟩ := hw
    refine fx_callR C F (c_AL_get hl hw) hm_AL_get hi_AL_get hv.1 (by decide) (Nat.le_of_ble_eq_true rfl) (iv_AL_get C F lm_J_131 hk5 d_J_judge_63) (fx_out0 _) fx_eno (fun q1 h3 H locs cells slots hw hx2 F => ?_)
    replace hw := hw hx2
    have hk5 := (hx2).k hk5
    have hk4 := (hx2).gi hk4
    have hk1 := (hx2).k hk1
    obtain ⟨hk6, hw⟩ := hw
    refine fx_cast (ci := 2) (r := ("ChainJudge$Held", fx_T2, 2)) (nm := "ChainJudge$Held") C F rfl (by decide) hk6 (fx_m3 (List.mem_of_getElem? (i := 108) rfl)) (fx_m8 (List.mem_of_getElem? (i := 7) rfl)) d_J_judge_66 ?_
    refine lv_astore (lv' := [(4, .ref q1), (0, .ref r0), (1, .int x1), (2, .int x2), (3, .int x3)]) C.ex C.by d_J_judge_69 hv (by decide) rfl (fun ls hv => ?_)
    refine lv_aload_n C.ex C.by d_J_judge_71 rfl (lv_at hv 1 rfl) ?_
    obtain ⟨b6, hb6, hw⟩ := hw
    refine fx_getR C F lf_J_52 hk1 rfl hb6 d_J_judge_72 ?_
    refine lv_aload C.ex C.by d_J_judge_75 (lv_at hv 0 rfl) ?_
    obtain ⟨b7, hb7, hw⟩ := hw
    refine fx_getR C F lf_J_137 hk6 rfl hb7 d_J_judge_77 ?_
    refine lv_iconst (v := (0 : Int32)) C.ex C.by d_J_judge_80 (by decide) ?_
    refine lv_aload C.ex C.by d_J_judge_81 (lv_at hv 0 rfl) ?_
    refine fx_getR C F lf_J_137 hk6 rfl hb7 d_J_judge_83 ?_
    obtain ⟨hk7, hw⟩ := hw
    refine fx_alen C F hk7.gt d_J_judge_86 ?_
    obtain ⟨hk8, hw⟩ := hw
    refine fx_callV C F (c_Paths_add hl hw) hm_Paths_add hi_Paths_add hv.1 (by decide) (Nat.le_of_ble_eq_true rfl) (iv_Paths_add C F lm_J_282 hk8 d_J_judge_87) (fx_out0 _) fx_eno (fun h4 H locs cells slots hw hx3 F => ?_)
    replace hw := hw hx3
    have hk5 := (hx3).k hk5
    have hk4 := (hx3).gi hk4
    have hk8 := (hx3).k hk8
    have hk7 := (hx3).gb hk7
    have hk6 := (hx3).k hk6
    have hk1 := (hx3).k hk1
    let v2 : Int32 := (x3 + (1 : Int32))
    replace hw := hw v2 rfl
    refine lv_iinc (v := v2) (k := 4) (lv' := [(3, .int v2), (4, .ref q1), (0, .ref r0), (1, .int x1), (2, .int x2)]) C.ex C.by d_J_judge_90 hv rfl (congrArg (fun z => x3 + z) (by decide)) (by decide) rfl (fun ls hv => ?_)
    refine lv_goto C.ex C.by d_J_judge_93 rfl ?_
    exact hX45 _ hw _ _ _ _ _ (lv_sub hv [2, 3, 4, 0] rfl) F
theorem b_J_judge_0 {p : Program} {l : Launch} {e : Env} {R : Room} {s : State} {m : MethodId} {args : Array Value} {below : List Frame} {meth : Method} {c : Code} {D : DD} {h0 : AH} {Q : Int32 → AH → Prop} {E : Nat → AH → Prop} (C : fx_CX D y_J_judge prog_1_method_24_code 5 16 250 (Option.some FieldType.int) [] h0 p R s m meth c) (hl : l.flags = flags0) (r0 : Nat) (x1 : Int32) (x2 : Int32) (h : AH) (hw : m_J_judge Q E r0 x1 x2 h) : ∀ (ls : Array Slot) (H : Heap) (locs : List Loc) (cells slots : Nat), lv_has ls 5 [(0, .ref r0), (1, .int x1), (2, .int x2)] → fx_F D h0 h H locs cells slots → W p l e R s m args below meth c H locs cells slots (fx_Z D below s h0 (fx_oI Q E)) (F0 m 0 ls []) := by
  unfold m_J_judge at hw
  intro ls H locs cells slots hv F
  refine lv_iload_n C.ex C.by d_J_judge_0 rfl (lv_at hv 1 rfl) ?_
  refine lv_if_lt C.ex C.by d_J_judge_1 rfl (fun hc => ?_) (fun hc => ?_)
  · replace hw := hw.1 hc
    exact b_J_judge_13 C hl _ hw _ _ _ _ _ (lv_sub hv [] rfl) F
  · replace hw := hw.2 hc
    refine lv_iload_n C.ex C.by d_J_judge_4 rfl (lv_at hv 1 rfl) ?_
    refine lv_iconst (v := (1 : Int32)) C.ex C.by d_J_judge_5 (by decide) ?_
    refine lv_icmp_gt C.ex C.by d_J_judge_6 rfl (fun hc => ?_) (fun hc => ?_)
    · replace hw := hw.1 hc
      exact b_J_judge_13 C hl _ hw _ _ _ _ _ (lv_sub hv [] rfl) F
    · replace hw := hw.2 hc
      refine lv_iload_n C.ex C.by d_J_judge_9 rfl (lv_at hv 2 rfl) ?_
      refine lv_if_ge C.ex C.by d_J_judge_10 rfl (fun hc => ?_) (fun hc => ?_)
      · replace hw := hw.1 hc
        refine lv_aload_n C.ex C.by d_J_judge_21 rfl (lv_at hv 0 rfl) ?_
        obtain ⟨hk1, hw⟩ := hw
        refine fx_getI C F lf_J_81 hk1 rfl d_J_judge_22 ?_
        refine lv_if_ne C.ex C.by d_J_judge_25 rfl (fun hc => ?_) (fun hc => ?_)
        · replace hw := hw.1 hc
          refine lv_aload_n C.ex C.by d_J_judge_36 rfl (lv_at hv 0 rfl) ?_
          obtain ⟨b1, hb1, hw⟩ := hw
          refine fx_getR C F lf_J_52 hk1 rfl hb1 d_J_judge_37 ?_
          obtain ⟨hk2, hw⟩ := hw
          refine fx_callV C F (c_Paths_begin hl hw) hm_Paths_begin hi_Paths_begin hv.1 (by decide) (Nat.le_of_ble_eq_true rfl) (iv_Paths_begin C F lm_J_281 hk2 d_J_judge_40) (fx_out0 _) fx_eno (fun h1 H locs cells slots hw hx1 F => ?_)
          replace hw := hw hx1
          have hk2 := (hx1).k hk2
          have hk1 := (hx1).k hk1
          refine lv_iconst (v := (0 : Int32)) C.ex C.by d_J_judge_43 (by decide) ?_
          refine lv_istore_n (lv' := [(3, .int (0 : Int32)), (0, .ref r0), (1, .int x1), (2, .int x2)]) C.ex C.by d_J_judge_44 rfl hv (by decide) rfl (fun ls hv => ?_)
          exact b_J_judge_45 C hl _ _ _ _ _ hw _ _ _ _ _ (lv_sub hv [1, 2, 3, 0] rfl) F
        · replace hw := hw.2 hc
          obtain ⟨hs, hw⟩ := hw
          let q1 : Nat := hp_z h
          let h2 : AH := up_N h 15 0 6
          replace hw := hw F.wf q1 rfl h2 rfl
          have hk1 := (F.xN (k := 15) (n := 0) (m := 6)).k hk1
          have hkq1 : hp_k h2 q1 = 15 := fx_nk _ _ _ _
          refine fx_exc (r := ("java/lang/IllegalStateException", fx_T14, 0)) (names := fx_rn) C F rfl rfl (fx_m2 (List.mem_of_getElem? (i := 185) rfl)) (fx_m1 (List.mem_of_getElem? (i := 19) rfl)) (by decide +kernel) (by decide +kernel) ex_J_102 hs hv.1 hl d_J_judge_28 d_J_judge_31 d_J_judge_32 (by decide) (Nat.le_of_ble_eq_true rfl) (fun H locs cells slots (F : fx_F D h0 h2 H locs cells slots) => ?_)
          exact fx_athrow C F (fx_out0 _) d_J_judge_35 (Or.inr ⟨_, rfl, hw⟩)
      · replace hw := hw.2 hc
        exact b_J_judge_13 C hl _ hw _ _ _ _ _ (lv_sub hv [] rfl) F
theorem hm_J_judge : fx_hd y_J_judge prog_1_method_24_code 5 (Option.some FieldType.int) [] ∈ tables_1 := (fx_m5 (List.mem_of_getElem? (i := 136) rfl))
theorem hi_J_judge : Cond.initialized y_J_judge.cls ∈ tables_1 := (fx_m1 (List.mem_of_getElem? (i := 1) rfl))
theorem c_J_judge {l : Launch} (hl : l.flags = flags0) {D : DD} {Q : Int32 → AH → Prop} {E : Nat → AH → Prop} {r0 : Nat} {x1 : Int32} {x2 : Int32} {h : AH} (hw : m_J_judge Q E r0 x1 x2 h) : fx_Mt l D y_J_judge (fx_hd y_J_judge prog_1_method_24_code 5 (Option.some FieldType.int) []) 16 250 [.ref r0, .int x1, .int x2] h (fx_oI Q E) := by
  refine fx_ofW (plainFor_of_name (by decide)) (fun p e s m below meth c C F => ?_)
  have hv := lv_entry ([.ref r0, .int x1, .int x2]) (n := 5) (Nat.le_of_ble_eq_true rfl)
  rw [lg_entry_eq]
  generalize (lg_sl ([.ref r0, .int x1, .int x2]) ++ List.replicate (5 - (lg_sl ([.ref r0, .int x1, .int x2])).length) Slot.unset).toArray = ls at hv ⊢
  have hv : lv_has ls 5 [(0, .ref r0), (1, .int x1), (2, .int x2)] := hv
  exact b_J_judge_0 C hl _ _ _ _ hw _ _ _ _ _ hv F
/-! ChainJudgeLaw.judge(LChainJudge;II[J)I: frames 17, words 268 -/
abbrev y_Law_judge : MethodName := ⟨"ChainJudgeLaw", "judge", "(LChainJudge;II[J)I"⟩
theorem lm_Law_58 : Cond.methodLink "ChainJudgeLaw" 58 y_J_judge ∈ tables_1 ∨ ∃ host, Cond.methodLinkNest "ChainJudgeLaw" 58 y_J_judge host ∈ tables_1 := Or.inl (fx_m5 (List.mem_of_getElem? (i := 133) rfl))
section
variable {p : Program} {l : Launch} {e : Env} {R : Room} {s : State} {m : MethodId} {args : Array Value} {below : List Frame} {meth : Method} {c : Code} {H : Heap} {locs : List Loc} {cells slots : Nat}
variable {D : DD} {y : MethodName} {cc : ByteArray} {nL kf kw : Nat} {ret : Option FieldType} {hh : List (Nat × Nat × Nat × Nat)} {h0 h : AH} {pc : Nat} {ls : Array Slot} {rest : List Value} {b idx : Nat}
theorem iv_J_judge {x1 : Int32} {x2 : Int32} (C : fx_CX D y cc nL kf kw ret hh h0 p R s m meth c) (F : fx_F D h0 h H locs cells slots) (hw1 : Cond.methodLink y.cls idx y_J_judge ∈ tables_1 ∨ ∃ host, Cond.methodLinkNest y.cls idx y_J_judge host ∈ tables_1) (hk : hp_k h b = 1) (hd : decode cc pc = .ok (.invokevirtual idx, 3)) : fx_IV p l e R s m args below meth c H locs cells slots (F0 m pc ls (.int x2 :: .int x1 :: .ref b :: rest)) rest y_J_judge [.ref b, .int x1, .int x2] 3 := fun T hT X => fx_invV (As := [.int x1, .int x2]) (Cn := "ChainJudge") C X hw1 (fx_m5 (List.mem_of_getElem? (i := 134) rfl)) (fx_selW C (fx_m5 (List.mem_of_getElem? (i := 135) rfl))) hm_J_judge ⟨by decide, by decide⟩ (by rw [hT]; exact fx_clsO (ci := 0) (r := ("ChainJudge", fx_T0, 16)) C F rfl (by decide) hk) rfl (n := 2) (by decide +kernel) rfl rfl hd
end
def dl_Law_judge : List (Nat × Instr × Nat) := [(0, .aload_n 3, 1), (1, .iconst 0, 1), (2, .aload_n 0, 1), (3, .iload_n 1, 1), (4, .iload_n 2, 1), (5, .invokevirtual 58, 3), (8, .i2l, 1), (9, .lastore, 1), (10, .goto 11, 3), (13, .astore 4, 2), (15, .iconst 1, 1), (16, .ireturn, 1), (17, .astore 4, 2), (19, .iconst 2, 1), (20, .ireturn, 1), (21, .iconst 0, 1), (22, .ireturn, 1)]
theorem dk_Law_judge : fx_dec method_14_code dl_Law_judge = true := by decide +kernel
theorem d_Law_judge_0 : decode method_14_code 0 = .ok (.aload_n 3, 1) := fx_dat dk_Law_judge 0 rfl
theorem d_Law_judge_1 : decode method_14_code 1 = .ok (.iconst 0, 1) := fx_dat dk_Law_judge 1 rfl
theorem d_Law_judge_2 : decode method_14_code 2 = .ok (.aload_n 0, 1) := fx_dat dk_Law_judge 2 rfl
theorem d_Law_judge_3 : decode method_14_code 3 = .ok (.iload_n 1, 1) := fx_dat dk_Law_judge 3 rfl
theorem d_Law_judge_4 : decode method_14_code 4 = .ok (.iload_n 2, 1) := fx_dat dk_Law_judge 4 rfl
theorem d_Law_judge_5 : decode method_14_code 5 = .ok (.invokevirtual 58, 3) := fx_dat dk_Law_judge 5 rfl
theorem d_Law_judge_8 : decode method_14_code 8 = .ok (.i2l, 1) := fx_dat dk_Law_judge 6 rfl
theorem d_Law_judge_9 : decode method_14_code 9 = .ok (.lastore, 1) := fx_dat dk_Law_judge 7 rfl
theorem d_Law_judge_10 : decode method_14_code 10 = .ok (.goto 11, 3) := fx_dat dk_Law_judge 8 rfl
theorem d_Law_judge_13 : decode method_14_code 13 = .ok (.astore 4, 2) := fx_dat dk_Law_judge 9 rfl
theorem d_Law_judge_15 : decode method_14_code 15 = .ok (.iconst 1, 1) := fx_dat dk_Law_judge 10 rfl
theorem d_Law_judge_16 : decode method_14_code 16 = .ok (.ireturn, 1) := fx_dat dk_Law_judge 11 rfl
theorem d_Law_judge_17 : decode method_14_code 17 = .ok (.astore 4, 2) := fx_dat dk_Law_judge 12 rfl
theorem d_Law_judge_19 : decode method_14_code 19 = .ok (.iconst 2, 1) := fx_dat dk_Law_judge 13 rfl
theorem d_Law_judge_20 : decode method_14_code 20 = .ok (.ireturn, 1) := fx_dat dk_Law_judge 14 rfl
theorem d_Law_judge_21 : decode method_14_code 21 = .ok (.iconst 0, 1) := fx_dat dk_Law_judge 15 rfl
theorem d_Law_judge_22 : decode method_14_code 22 = .ok (.ireturn, 1) := fx_dat dk_Law_judge 16 rfl
def m_Law_judge (Q : Int32 → AH → Prop) (r0 : Nat) (x1 : Int32) (x2 : Int32) (r3 : Nat) (h : AH) : Prop := hp_k h r0 = 1 ∧ m_J_judge (fun v1 h1 => fx_ext h h1 → hp_k h1 r3 = 103 ∧ vp_in (0 : Int32) (hp_n h1 r3) ∧ ∀ h2 : AH, h2 = up_L h1 r3 ((0 : Int32)).toNatClampNeg ((v1).toInt64) → Q (0 : Int32) h2) (fun q1 h3 => fx_ext h h3 → (hp_k h3 q1 = 14 ∧ Q (1 : Int32) h3) ∨ (hp_k h3 q1 = 15 ∧ Q (2 : Int32) h3)) r0 x1 x2 h
theorem b_Law_judge_0 {p : Program} {l : Launch} {e : Env} {R : Room} {s : State} {m : MethodId} {args : Array Value} {below : List Frame} {meth : Method} {c : Code} {D : DD} {h0 : AH} {Q : Int32 → AH → Prop} (C : fx_CX D y_Law_judge method_14_code 5 17 268 (Option.some FieldType.int) [(0, 10, 13, 19), (0, 10, 17, 13)] h0 p R s m meth c) (hl : l.flags = flags0) (r0 : Nat) (x1 : Int32) (x2 : Int32) (r3 : Nat) (h : AH) (hw : m_Law_judge Q r0 x1 x2 r3 h) : ∀ (ls : Array Slot) (H : Heap) (locs : List Loc) (cells slots : Nat), lv_has ls 5 [(0, .ref r0), (1, .int x1), (2, .int x2), (3, .ref r3)] → fx_F D h0 h H locs cells slots → W p l e R s m args below meth c H locs cells slots (fx_Z D below s h0 (fx_oI Q fx_no)) (F0 m 0 ls []) := by
  unfold m_Law_judge at hw
  intro ls H locs cells slots hv F
  refine lv_aload_n C.ex C.by d_Law_judge_0 rfl (lv_at hv 3 rfl) ?_
  refine lv_iconst (v := (0 : Int32)) C.ex C.by d_Law_judge_1 (by decide) ?_
  refine lv_aload_n C.ex C.by d_Law_judge_2 rfl (lv_at hv 0 rfl) ?_
  refine lv_iload_n C.ex C.by d_Law_judge_3 rfl (lv_at hv 1 rfl) ?_
  refine lv_iload_n C.ex C.by d_Law_judge_4 rfl (lv_at hv 2 rfl) ?_
  obtain ⟨hk1, hw⟩ := hw
  refine fx_callIc C F (c_J_judge hl hw) hm_J_judge hi_J_judge hv.1 (by decide) (Nat.le_of_ble_eq_true rfl) (iv_J_judge C F lm_Law_58 hk1 d_Law_judge_5) (fun v1 h1 H locs cells slots hw hx1 F => ?_) (fun q1 h3 T locs cells slots hw hx1 F X => ?_)
  · replace hw := hw hx1
    have hk1 := (hx1).k hk1
    refine lv_i2l (v := ((v1).toInt64)) C.ex C.by d_Law_judge_8 rfl ?_
    obtain ⟨hk2, hw⟩ := hw
    obtain ⟨hi1, hw⟩ := hw
    let h2 : AH := up_L h1 r3 ((0 : Int32)).toNatClampNeg ((v1).toInt64)
    replace hw := hw h2 rfl
    refine fx_last C F hk2 hi1 d_Law_judge_9 (fun H locs (F : fx_F D h0 h2 H locs _ _) => ?_)
    refine lv_goto C.ex C.by d_Law_judge_10 rfl ?_
    refine lv_iconst (v := (0 : Int32)) C.ex C.by d_Law_judge_21 (by decide) ?_
    exact fx_iret C F d_Law_judge_22 (Or.inl ⟨_, rfl, hw⟩)
  · replace hw := hw hx1
    rcases hw with ⟨hk9, hw⟩ | ⟨hk9, hw⟩
    · have hp0 : ∀ q ∈ ([] : List ((Nat × Nat × Nat × Nat) × String)), fx_passes "ChainJudgeLaw" "java/lang/IllegalArgumentException" 5 q := by
        intro q hq
        cases hq
      refine fx_caught (ci := 13) (r := ("java/lang/IllegalArgumentException", fx_T13, 0)) C F X rfl (by decide) hk9 [] (0, 10, 13, 19) [(0, 10, 17, 13)] "java/lang/IllegalArgumentException" rfl hp0 rfl (by decide) (fx_m3 (List.mem_of_getElem? (i := 31) rfl)) (fx_m3 (List.mem_of_getElem? (i := 38) rfl)) (fun H locs cells slots F => ?_)
      have hk1 := (hx1).k hk1
      refine lv_astore (lv' := [(4, .ref q1), (0, .ref r0), (1, .int x1), (2, .int x2), (3, .ref r3)]) C.ex C.by d_Law_judge_13 hv (by decide) rfl (fun ls hv => ?_)
      refine lv_iconst (v := (1 : Int32)) C.ex C.by d_Law_judge_15 (by decide) ?_
      exact fx_iret C F d_Law_judge_16 (Or.inl ⟨_, rfl, hw⟩)
    · have hp1 : ∀ q ∈ ([((0, 10, 13, 19), "java/lang/IllegalArgumentException")] : List ((Nat × Nat × Nat × Nat) × String)), fx_passes "ChainJudgeLaw" "java/lang/IllegalStateException" 5 q := by
        intro q hq
        rcases List.mem_cons.mp hq with rfl | hq
        · exact ⟨rfl, by decide, (fx_m3 (List.mem_of_getElem? (i := 31) rfl)), List.mem_of_getElem? (i := 4) rfl⟩
        cases hq
      refine fx_caught (ci := 14) (r := ("java/lang/IllegalStateException", fx_T14, 0)) C F X rfl (by decide) hk9 [((0, 10, 13, 19), "java/lang/IllegalArgumentException")] (0, 10, 17, 13) [] "java/lang/IllegalStateException" rfl hp1 rfl (by decide) (fx_m2 (List.mem_of_getElem? (i := 179) rfl)) (fx_m2 (List.mem_of_getElem? (i := 187) rfl)) (fun H locs cells slots F => ?_)
      have hk1 := (hx1).k hk1
      refine lv_astore (lv' := [(4, .ref q1), (0, .ref r0), (1, .int x1), (2, .int x2), (3, .ref r3)]) C.ex C.by d_Law_judge_17 hv (by decide) rfl (fun ls hv => ?_)
      refine lv_iconst (v := (2 : Int32)) C.ex C.by d_Law_judge_19 (by decide) ?_
      exact fx_iret C F d_Law_judge_20 (Or.inl ⟨_, rfl, hw⟩)
theorem hm_Law_judge : fx_hd y_Law_judge method_14_code 5 (Option.some FieldType.int) [(0, 10, 13, 19), (0, 10, 17, 13)] ∈ tables_1 := (fx_m5 (List.mem_of_getElem? (i := 132) rfl))
theorem hi_Law_judge : Cond.initialized y_Law_judge.cls ∈ tables_1 := (fx_m1 (List.mem_of_getElem? (i := 0) rfl))
theorem c_Law_judge {l : Launch} (hl : l.flags = flags0) {D : DD} {Q : Int32 → AH → Prop} {r0 : Nat} {x1 : Int32} {x2 : Int32} {r3 : Nat} {h : AH} (hw : m_Law_judge Q r0 x1 x2 r3 h) : fx_Mt l D y_Law_judge (fx_hd y_Law_judge method_14_code 5 (Option.some FieldType.int) [(0, 10, 13, 19), (0, 10, 17, 13)]) 17 268 [.ref r0, .int x1, .int x2, .ref r3] h (fx_oI Q fx_no) := by
  refine fx_ofW (plainFor_of_name (by decide)) (fun p e s m below meth c C F => ?_)
  have hv := lv_entry ([.ref r0, .int x1, .int x2, .ref r3]) (n := 5) (Nat.le_of_ble_eq_true rfl)
  rw [lg_entry_eq]
  generalize (lg_sl ([.ref r0, .int x1, .int x2, .ref r3]) ++ List.replicate (5 - (lg_sl ([.ref r0, .int x1, .int x2, .ref r3])).length) Slot.unset).toArray = ls at hv ⊢
  have hv : lv_has ls 5 [(0, .ref r0), (1, .int x1), (2, .int x2), (3, .ref r3)] := hv
  exact b_Law_judge_0 C hl _ _ _ _ _ hw _ _ _ _ _ hv F
/-! ChainJudge.path(I)I: frames 6, words 81, throws -/
abbrev y_J_path : MethodName := ⟨"ChainJudge", "path", "(I)I"⟩
theorem lf_J_294 : fx_Lk "ChainJudge" 294 6 5 := fx_Lk.mk (C := "ChainJudge$Paths") (T := fx_T6) (N := 8) rfl (by decide) (by decide) (fx_m1 (List.mem_of_getElem? (i := 174) rfl))
def dl_J_path : List (Nat × Instr × Nat) := [(0, .iload_n 1, 1), (1, .ifCond .lt 14, 3), (4, .iload_n 1, 1), (5, .aload_n 0, 1), (6, .getfield 52, 3), (9, .getfield 293, 3), (12, .if_icmp .le 11, 3), (15, .new 128, 3), (18, .dup, 1), (19, .invokespecial 130, 3), (22, .athrow, 1), (23, .iload_n 1, 1), (24, .aload_n 0, 1), (25, .getfield 52, 3), (28, .getfield 293, 3), (31, .if_icmp .ne 10, 3), (34, .aload_n 0, 1), (35, .getfield 84, 3), (38, .goto 12, 3), (41, .aload_n 0, 1), (42, .getfield 52, 3), (45, .getfield 294, 3), (48, .iload_n 1, 1), (49, .iaload, 1), (50, .ireturn, 1)]
theorem dk_J_path : fx_dec prog_1_method_25_code dl_J_path = true := by decide +kernel
theorem d_J_path_0 : decode prog_1_method_25_code 0 = .ok (.iload_n 1, 1) := fx_dat dk_J_path 0 rfl
theorem d_J_path_1 : decode prog_1_method_25_code 1 = .ok (.ifCond .lt 14, 3) := fx_dat dk_J_path 1 rfl
theorem d_J_path_4 : decode prog_1_method_25_code 4 = .ok (.iload_n 1, 1) := fx_dat dk_J_path 2 rfl
theorem d_J_path_5 : decode prog_1_method_25_code 5 = .ok (.aload_n 0, 1) := fx_dat dk_J_path 3 rfl
theorem d_J_path_6 : decode prog_1_method_25_code 6 = .ok (.getfield 52, 3) := fx_dat dk_J_path 4 rfl
theorem d_J_path_9 : decode prog_1_method_25_code 9 = .ok (.getfield 293, 3) := fx_dat dk_J_path 5 rfl
theorem d_J_path_12 : decode prog_1_method_25_code 12 = .ok (.if_icmp .le 11, 3) := fx_dat dk_J_path 6 rfl
theorem d_J_path_15 : decode prog_1_method_25_code 15 = .ok (.new 128, 3) := fx_dat dk_J_path 7 rfl
theorem d_J_path_18 : decode prog_1_method_25_code 18 = .ok (.dup, 1) := fx_dat dk_J_path 8 rfl
theorem d_J_path_19 : decode prog_1_method_25_code 19 = .ok (.invokespecial 130, 3) := fx_dat dk_J_path 9 rfl
theorem d_J_path_22 : decode prog_1_method_25_code 22 = .ok (.athrow, 1) := fx_dat dk_J_path 10 rfl
theorem d_J_path_23 : decode prog_1_method_25_code 23 = .ok (.iload_n 1, 1) := fx_dat dk_J_path 11 rfl
theorem d_J_path_24 : decode prog_1_method_25_code 24 = .ok (.aload_n 0, 1) := fx_dat dk_J_path 12 rfl
theorem d_J_path_25 : decode prog_1_method_25_code 25 = .ok (.getfield 52, 3) := fx_dat dk_J_path 13 rfl
theorem d_J_path_28 : decode prog_1_method_25_code 28 = .ok (.getfield 293, 3) := fx_dat dk_J_path 14 rfl
theorem d_J_path_31 : decode prog_1_method_25_code 31 = .ok (.if_icmp .ne 10, 3) := fx_dat dk_J_path 15 rfl
theorem d_J_path_34 : decode prog_1_method_25_code 34 = .ok (.aload_n 0, 1) := fx_dat dk_J_path 16 rfl
theorem d_J_path_35 : decode prog_1_method_25_code 35 = .ok (.getfield 84, 3) := fx_dat dk_J_path 17 rfl
theorem d_J_path_38 : decode prog_1_method_25_code 38 = .ok (.goto 12, 3) := fx_dat dk_J_path 18 rfl
theorem d_J_path_41 : decode prog_1_method_25_code 41 = .ok (.aload_n 0, 1) := fx_dat dk_J_path 19 rfl
theorem d_J_path_42 : decode prog_1_method_25_code 42 = .ok (.getfield 52, 3) := fx_dat dk_J_path 20 rfl
theorem d_J_path_45 : decode prog_1_method_25_code 45 = .ok (.getfield 294, 3) := fx_dat dk_J_path 21 rfl
theorem d_J_path_48 : decode prog_1_method_25_code 48 = .ok (.iload_n 1, 1) := fx_dat dk_J_path 22 rfl
theorem d_J_path_49 : decode prog_1_method_25_code 49 = .ok (.iaload, 1) := fx_dat dk_J_path 23 rfl
theorem d_J_path_50 : decode prog_1_method_25_code 50 = .ok (.ireturn, 1) := fx_dat dk_J_path 24 rfl
def m_J_path_15 (Q : Int32 → AH → Prop) (E : Nat → AH → Prop) (h : AH) : Prop := fx_has h 6 ∧ ∀ (_ : fx_wf h) (q1 : Nat), q1 = hp_z h → ∀ h1 : AH, h1 = up_N h 16 0 6 → E q1 h1
def m_J_path_50 (Q : Int32 → AH → Prop) (E : Nat → AH → Prop) (sx0 : Int32) (h : AH) : Prop := Q sx0 h
def m_J_path (Q : Int32 → AH → Prop) (E : Nat → AH → Prop) (r0 : Nat) (x1 : Int32) (h : AH) : Prop := (x1 < 0 → m_J_path_15 Q E h) ∧ (¬ x1 < 0 → hp_k h r0 = 1 ∧ ∃ b1, hp_R h r0 6 = some b1 ∧ hp_k h b1 = 7 ∧ (x1 ≤ (hp_I h b1 6) → (¬ x1 = (hp_I h b1 6) → ∃ b2, hp_R h b1 5 = some b2 ∧ ik (hp_k h b2) ∧ vp_in x1 (hp_n h b2) ∧ m_J_path_50 Q E (hp_I h b2 x1.toNatClampNeg) h) ∧ (x1 = (hp_I h b1 6) → m_J_path_50 Q E (hp_I h r0 12) h)) ∧ (¬ x1 ≤ (hp_I h b1 6) → m_J_path_15 Q E h))
theorem b_J_path_15 {p : Program} {l : Launch} {e : Env} {R : Room} {s : State} {m : MethodId} {args : Array Value} {below : List Frame} {meth : Method} {c : Code} {D : DD} {h0 : AH} {Q : Int32 → AH → Prop} {E : Nat → AH → Prop} (C : fx_CX D y_J_path prog_1_method_25_code 2 6 81 (Option.some FieldType.int) [] h0 p R s m meth c) (hl : l.flags = flags0) (h : AH) (hw : m_J_path_15 Q E h) : ∀ (ls : Array Slot) (H : Heap) (locs : List Loc) (cells slots : Nat), lv_has ls 2 [] → fx_F D h0 h H locs cells slots → W p l e R s m args below meth c H locs cells slots (fx_Z D below s h0 (fx_oI Q E)) (F0 m 15 ls []) := by
  unfold m_J_path_15 at hw
  intro ls H locs cells slots hv F
  obtain ⟨hs, hw⟩ := hw
  let q1 : Nat := hp_z h
  let h1 : AH := up_N h 16 0 6
  replace hw := hw F.wf q1 rfl h1 rfl
  have hkq1 : hp_k h1 q1 = 16 := fx_nk _ _ _ _
  refine fx_exc (r := ("java/util/NoSuchElementException", fx_T15, 0)) (names := fx_rn) C F rfl rfl (fx_m3 (List.mem_of_getElem? (i := 71) rfl)) (fx_m1 (List.mem_of_getElem? (i := 23) rfl)) (by decide +kernel) (by decide +kernel) ex_J_130 hs hv.1 hl d_J_path_15 d_J_path_18 d_J_path_19 (by decide) (Nat.le_of_ble_eq_true rfl) (fun H locs cells slots (F : fx_F D h0 h1 H locs cells slots) => ?_)
  exact fx_athrow C F (fx_out0 _) d_J_path_22 (Or.inr ⟨_, rfl, hw⟩)
theorem b_J_path_50 {p : Program} {l : Launch} {e : Env} {R : Room} {s : State} {m : MethodId} {args : Array Value} {below : List Frame} {meth : Method} {c : Code} {D : DD} {h0 : AH} {Q : Int32 → AH → Prop} {E : Nat → AH → Prop} (C : fx_CX D y_J_path prog_1_method_25_code 2 6 81 (Option.some FieldType.int) [] h0 p R s m meth c) (hl : l.flags = flags0) (sx0 : Int32) (h : AH) (hw : m_J_path_50 Q E sx0 h) : ∀ (ls : Array Slot) (H : Heap) (locs : List Loc) (cells slots : Nat), lv_has ls 2 [] → fx_F D h0 h H locs cells slots → W p l e R s m args below meth c H locs cells slots (fx_Z D below s h0 (fx_oI Q E)) (F0 m 50 ls [.int sx0]) := by
  unfold m_J_path_50 at hw
  intro ls H locs cells slots hv F
  exact fx_iret C F d_J_path_50 (Or.inl ⟨_, rfl, hw⟩)
theorem b_J_path_0 {p : Program} {l : Launch} {e : Env} {R : Room} {s : State} {m : MethodId} {args : Array Value} {below : List Frame} {meth : Method} {c : Code} {D : DD} {h0 : AH} {Q : Int32 → AH → Prop} {E : Nat → AH → Prop} (C : fx_CX D y_J_path prog_1_method_25_code 2 6 81 (Option.some FieldType.int) [] h0 p R s m meth c) (hl : l.flags = flags0) (r0 : Nat) (x1 : Int32) (h : AH) (hw : m_J_path Q E r0 x1 h) : ∀ (ls : Array Slot) (H : Heap) (locs : List Loc) (cells slots : Nat), lv_has ls 2 [(0, .ref r0), (1, .int x1)] → fx_F D h0 h H locs cells slots → W p l e R s m args below meth c H locs cells slots (fx_Z D below s h0 (fx_oI Q E)) (F0 m 0 ls []) := by
  unfold m_J_path at hw
  intro ls H locs cells slots hv F
  refine lv_iload_n C.ex C.by d_J_path_0 rfl (lv_at hv 1 rfl) ?_
  refine lv_if_lt C.ex C.by d_J_path_1 rfl (fun hc => ?_) (fun hc => ?_)
  · replace hw := hw.1 hc
    exact b_J_path_15 C hl _ hw _ _ _ _ _ (lv_sub hv [] rfl) F
  · replace hw := hw.2 hc
    refine lv_iload_n C.ex C.by d_J_path_4 rfl (lv_at hv 1 rfl) ?_
    refine lv_aload_n C.ex C.by d_J_path_5 rfl (lv_at hv 0 rfl) ?_
    obtain ⟨hk1, hw⟩ := hw
    obtain ⟨b1, hb1, hw⟩ := hw
    refine fx_getR C F lf_J_52 hk1 rfl hb1 d_J_path_6 ?_
    obtain ⟨hk2, hw⟩ := hw
    refine fx_getI C F lf_J_293 hk2 rfl d_J_path_9 ?_
    refine lv_icmp_le C.ex C.by d_J_path_12 rfl (fun hc => ?_) (fun hc => ?_)
    · replace hw := hw.1 hc
      refine lv_iload_n C.ex C.by d_J_path_23 rfl (lv_at hv 1 rfl) ?_
      refine lv_aload_n C.ex C.by d_J_path_24 rfl (lv_at hv 0 rfl) ?_
      refine fx_getR C F lf_J_52 hk1 rfl hb1 d_J_path_25 ?_
      refine fx_getI C F lf_J_293 hk2 rfl d_J_path_28 ?_
      refine lv_icmp_ne C.ex C.by d_J_path_31 rfl (fun hc => ?_) (fun hc => ?_)
      · replace hw := hw.1 hc
        refine lv_aload_n C.ex C.by d_J_path_41 rfl (lv_at hv 0 rfl) ?_
        refine fx_getR C F lf_J_52 hk1 rfl hb1 d_J_path_42 ?_
        obtain ⟨b2, hb2, hw⟩ := hw
        refine fx_getR C F lf_J_294 hk2 rfl hb2 d_J_path_45 ?_
        refine lv_iload_n C.ex C.by d_J_path_48 rfl (lv_at hv 1 rfl) ?_
        obtain ⟨hk3, hw⟩ := hw
        obtain ⟨hi1, hw⟩ := hw
        refine fx_iald C F hk3 hi1 d_J_path_49 ?_
        exact b_J_path_50 C hl _ _ hw _ _ _ _ _ (lv_sub hv [] rfl) F
      · replace hw := hw.2 hc
        refine lv_aload_n C.ex C.by d_J_path_34 rfl (lv_at hv 0 rfl) ?_
        refine fx_getI C F lf_J_84 hk1 rfl d_J_path_35 ?_
        refine lv_goto C.ex C.by d_J_path_38 rfl ?_
        exact b_J_path_50 C hl _ _ hw _ _ _ _ _ (lv_sub hv [] rfl) F
    · replace hw := hw.2 hc
      exact b_J_path_15 C hl _ hw _ _ _ _ _ (lv_sub hv [] rfl) F
theorem hm_J_path : fx_hd y_J_path prog_1_method_25_code 2 (Option.some FieldType.int) [] ∈ tables_1 := (fx_m5 (List.mem_of_getElem? (i := 215) rfl))
theorem hi_J_path : Cond.initialized y_J_path.cls ∈ tables_1 := (fx_m1 (List.mem_of_getElem? (i := 1) rfl))
theorem c_J_path {l : Launch} (hl : l.flags = flags0) {D : DD} {Q : Int32 → AH → Prop} {E : Nat → AH → Prop} {r0 : Nat} {x1 : Int32} {h : AH} (hw : m_J_path Q E r0 x1 h) : fx_Mt l D y_J_path (fx_hd y_J_path prog_1_method_25_code 2 (Option.some FieldType.int) []) 6 81 [.ref r0, .int x1] h (fx_oI Q E) := by
  refine fx_ofW (plainFor_of_name (by decide)) (fun p e s m below meth c C F => ?_)
  have hv := lv_entry ([.ref r0, .int x1]) (n := 2) (Nat.le_of_ble_eq_true rfl)
  rw [lg_entry_eq]
  generalize (lg_sl ([.ref r0, .int x1]) ++ List.replicate (2 - (lg_sl ([.ref r0, .int x1])).length) Slot.unset).toArray = ls at hv ⊢
  have hv : lv_has ls 2 [(0, .ref r0), (1, .int x1)] := hv
  exact b_J_path_0 C hl _ _ _ hw _ _ _ _ _ hv F
/-! ChainJudgeLaw.path(LChainJudge;I[J)I: frames 7, words 96 -/
abbrev y_Law_path : MethodName := ⟨"ChainJudgeLaw", "path", "(LChainJudge;I[J)I"⟩
theorem lm_Law_61 : Cond.methodLink "ChainJudgeLaw" 61 y_J_path ∈ tables_1 ∨ ∃ host, Cond.methodLinkNest "ChainJudgeLaw" 61 y_J_path host ∈ tables_1 := Or.inl (fx_m5 (List.mem_of_getElem? (i := 212) rfl))
section
variable {p : Program} {l : Launch} {e : Env} {R : Room} {s : State} {m : MethodId} {args : Array Value} {below : List Frame} {meth : Method} {c : Code} {H : Heap} {locs : List Loc} {cells slots : Nat}
variable {D : DD} {y : MethodName} {cc : ByteArray} {nL kf kw : Nat} {ret : Option FieldType} {hh : List (Nat × Nat × Nat × Nat)} {h0 h : AH} {pc : Nat} {ls : Array Slot} {rest : List Value} {b idx : Nat}
theorem iv_J_path {x1 : Int32} (C : fx_CX D y cc nL kf kw ret hh h0 p R s m meth c) (F : fx_F D h0 h H locs cells slots) (hw1 : Cond.methodLink y.cls idx y_J_path ∈ tables_1 ∨ ∃ host, Cond.methodLinkNest y.cls idx y_J_path host ∈ tables_1) (hk : hp_k h b = 1) (hd : decode cc pc = .ok (.invokevirtual idx, 3)) : fx_IV p l e R s m args below meth c H locs cells slots (F0 m pc ls (.int x1 :: .ref b :: rest)) rest y_J_path [.ref b, .int x1] 3 := fun T hT X => fx_invV (As := [.int x1]) (Cn := "ChainJudge") C X hw1 (fx_m5 (List.mem_of_getElem? (i := 213) rfl)) (fx_selW C (fx_m5 (List.mem_of_getElem? (i := 214) rfl))) hm_J_path ⟨by decide, by decide⟩ (by rw [hT]; exact fx_clsO (ci := 0) (r := ("ChainJudge", fx_T0, 16)) C F rfl (by decide) hk) rfl (n := 1) (by decide +kernel) rfl rfl hd
end
def dl_Law_path : List (Nat × Instr × Nat) := [(0, .aload_n 2, 1), (1, .iconst 0, 1), (2, .aload_n 0, 1), (3, .iload_n 1, 1), (4, .invokevirtual 61, 3), (7, .i2l, 1), (8, .lastore, 1), (9, .goto 6, 3), (12, .astore_n 3, 1), (13, .iconst 1, 1), (14, .ireturn, 1), (15, .iconst 0, 1), (16, .ireturn, 1)]
theorem dk_Law_path : fx_dec method_15_code dl_Law_path = true := by decide +kernel
theorem d_Law_path_0 : decode method_15_code 0 = .ok (.aload_n 2, 1) := fx_dat dk_Law_path 0 rfl
theorem d_Law_path_1 : decode method_15_code 1 = .ok (.iconst 0, 1) := fx_dat dk_Law_path 1 rfl
theorem d_Law_path_2 : decode method_15_code 2 = .ok (.aload_n 0, 1) := fx_dat dk_Law_path 2 rfl
theorem d_Law_path_3 : decode method_15_code 3 = .ok (.iload_n 1, 1) := fx_dat dk_Law_path 3 rfl
theorem d_Law_path_4 : decode method_15_code 4 = .ok (.invokevirtual 61, 3) := fx_dat dk_Law_path 4 rfl
theorem d_Law_path_7 : decode method_15_code 7 = .ok (.i2l, 1) := fx_dat dk_Law_path 5 rfl
theorem d_Law_path_8 : decode method_15_code 8 = .ok (.lastore, 1) := fx_dat dk_Law_path 6 rfl
theorem d_Law_path_9 : decode method_15_code 9 = .ok (.goto 6, 3) := fx_dat dk_Law_path 7 rfl
theorem d_Law_path_12 : decode method_15_code 12 = .ok (.astore_n 3, 1) := fx_dat dk_Law_path 8 rfl
theorem d_Law_path_13 : decode method_15_code 13 = .ok (.iconst 1, 1) := fx_dat dk_Law_path 9 rfl
theorem d_Law_path_14 : decode method_15_code 14 = .ok (.ireturn, 1) := fx_dat dk_Law_path 10 rfl
theorem d_Law_path_15 : decode method_15_code 15 = .ok (.iconst 0, 1) := fx_dat dk_Law_path 11 rfl
theorem d_Law_path_16 : decode method_15_code 16 = .ok (.ireturn, 1) := fx_dat dk_Law_path 12 rfl
def m_Law_path (Q : Int32 → AH → Prop) (r0 : Nat) (x1 : Int32) (r2 : Nat) (h : AH) : Prop := hp_k h r0 = 1 ∧ m_J_path (fun v1 h1 => fx_ext h h1 → hp_k h1 r2 = 103 ∧ vp_in (0 : Int32) (hp_n h1 r2) ∧ ∀ h2 : AH, h2 = up_L h1 r2 ((0 : Int32)).toNatClampNeg ((v1).toInt64) → Q (0 : Int32) h2) (fun q1 h3 => fx_ext h h3 → (hp_k h3 q1 = 16 ∧ Q (1 : Int32) h3)) r0 x1 h
theorem b_Law_path_0 {p : Program} {l : Launch} {e : Env} {R : Room} {s : State} {m : MethodId} {args : Array Value} {below : List Frame} {meth : Method} {c : Code} {D : DD} {h0 : AH} {Q : Int32 → AH → Prop} (C : fx_CX D y_Law_path method_15_code 4 7 96 (Option.some FieldType.int) [(0, 9, 12, 28)] h0 p R s m meth c) (hl : l.flags = flags0) (r0 : Nat) (x1 : Int32) (r2 : Nat) (h : AH) (hw : m_Law_path Q r0 x1 r2 h) : ∀ (ls : Array Slot) (H : Heap) (locs : List Loc) (cells slots : Nat), lv_has ls 4 [(0, .ref r0), (1, .int x1), (2, .ref r2)] → fx_F D h0 h H locs cells slots → W p l e R s m args below meth c H locs cells slots (fx_Z D below s h0 (fx_oI Q fx_no)) (F0 m 0 ls []) := by
  unfold m_Law_path at hw
  intro ls H locs cells slots hv F
  refine lv_aload_n C.ex C.by d_Law_path_0 rfl (lv_at hv 2 rfl) ?_
  refine lv_iconst (v := (0 : Int32)) C.ex C.by d_Law_path_1 (by decide) ?_
  refine lv_aload_n C.ex C.by d_Law_path_2 rfl (lv_at hv 0 rfl) ?_
  refine lv_iload_n C.ex C.by d_Law_path_3 rfl (lv_at hv 1 rfl) ?_
  obtain ⟨hk1, hw⟩ := hw
  refine fx_callIc C F (c_J_path hl hw) hm_J_path hi_J_path hv.1 (by decide) (Nat.le_of_ble_eq_true rfl) (iv_J_path C F lm_Law_61 hk1 d_Law_path_4) (fun v1 h1 H locs cells slots hw hx1 F => ?_) (fun q1 h3 T locs cells slots hw hx1 F X => ?_)
  · replace hw := hw hx1
    have hk1 := (hx1).k hk1
    refine lv_i2l (v := ((v1).toInt64)) C.ex C.by d_Law_path_7 rfl ?_
    obtain ⟨hk2, hw⟩ := hw
    obtain ⟨hi1, hw⟩ := hw
    let h2 : AH := up_L h1 r2 ((0 : Int32)).toNatClampNeg ((v1).toInt64)
    replace hw := hw h2 rfl
    refine fx_last C F hk2 hi1 d_Law_path_8 (fun H locs (F : fx_F D h0 h2 H locs _ _) => ?_)
    refine lv_goto C.ex C.by d_Law_path_9 rfl ?_
    refine lv_iconst (v := (0 : Int32)) C.ex C.by d_Law_path_15 (by decide) ?_
    exact fx_iret C F d_Law_path_16 (Or.inl ⟨_, rfl, hw⟩)
  · replace hw := hw hx1
    rcases hw with ⟨hk9, hw⟩
    · have hp0 : ∀ q ∈ ([] : List ((Nat × Nat × Nat × Nat) × String)), fx_passes "ChainJudgeLaw" "java/util/NoSuchElementException" 4 q := by
        intro q hq
        cases hq
      refine fx_caught (ci := 15) (r := ("java/util/NoSuchElementException", fx_T15, 0)) C F X rfl (by decide) hk9 [] (0, 9, 12, 28) [] "java/util/NoSuchElementException" rfl hp0 rfl (by decide) (fx_m3 (List.mem_of_getElem? (i := 65) rfl)) (fx_m3 (List.mem_of_getElem? (i := 73) rfl)) (fun H locs cells slots F => ?_)
      have hk1 := (hx1).k hk1
      refine lv_astore_n (lv' := [(3, .ref q1), (0, .ref r0), (1, .int x1), (2, .ref r2)]) C.ex C.by d_Law_path_12 rfl hv (by decide) rfl (fun ls hv => ?_)
      refine lv_iconst (v := (1 : Int32)) C.ex C.by d_Law_path_13 (by decide) ?_
      exact fx_iret C F d_Law_path_14 (Or.inl ⟨_, rfl, hw⟩)
theorem hm_Law_path : fx_hd y_Law_path method_15_code 4 (Option.some FieldType.int) [(0, 9, 12, 28)] ∈ tables_1 := (fx_m5 (List.mem_of_getElem? (i := 211) rfl))
theorem hi_Law_path : Cond.initialized y_Law_path.cls ∈ tables_1 := (fx_m1 (List.mem_of_getElem? (i := 0) rfl))
theorem c_Law_path {l : Launch} (hl : l.flags = flags0) {D : DD} {Q : Int32 → AH → Prop} {r0 : Nat} {x1 : Int32} {r2 : Nat} {h : AH} (hw : m_Law_path Q r0 x1 r2 h) : fx_Mt l D y_Law_path (fx_hd y_Law_path method_15_code 4 (Option.some FieldType.int) [(0, 9, 12, 28)]) 7 96 [.ref r0, .int x1, .ref r2] h (fx_oI Q fx_no) := by
  refine fx_ofW (plainFor_of_name (by decide)) (fun p e s m below meth c C F => ?_)
  have hv := lv_entry ([.ref r0, .int x1, .ref r2]) (n := 4) (Nat.le_of_ble_eq_true rfl)
  rw [lg_entry_eq]
  generalize (lg_sl ([.ref r0, .int x1, .ref r2]) ++ List.replicate (4 - (lg_sl ([.ref r0, .int x1, .ref r2])).length) Slot.unset).toArray = ls at hv ⊢
  have hv : lv_has ls 4 [(0, .ref r0), (1, .int x1), (2, .ref r2)] := hv
  exact b_Law_path_0 C hl _ _ _ _ hw _ _ _ _ _ hv F
/-! ChainJudgeModel.prime(I)I: frames 0, words 0 -/
abbrev y_M_prime : MethodName := ⟨"ChainJudgeModel", "prime", "(I)I"⟩
def dl_M_prime : List (Nat × Instr × Nat) := [(0, .iload_n 0, 1), (1, .istore_n 1, 1), (2, .iconst 0, 1), (3, .istore_n 2, 1), (4, .iload_n 2, 1), (5, .ifCond .ne 34, 3), (8, .iinc 1 1, 3), (11, .iconst 1, 1), (12, .istore_n 2, 1), (13, .iconst 2, 1), (14, .istore_n 3, 1), (15, .iload_n 3, 1), (16, .iload_n 3, 1), (17, .imul, 1), (18, .iload_n 1, 1), (19, .if_icmp .gt 17, 3), (22, .iload_n 1, 1), (23, .iload_n 3, 1), (24, .irem, 1), (25, .ifCond .ne 5, 3), (28, .iconst 0, 1), (29, .istore_n 2, 1), (30, .iinc 3 1, 3), (33, .goto (-18), 3), (36, .goto (-32), 3), (39, .iload_n 1, 1), (40, .ireturn, 1)]
theorem dk_M_prime : fx_dec prog_15_method_4_code dl_M_prime = true := by decide +kernel
theorem d_M_prime_0 : decode prog_15_method_4_code 0 = .ok (.iload_n 0, 1) := fx_dat dk_M_prime 0 rfl
theorem d_M_prime_1 : decode prog_15_method_4_code 1 = .ok (.istore_n 1, 1) := fx_dat dk_M_prime 1 rfl
theorem d_M_prime_2 : decode prog_15_method_4_code 2 = .ok (.iconst 0, 1) := fx_dat dk_M_prime 2 rfl
theorem d_M_prime_3 : decode prog_15_method_4_code 3 = .ok (.istore_n 2, 1) := fx_dat dk_M_prime 3 rfl
theorem d_M_prime_4 : decode prog_15_method_4_code 4 = .ok (.iload_n 2, 1) := fx_dat dk_M_prime 4 rfl
theorem d_M_prime_5 : decode prog_15_method_4_code 5 = .ok (.ifCond .ne 34, 3) := fx_dat dk_M_prime 5 rfl
theorem d_M_prime_8 : decode prog_15_method_4_code 8 = .ok (.iinc 1 1, 3) := fx_dat dk_M_prime 6 rfl
theorem d_M_prime_11 : decode prog_15_method_4_code 11 = .ok (.iconst 1, 1) := fx_dat dk_M_prime 7 rfl
theorem d_M_prime_12 : decode prog_15_method_4_code 12 = .ok (.istore_n 2, 1) := fx_dat dk_M_prime 8 rfl
theorem d_M_prime_13 : decode prog_15_method_4_code 13 = .ok (.iconst 2, 1) := fx_dat dk_M_prime 9 rfl
theorem d_M_prime_14 : decode prog_15_method_4_code 14 = .ok (.istore_n 3, 1) := fx_dat dk_M_prime 10 rfl
theorem d_M_prime_15 : decode prog_15_method_4_code 15 = .ok (.iload_n 3, 1) := fx_dat dk_M_prime 11 rfl
theorem d_M_prime_16 : decode prog_15_method_4_code 16 = .ok (.iload_n 3, 1) := fx_dat dk_M_prime 12 rfl
theorem d_M_prime_17 : decode prog_15_method_4_code 17 = .ok (.imul, 1) := fx_dat dk_M_prime 13 rfl
theorem d_M_prime_18 : decode prog_15_method_4_code 18 = .ok (.iload_n 1, 1) := fx_dat dk_M_prime 14 rfl
theorem d_M_prime_19 : decode prog_15_method_4_code 19 = .ok (.if_icmp .gt 17, 3) := fx_dat dk_M_prime 15 rfl
theorem d_M_prime_22 : decode prog_15_method_4_code 22 = .ok (.iload_n 1, 1) := fx_dat dk_M_prime 16 rfl
theorem d_M_prime_23 : decode prog_15_method_4_code 23 = .ok (.iload_n 3, 1) := fx_dat dk_M_prime 17 rfl
theorem d_M_prime_24 : decode prog_15_method_4_code 24 = .ok (.irem, 1) := fx_dat dk_M_prime 18 rfl
theorem d_M_prime_25 : decode prog_15_method_4_code 25 = .ok (.ifCond .ne 5, 3) := fx_dat dk_M_prime 19 rfl
theorem d_M_prime_28 : decode prog_15_method_4_code 28 = .ok (.iconst 0, 1) := fx_dat dk_M_prime 20 rfl
theorem d_M_prime_29 : decode prog_15_method_4_code 29 = .ok (.istore_n 2, 1) := fx_dat dk_M_prime 21 rfl
theorem d_M_prime_30 : decode prog_15_method_4_code 30 = .ok (.iinc 3 1, 3) := fx_dat dk_M_prime 22 rfl
theorem d_M_prime_33 : decode prog_15_method_4_code 33 = .ok (.goto (-18), 3) := fx_dat dk_M_prime 23 rfl
theorem d_M_prime_36 : decode prog_15_method_4_code 36 = .ok (.goto (-32), 3) := fx_dat dk_M_prime 24 rfl
theorem d_M_prime_39 : decode prog_15_method_4_code 39 = .ok (.iload_n 1, 1) := fx_dat dk_M_prime 25 rfl
theorem d_M_prime_40 : decode prog_15_method_4_code 40 = .ok (.ireturn, 1) := fx_dat dk_M_prime 26 rfl
def m_M_prime_30 (Q : Int32 → AH → Prop) (X4 : Int32 × Int32 × AH → Prop) (X15 : Int32 × Int32 × AH → Prop) (x1 : Int32) (x2 : Int32) (x3 : Int32) (h : AH) : Prop := ∀ v1 : Int32, v1 = (x3 + (1 : Int32)) → X15 (x2, v1, h)
def m_M_prime_15_b (Q : Int32 → AH → Prop) (X4 : Int32 × Int32 × AH → Prop) (X15 : Int32 × Int32 × AH → Prop) (x1 : Int32) (x2 : Int32) (x3 : Int32) (h : AH) : Prop := (x1 < (x3 * x3) → X4 (x1, x2, h)) ∧ (¬ x1 < (x3 * x3) → ¬ x3 = 0 ∧ (¬ (x1 - x1 / x3 * x3) = 0 → m_M_prime_30 Q X4 X15 x1 x2 x3 h) ∧ ((x1 - x1 / x3 * x3) = 0 → m_M_prime_30 Q X4 X15 x1 (0 : Int32) x3 h))
def m_M_prime_15 (Q : Int32 → AH → Prop) (X4 : Int32 × Int32 × AH → Prop) (x1 : Int32) (x2 : Int32) (x3 : Int32) (h : AH) : Prop := fx_loop (fun (X15 : Int32 × Int32 × AH → Prop) (st : Int32 × Int32 × AH) => m_M_prime_15_b Q X4 X15 x1 st.1 st.2.1 st.2.2) (x2, x3, h)
def m_M_prime_4_b (Q : Int32 → AH → Prop) (X4 : Int32 × Int32 × AH → Prop) (x1 : Int32) (x2 : Int32) (h : AH) : Prop := (¬ x2 = 0 → Q x1 h) ∧ (x2 = 0 → ∀ v1 : Int32, v1 = (x1 + (1 : Int32)) → m_M_prime_15 Q X4 v1 (1 : Int32) (2 : Int32) h)
def m_M_prime_4 (Q : Int32 → AH → Prop) (x1 : Int32) (x2 : Int32) (h : AH) : Prop := fx_loop (fun (X4 : Int32 × Int32 × AH → Prop) (st : Int32 × Int32 × AH) => m_M_prime_4_b Q X4 st.1 st.2.1 st.2.2) (x1, x2, h)
def m_M_prime (Q : Int32 → AH → Prop) (x0 : Int32) (h : AH) : Prop := m_M_prime_4 Q x0 (0 : Int32) h
theorem b_M_prime_30 {p : Program} {l : Launch} {e : Env} {R : Room} {s : State} {m : MethodId} {args : Array Value} {below : List Frame} {meth : Method} {c : Code} {D : DD} {h0 : AH} {Q : Int32 → AH → Prop} {X4 : Int32 × Int32 × AH → Prop} {X15 : Int32 × Int32 × AH → Prop} (C : fx_CX D y_M_prime prog_15_method_4_code 4 0 0 (Option.some FieldType.int) [] h0 p R s m meth c) (hl : l.flags = flags0) (x1 : Int32) (x2 : Int32) (x3 : Int32) (h : AH) (hX4 : ∀ st, X4 st → ∀ (ls : Array Slot) (H : Heap) (locs : List Loc) (cells slots : Nat), lv_has ls 4 [(1, .int st.1), (2, .int st.2.1)] → fx_F D h0 st.2.2 H locs cells slots → W p l e R s m args below meth c H locs cells slots (fx_Z D below s h0 (fx_oI Q fx_no)) (F0 m 4 ls [])) (hX15 : ∀ st, X15 st → ∀ (ls : Array Slot) (H : Heap) (locs : List Loc) (cells slots : Nat), lv_has ls 4 [(1, .int x1), (2, .int st.1), (3, .int st.2.1)] → fx_F D h0 st.2.2 H locs cells slots → W p l e R s m args below meth c H locs cells slots (fx_Z D below s h0 (fx_oI Q fx_no)) (F0 m 15 ls [])) (hw : m_M_prime_30 Q X4 X15 x1 x2 x3 h) : ∀ (ls : Array Slot) (H : Heap) (locs : List Loc) (cells slots : Nat), lv_has ls 4 [(1, .int x1), (2, .int x2), (3, .int x3)] → fx_F D h0 h H locs cells slots → W p l e R s m args below meth c H locs cells slots (fx_Z D below s h0 (fx_oI Q fx_no)) (F0 m 30 ls []) := by
  unfold m_M_prime_30 at hw
  intro ls H locs cells slots hv F
  let v1 : Int32 := (x3 + (1 : Int32))
  replace hw := hw v1 rfl
  refine lv_iinc (v := v1) (k := 2) (lv' := [(3, .int v1), (1, .int x1), (2, .int x2)]) C.ex C.by d_M_prime_30 hv rfl (congrArg (fun z => x3 + z) (by decide)) (by decide) rfl (fun ls hv => ?_)
  refine lv_goto C.ex C.by d_M_prime_33 rfl ?_
  exact hX15 _ hw _ _ _ _ _ (lv_sub hv [1, 2, 0] rfl) F
theorem b_M_prime_15 {p : Program} {l : Launch} {e : Env} {R : Room} {s : State} {m : MethodId} {args : Array Value} {below : List Frame} {meth : Method} {c : Code} {D : DD} {h0 : AH} {Q : Int32 → AH → Prop} {X4 : Int32 × Int32 × AH → Prop} (C : fx_CX D y_M_prime prog_15_method_4_code 4 0 0 (Option.some FieldType.int) [] h0 p R s m meth c) (hl : l.flags = flags0) (x1 : Int32) (x2 : Int32) (x3 : Int32) (h : AH) (hX4 : ∀ st, X4 st → ∀ (ls : Array Slot) (H : Heap) (locs : List Loc) (cells slots : Nat), lv_has ls 4 [(1, .int st.1), (2, .int st.2.1)] → fx_F D h0 st.2.2 H locs cells slots → W p l e R s m args below meth c H locs cells slots (fx_Z D below s h0 (fx_oI Q fx_no)) (F0 m 4 ls [])) (hw : m_M_prime_15 Q X4 x1 x2 x3 h) : ∀ (ls : Array Slot) (H : Heap) (locs : List Loc) (cells slots : Nat), lv_has ls 4 [(1, .int x1), (2, .int x2), (3, .int x3)] → fx_F D h0 h H locs cells slots → W p l e R s m args below meth c H locs cells slots (fx_Z D below s h0 (fx_oI Q fx_no)) (F0 m 15 ls []) := by
  refine fx_loop.use hw (fun st => ∀ (ls : Array Slot) (H : Heap) (locs : List Loc) (cells slots : Nat), lv_has ls 4 [(1, .int x1), (2, .int st.1), (3, .int st.2.1)] → fx_F D h0 st.2.2 H locs cells slots → W p l e R s m args below meth c H locs cells slots (fx_Z D below s h0 (fx_oI Q fx_no)) (F0 m 15 ls [])) (fun X15 st hX15 hw => ?_)
  obtain ⟨x2, x3, h⟩ := st
  replace hw : m_M_prime_15_b Q X4 X15 x1 x2 x3 h := hw
  unfold m_M_prime_15_b at hw
  intro ls H locs cells slots hv F
  refine lv_iload_n C.ex C.by d_M_prime_15 rfl (lv_at hv 2 rfl) ?_
  refine lv_iload_n C.ex C.by d_M_prime_16 rfl (lv_at hv 2 rfl) ?_
  refine lv_imul C.ex C.by d_M_prime_17 ?_
  refine lv_iload_n C.ex C.by d_M_prime_18 rfl (lv_at hv 0 rfl) ?_
  refine lv_icmp_gt C.ex C.by d_M_prime_19 rfl (fun hc => ?_) (fun hc => ?_)
  · replace hw := hw.1 hc
    refine lv_goto C.ex C.by d_M_prime_36 rfl ?_
    exact hX4 _ hw _ _ _ _ _ (lv_sub hv [0, 1] rfl) F
  · replace hw := hw.2 hc
    refine lv_iload_n C.ex C.by d_M_prime_22 rfl (lv_at hv 0 rfl) ?_
    refine lv_iload_n C.ex C.by d_M_prime_23 rfl (lv_at hv 2 rfl) ?_
    obtain ⟨hnz, hw⟩ := hw
    refine lv_irem C.ex C.by d_M_prime_24 hnz ?_
    refine lv_if_ne C.ex C.by d_M_prime_25 rfl (fun hc => ?_) (fun hc => ?_)
    · replace hw := hw.1 hc
      exact b_M_prime_30 C hl _ _ _ _ hX4 hX15 hw _ _ _ _ _ hv F
    · replace hw := hw.2 hc
      refine lv_iconst (v := (0 : Int32)) C.ex C.by d_M_prime_28 (by decide) ?_
      refine lv_istore_n (lv' := [(2, .int (0 : Int32)), (1, .int x1), (3, .int x3)]) C.ex C.by d_M_prime_29 rfl hv (by decide) rfl (fun ls hv => ?_)
      exact b_M_prime_30 C hl _ _ _ _ hX4 hX15 hw _ _ _ _ _ (lv_sub hv [1, 0, 2] rfl) F
theorem b_M_prime_4 {p : Program} {l : Launch} {e : Env} {R : Room} {s : State} {m : MethodId} {args : Array Value} {below : List Frame} {meth : Method} {c : Code} {D : DD} {h0 : AH} {Q : Int32 → AH → Prop} (C : fx_CX D y_M_prime prog_15_method_4_code 4 0 0 (Option.some FieldType.int) [] h0 p R s m meth c) (hl : l.flags = flags0) (x1 : Int32) (x2 : Int32) (h : AH) (hw : m_M_prime_4 Q x1 x2 h) : ∀ (ls : Array Slot) (H : Heap) (locs : List Loc) (cells slots : Nat), lv_has ls 4 [(1, .int x1), (2, .int x2)] → fx_F D h0 h H locs cells slots → W p l e R s m args below meth c H locs cells slots (fx_Z D below s h0 (fx_oI Q fx_no)) (F0 m 4 ls []) := by
  refine fx_loop.use hw (fun st => ∀ (ls : Array Slot) (H : Heap) (locs : List Loc) (cells slots : Nat), lv_has ls 4 [(1, .int st.1), (2, .int st.2.1)] → fx_F D h0 st.2.2 H locs cells slots → W p l e R s m args below meth c H locs cells slots (fx_Z D below s h0 (fx_oI Q fx_no)) (F0 m 4 ls [])) (fun X4 st hX4 hw => ?_)
  obtain ⟨x1, x2, h⟩ := st
  replace hw : m_M_prime_4_b Q X4 x1 x2 h := hw
  unfold m_M_prime_4_b at hw
  intro ls H locs cells slots hv F
  refine lv_iload_n C.ex C.by d_M_prime_4 rfl (lv_at hv 1 rfl) ?_
  refine lv_if_ne C.ex C.by d_M_prime_5 rfl (fun hc => ?_) (fun hc => ?_)
  · replace hw := hw.1 hc
    refine lv_iload_n C.ex C.by d_M_prime_39 rfl (lv_at hv 0 rfl) ?_
    exact fx_iret C F d_M_prime_40 (Or.inl ⟨_, rfl, hw⟩)
  · replace hw := hw.2 hc
    let v1 : Int32 := (x1 + (1 : Int32))
    replace hw := hw v1 rfl
    refine lv_iinc (v := v1) (k := 0) (lv' := [(1, .int v1), (2, .int x2)]) C.ex C.by d_M_prime_8 hv rfl (congrArg (fun z => x1 + z) (by decide)) (by decide) rfl (fun ls hv => ?_)
    refine lv_iconst (v := (1 : Int32)) C.ex C.by d_M_prime_11 (by decide) ?_
    refine lv_istore_n (lv' := [(2, .int (1 : Int32)), (1, .int v1)]) C.ex C.by d_M_prime_12 rfl hv (by decide) rfl (fun ls hv => ?_)
    refine lv_iconst (v := (2 : Int32)) C.ex C.by d_M_prime_13 (by decide) ?_
    refine lv_istore_n (lv' := [(3, .int (2 : Int32)), (2, .int (1 : Int32)), (1, .int v1)]) C.ex C.by d_M_prime_14 rfl hv (by decide) rfl (fun ls hv => ?_)
    exact b_M_prime_15 C hl _ _ _ _ hX4 hw _ _ _ _ _ (lv_sub hv [2, 1, 0] rfl) F
theorem b_M_prime_0 {p : Program} {l : Launch} {e : Env} {R : Room} {s : State} {m : MethodId} {args : Array Value} {below : List Frame} {meth : Method} {c : Code} {D : DD} {h0 : AH} {Q : Int32 → AH → Prop} (C : fx_CX D y_M_prime prog_15_method_4_code 4 0 0 (Option.some FieldType.int) [] h0 p R s m meth c) (hl : l.flags = flags0) (x0 : Int32) (h : AH) (hw : m_M_prime Q x0 h) : ∀ (ls : Array Slot) (H : Heap) (locs : List Loc) (cells slots : Nat), lv_has ls 4 [(0, .int x0)] → fx_F D h0 h H locs cells slots → W p l e R s m args below meth c H locs cells slots (fx_Z D below s h0 (fx_oI Q fx_no)) (F0 m 0 ls []) := by
  unfold m_M_prime at hw
  intro ls H locs cells slots hv F
  refine lv_iload_n C.ex C.by d_M_prime_0 rfl (lv_at hv 0 rfl) ?_
  refine lv_istore_n (lv' := [(1, .int x0), (0, .int x0)]) C.ex C.by d_M_prime_1 rfl hv (by decide) rfl (fun ls hv => ?_)
  refine lv_iconst (v := (0 : Int32)) C.ex C.by d_M_prime_2 (by decide) ?_
  refine lv_istore_n (lv' := [(2, .int (0 : Int32)), (1, .int x0), (0, .int x0)]) C.ex C.by d_M_prime_3 rfl hv (by decide) rfl (fun ls hv => ?_)
  exact b_M_prime_4 C hl _ _ _ hw _ _ _ _ _ (lv_sub hv [1, 0] rfl) F
theorem hm_M_prime : fx_hd y_M_prime prog_15_method_4_code 4 (Option.some FieldType.int) [] ∈ tables_1 := (fx_m5 (List.mem_of_getElem? (i := 232) rfl))
theorem hi_M_prime : Cond.initialized y_M_prime.cls ∈ tables_1 := (fx_m1 (List.mem_of_getElem? (i := 15) rfl))
theorem c_M_prime {l : Launch} (hl : l.flags = flags0) {D : DD} {Q : Int32 → AH → Prop} {x0 : Int32} {h : AH} (hw : m_M_prime Q x0 h) : fx_Mt l D y_M_prime (fx_hd y_M_prime prog_15_method_4_code 4 (Option.some FieldType.int) []) 0 0 [.int x0] h (fx_oI Q fx_no) := by
  refine fx_ofW (plainFor_of_name (by decide)) (fun p e s m below meth c C F => ?_)
  have hv := lv_entry ([.int x0]) (n := 4) (Nat.le_of_ble_eq_true rfl)
  rw [lg_entry_eq]
  generalize (lg_sl ([.int x0]) ++ List.replicate (4 - (lg_sl ([.int x0])).length) Slot.unset).toArray = ls at hv ⊢
  have hv : lv_has ls 4 [(0, .int x0)] := hv
  exact b_M_prime_0 C hl _ _ hw _ _ _ _ _ hv F
/-! ChainJudgeModel.raise(JJ)V: frames 0, words 0 -/
abbrev y_M_raise : MethodName := ⟨"ChainJudgeModel", "raise", "(JJ)V"⟩
theorem lf_M_71 : fx_Lk "ChainJudgeModel" 71 12 54 := fx_Lk.mk (C := "ChainJudgeModel") (T := fx_T12) (N := 57) rfl (by decide) (by decide) (fx_m6 (List.mem_of_getElem? (i := 60) rfl))
theorem lf_M_74 : fx_Lk "ChainJudgeModel" 74 12 55 := fx_Lk.mk (C := "ChainJudgeModel") (T := fx_T12) (N := 57) rfl (by decide) (by decide) (fx_m6 (List.mem_of_getElem? (i := 61) rfl))
def dl_M_raise : List (Nat × Instr × Nat) := [(0, .iconst 0, 1), (1, .istore 5, 2), (3, .iload 5, 2), (5, .bipush 8, 2), (7, .if_icmp .ge 17, 3), (10, .aload_n 0, 1), (11, .getfield 74, 3), (14, .iload 5, 2), (16, .lconst 0, 1), (17, .lastore, 1), (18, .iinc 5 1, 3), (21, .goto (-18), 3), (24, .iconst 0, 1), (25, .istore 5, 2), (27, .iload 5, 2), (29, .iconst 3, 1), (30, .if_icmp .ge 109, 3), (33, .iload 5, 2), (35, .ifCond .ne 11, 3), (38, .lload_n 3, 1), (39, .ldc2_w 102, 3), (42, .land, 1), (43, .goto 17, 3), (46, .iload 5, 2), (48, .iconst 1, 1), (49, .if_icmp .ne 10, 3), (52, .lload_n 3, 1), (53, .bipush 32, 2), (55, .lushr, 1), (56, .goto 4, 3), (59, .lload_n 1, 1), (60, .lstore 6, 2), (62, .lconst 0, 1), (63, .lstore 8, 2), (65, .iconst 0, 1), (66, .istore 10, 2), (68, .iload 5, 2), (70, .iload 10, 2), (72, .iadd, 1), (73, .bipush 8, 2), (75, .if_icmp .ge 58, 3), (78, .aload_n 0, 1), (79, .getfield 74, 3), (82, .iload 5, 2), (84, .iload 10, 2), (86, .iadd, 1), (87, .laload, 1), (88, .lload 6, 2), (90, .aload_n 0, 1), (91, .getfield 71, 3), (94, .iload 10, 2), (96, .laload, 1), (97, .lmul, 1), (98, .ladd, 1), (99, .lload 8, 2), (101, .ladd, 1), (102, .lstore 11, 2), (104, .aload_n 0, 1), (105, .getfield 74, 3), (108, .iload 5, 2), (110, .iload 10, 2), (112, .iadd, 1), (113, .lload 11, 2), (115, .ldc2_w 102, 3), (118, .land, 1), (119, .lastore, 1), (120, .lload 11, 2), (122, .bipush 32, 2), (124, .lushr, 1), (125, .lstore 8, 2), (127, .iinc 10 1, 3), (130, .goto (-62), 3), (133, .iinc 5 1, 3), (136, .goto (-109), 3), (139, .iconst 0, 1), (140, .istore 5, 2), (142, .iload 5, 2), (144, .bipush 8, 2), (146, .if_icmp .ge 23, 3), (149, .aload_n 0, 1), (150, .getfield 71, 3), (153, .iload 5, 2), (155, .aload_n 0, 1), (156, .getfield 74, 3), (159, .iload 5, 2), (161, .laload, 1), (162, .lastore, 1), (163, .iinc 5 1, 3), (166, .goto (-24), 3), (169, .return_, 1)]
theorem dk_M_raise : fx_dec prog_15_method_8_code dl_M_raise = true := by decide +kernel
theorem d_M_raise_0 : decode prog_15_method_8_code 0 = .ok (.iconst 0, 1) := fx_dat dk_M_raise 0 rfl
theorem d_M_raise_1 : decode prog_15_method_8_code 1 = .ok (.istore 5, 2) := fx_dat dk_M_raise 1 rfl
theorem d_M_raise_3 : decode prog_15_method_8_code 3 = .ok (.iload 5, 2) := fx_dat dk_M_raise 2 rfl
theorem d_M_raise_5 : decode prog_15_method_8_code 5 = .ok (.bipush 8, 2) := fx_dat dk_M_raise 3 rfl
theorem d_M_raise_7 : decode prog_15_method_8_code 7 = .ok (.if_icmp .ge 17, 3) := fx_dat dk_M_raise 4 rfl
theorem d_M_raise_10 : decode prog_15_method_8_code 10 = .ok (.aload_n 0, 1) := fx_dat dk_M_raise 5 rfl
theorem d_M_raise_11 : decode prog_15_method_8_code 11 = .ok (.getfield 74, 3) := fx_dat dk_M_raise 6 rfl
theorem d_M_raise_14 : decode prog_15_method_8_code 14 = .ok (.iload 5, 2) := fx_dat dk_M_raise 7 rfl
theorem d_M_raise_16 : decode prog_15_method_8_code 16 = .ok (.lconst 0, 1) := fx_dat dk_M_raise 8 rfl
theorem d_M_raise_17 : decode prog_15_method_8_code 17 = .ok (.lastore, 1) := fx_dat dk_M_raise 9 rfl
theorem d_M_raise_18 : decode prog_15_method_8_code 18 = .ok (.iinc 5 1, 3) := fx_dat dk_M_raise 10 rfl
theorem d_M_raise_21 : decode prog_15_method_8_code 21 = .ok (.goto (-18), 3) := fx_dat dk_M_raise 11 rfl
theorem d_M_raise_24 : decode prog_15_method_8_code 24 = .ok (.iconst 0, 1) := fx_dat dk_M_raise 12 rfl
theorem d_M_raise_25 : decode prog_15_method_8_code 25 = .ok (.istore 5, 2) := fx_dat dk_M_raise 13 rfl
theorem d_M_raise_27 : decode prog_15_method_8_code 27 = .ok (.iload 5, 2) := fx_dat dk_M_raise 14 rfl
theorem d_M_raise_29 : decode prog_15_method_8_code 29 = .ok (.iconst 3, 1) := fx_dat dk_M_raise 15 rfl
theorem d_M_raise_30 : decode prog_15_method_8_code 30 = .ok (.if_icmp .ge 109, 3) := fx_dat dk_M_raise 16 rfl
theorem d_M_raise_33 : decode prog_15_method_8_code 33 = .ok (.iload 5, 2) := fx_dat dk_M_raise 17 rfl
theorem d_M_raise_35 : decode prog_15_method_8_code 35 = .ok (.ifCond .ne 11, 3) := fx_dat dk_M_raise 18 rfl
theorem d_M_raise_38 : decode prog_15_method_8_code 38 = .ok (.lload_n 3, 1) := fx_dat dk_M_raise 19 rfl
theorem d_M_raise_39 : decode prog_15_method_8_code 39 = .ok (.ldc2_w 102, 3) := fx_dat dk_M_raise 20 rfl
theorem d_M_raise_42 : decode prog_15_method_8_code 42 = .ok (.land, 1) := fx_dat dk_M_raise 21 rfl
theorem d_M_raise_43 : decode prog_15_method_8_code 43 = .ok (.goto 17, 3) := fx_dat dk_M_raise 22 rfl
theorem d_M_raise_46 : decode prog_15_method_8_code 46 = .ok (.iload 5, 2) := fx_dat dk_M_raise 23 rfl
theorem d_M_raise_48 : decode prog_15_method_8_code 48 = .ok (.iconst 1, 1) := fx_dat dk_M_raise 24 rfl
theorem d_M_raise_49 : decode prog_15_method_8_code 49 = .ok (.if_icmp .ne 10, 3) := fx_dat dk_M_raise 25 rfl
theorem d_M_raise_52 : decode prog_15_method_8_code 52 = .ok (.lload_n 3, 1) := fx_dat dk_M_raise 26 rfl
theorem d_M_raise_53 : decode prog_15_method_8_code 53 = .ok (.bipush 32, 2) := fx_dat dk_M_raise 27 rfl
theorem d_M_raise_55 : decode prog_15_method_8_code 55 = .ok (.lushr, 1) := fx_dat dk_M_raise 28 rfl
theorem d_M_raise_56 : decode prog_15_method_8_code 56 = .ok (.goto 4, 3) := fx_dat dk_M_raise 29 rfl
theorem d_M_raise_59 : decode prog_15_method_8_code 59 = .ok (.lload_n 1, 1) := fx_dat dk_M_raise 30 rfl
theorem d_M_raise_60 : decode prog_15_method_8_code 60 = .ok (.lstore 6, 2) := fx_dat dk_M_raise 31 rfl
theorem d_M_raise_62 : decode prog_15_method_8_code 62 = .ok (.lconst 0, 1) := fx_dat dk_M_raise 32 rfl
theorem d_M_raise_63 : decode prog_15_method_8_code 63 = .ok (.lstore 8, 2) := fx_dat dk_M_raise 33 rfl
theorem d_M_raise_65 : decode prog_15_method_8_code 65 = .ok (.iconst 0, 1) := fx_dat dk_M_raise 34 rfl
theorem d_M_raise_66 : decode prog_15_method_8_code 66 = .ok (.istore 10, 2) := fx_dat dk_M_raise 35 rfl
theorem d_M_raise_68 : decode prog_15_method_8_code 68 = .ok (.iload 5, 2) := fx_dat dk_M_raise 36 rfl
theorem d_M_raise_70 : decode prog_15_method_8_code 70 = .ok (.iload 10, 2) := fx_dat dk_M_raise 37 rfl
theorem d_M_raise_72 : decode prog_15_method_8_code 72 = .ok (.iadd, 1) := fx_dat dk_M_raise 38 rfl
theorem d_M_raise_73 : decode prog_15_method_8_code 73 = .ok (.bipush 8, 2) := fx_dat dk_M_raise 39 rfl
theorem d_M_raise_75 : decode prog_15_method_8_code 75 = .ok (.if_icmp .ge 58, 3) := fx_dat dk_M_raise 40 rfl
theorem d_M_raise_78 : decode prog_15_method_8_code 78 = .ok (.aload_n 0, 1) := fx_dat dk_M_raise 41 rfl
theorem d_M_raise_79 : decode prog_15_method_8_code 79 = .ok (.getfield 74, 3) := fx_dat dk_M_raise 42 rfl
theorem d_M_raise_82 : decode prog_15_method_8_code 82 = .ok (.iload 5, 2) := fx_dat dk_M_raise 43 rfl
theorem d_M_raise_84 : decode prog_15_method_8_code 84 = .ok (.iload 10, 2) := fx_dat dk_M_raise 44 rfl
theorem d_M_raise_86 : decode prog_15_method_8_code 86 = .ok (.iadd, 1) := fx_dat dk_M_raise 45 rfl
theorem d_M_raise_87 : decode prog_15_method_8_code 87 = .ok (.laload, 1) := fx_dat dk_M_raise 46 rfl
theorem d_M_raise_88 : decode prog_15_method_8_code 88 = .ok (.lload 6, 2) := fx_dat dk_M_raise 47 rfl
theorem d_M_raise_90 : decode prog_15_method_8_code 90 = .ok (.aload_n 0, 1) := fx_dat dk_M_raise 48 rfl
theorem d_M_raise_91 : decode prog_15_method_8_code 91 = .ok (.getfield 71, 3) := fx_dat dk_M_raise 49 rfl
theorem d_M_raise_94 : decode prog_15_method_8_code 94 = .ok (.iload 10, 2) := fx_dat dk_M_raise 50 rfl
theorem d_M_raise_96 : decode prog_15_method_8_code 96 = .ok (.laload, 1) := fx_dat dk_M_raise 51 rfl
theorem d_M_raise_97 : decode prog_15_method_8_code 97 = .ok (.lmul, 1) := fx_dat dk_M_raise 52 rfl
theorem d_M_raise_98 : decode prog_15_method_8_code 98 = .ok (.ladd, 1) := fx_dat dk_M_raise 53 rfl
theorem d_M_raise_99 : decode prog_15_method_8_code 99 = .ok (.lload 8, 2) := fx_dat dk_M_raise 54 rfl
theorem d_M_raise_101 : decode prog_15_method_8_code 101 = .ok (.ladd, 1) := fx_dat dk_M_raise 55 rfl
theorem d_M_raise_102 : decode prog_15_method_8_code 102 = .ok (.lstore 11, 2) := fx_dat dk_M_raise 56 rfl
theorem d_M_raise_104 : decode prog_15_method_8_code 104 = .ok (.aload_n 0, 1) := fx_dat dk_M_raise 57 rfl
theorem d_M_raise_105 : decode prog_15_method_8_code 105 = .ok (.getfield 74, 3) := fx_dat dk_M_raise 58 rfl
theorem d_M_raise_108 : decode prog_15_method_8_code 108 = .ok (.iload 5, 2) := fx_dat dk_M_raise 59 rfl
theorem d_M_raise_110 : decode prog_15_method_8_code 110 = .ok (.iload 10, 2) := fx_dat dk_M_raise 60 rfl
theorem d_M_raise_112 : decode prog_15_method_8_code 112 = .ok (.iadd, 1) := fx_dat dk_M_raise 61 rfl
theorem d_M_raise_113 : decode prog_15_method_8_code 113 = .ok (.lload 11, 2) := fx_dat dk_M_raise 62 rfl
theorem d_M_raise_115 : decode prog_15_method_8_code 115 = .ok (.ldc2_w 102, 3) := fx_dat dk_M_raise 63 rfl
theorem d_M_raise_118 : decode prog_15_method_8_code 118 = .ok (.land, 1) := fx_dat dk_M_raise 64 rfl
theorem d_M_raise_119 : decode prog_15_method_8_code 119 = .ok (.lastore, 1) := fx_dat dk_M_raise 65 rfl
theorem d_M_raise_120 : decode prog_15_method_8_code 120 = .ok (.lload 11, 2) := fx_dat dk_M_raise 66 rfl
theorem d_M_raise_122 : decode prog_15_method_8_code 122 = .ok (.bipush 32, 2) := fx_dat dk_M_raise 67 rfl
theorem d_M_raise_124 : decode prog_15_method_8_code 124 = .ok (.lushr, 1) := fx_dat dk_M_raise 68 rfl
theorem d_M_raise_125 : decode prog_15_method_8_code 125 = .ok (.lstore 8, 2) := fx_dat dk_M_raise 69 rfl
theorem d_M_raise_127 : decode prog_15_method_8_code 127 = .ok (.iinc 10 1, 3) := fx_dat dk_M_raise 70 rfl
theorem d_M_raise_130 : decode prog_15_method_8_code 130 = .ok (.goto (-62), 3) := fx_dat dk_M_raise 71 rfl
theorem d_M_raise_133 : decode prog_15_method_8_code 133 = .ok (.iinc 5 1, 3) := fx_dat dk_M_raise 72 rfl
theorem d_M_raise_136 : decode prog_15_method_8_code 136 = .ok (.goto (-109), 3) := fx_dat dk_M_raise 73 rfl
theorem d_M_raise_139 : decode prog_15_method_8_code 139 = .ok (.iconst 0, 1) := fx_dat dk_M_raise 74 rfl
theorem d_M_raise_140 : decode prog_15_method_8_code 140 = .ok (.istore 5, 2) := fx_dat dk_M_raise 75 rfl
theorem d_M_raise_142 : decode prog_15_method_8_code 142 = .ok (.iload 5, 2) := fx_dat dk_M_raise 76 rfl
theorem d_M_raise_144 : decode prog_15_method_8_code 144 = .ok (.bipush 8, 2) := fx_dat dk_M_raise 77 rfl
theorem d_M_raise_146 : decode prog_15_method_8_code 146 = .ok (.if_icmp .ge 23, 3) := fx_dat dk_M_raise 78 rfl
theorem d_M_raise_149 : decode prog_15_method_8_code 149 = .ok (.aload_n 0, 1) := fx_dat dk_M_raise 79 rfl
theorem d_M_raise_150 : decode prog_15_method_8_code 150 = .ok (.getfield 71, 3) := fx_dat dk_M_raise 80 rfl
theorem d_M_raise_153 : decode prog_15_method_8_code 153 = .ok (.iload 5, 2) := fx_dat dk_M_raise 81 rfl
theorem d_M_raise_155 : decode prog_15_method_8_code 155 = .ok (.aload_n 0, 1) := fx_dat dk_M_raise 82 rfl
theorem d_M_raise_156 : decode prog_15_method_8_code 156 = .ok (.getfield 74, 3) := fx_dat dk_M_raise 83 rfl
theorem d_M_raise_159 : decode prog_15_method_8_code 159 = .ok (.iload 5, 2) := fx_dat dk_M_raise 84 rfl
theorem d_M_raise_161 : decode prog_15_method_8_code 161 = .ok (.laload, 1) := fx_dat dk_M_raise 85 rfl
theorem d_M_raise_162 : decode prog_15_method_8_code 162 = .ok (.lastore, 1) := fx_dat dk_M_raise 86 rfl
theorem d_M_raise_163 : decode prog_15_method_8_code 163 = .ok (.iinc 5 1, 3) := fx_dat dk_M_raise 87 rfl
theorem d_M_raise_166 : decode prog_15_method_8_code 166 = .ok (.goto (-24), 3) := fx_dat dk_M_raise 88 rfl
theorem d_M_raise_169 : decode prog_15_method_8_code 169 = .ok (.return_, 1) := fx_dat dk_M_raise 89 rfl
def m_M_raise_142_b (Q : AH → Prop) (X142 : Int32 × AH → Prop) (r0 : Nat) (x5 : Int32) (h : AH) : Prop := ((8 : Int32) ≤ x5 → Q h) ∧ (¬ (8 : Int32) ≤ x5 → hp_k h r0 = 13 ∧ ∃ b1, hp_R h r0 54 = some b1 ∧ ∃ b2, hp_R h r0 55 = some b2 ∧ lk (hp_k h b2) ∧ vp_in x5 (hp_n h b2) ∧ hp_k h b1 = 103 ∧ vp_in x5 (hp_n h b1) ∧ ∀ h1 : AH, h1 = up_L h b1 (x5).toNatClampNeg (hp_L h b2 x5.toNatClampNeg) → ∀ v1 : Int32, v1 = (x5 + (1 : Int32)) → X142 (v1, h1))
def m_M_raise_142 (Q : AH → Prop) (r0 : Nat) (x5 : Int32) (h : AH) : Prop := fx_loop (fun (X142 : Int32 × AH → Prop) (st : Int32 × AH) => m_M_raise_142_b Q X142 r0 st.1 st.2) (x5, h)
def m_M_raise_68_b (Q : AH → Prop) (X27 : Int32 × AH → Prop) (X68 : Int64 × Int32 × AH → Prop) (r0 : Nat) (w1 : Int64) (w3 : Int64) (x5 : Int32) (w6 : Int64) (w8 : Int64) (x10 : Int32) (h : AH) : Prop := ((8 : Int32) ≤ (x5 + x10) → ∀ v1 : Int32, v1 = (x5 + (1 : Int32)) → X27 (v1, h)) ∧ (¬ (8 : Int32) ≤ (x5 + x10) → hp_k h r0 = 13 ∧ ∃ b1, hp_R h r0 55 = some b1 ∧ lk (hp_k h b1) ∧ vp_in (x5 + x10) (hp_n h b1) ∧ ∃ b2, hp_R h r0 54 = some b2 ∧ lk (hp_k h b2) ∧ vp_in x10 (hp_n h b2) ∧ ∀ u1 : Int64, u1 = (((hp_L h b1 ((x5 + x10)).toNatClampNeg) + (w6 * (hp_L h b2 x10.toNatClampNeg))) + w8) → hp_k h b1 = 103 ∧ vp_in (x5 + x10) (hp_n h b1) ∧ ∀ h1 : AH, h1 = up_L h b1 ((x5 + x10)).toNatClampNeg (u1 &&& (4294967295 : Int64)) → ∀ u2 : Int64, u2 = (sh_lu u1 (32 : Int32)) → ∀ v2 : Int32, v2 = (x10 + (1 : Int32)) → X68 (u2, v2, h1))
def m_M_raise_68 (Q : AH → Prop) (X27 : Int32 × AH → Prop) (r0 : Nat) (w1 : Int64) (w3 : Int64) (x5 : Int32) (w6 : Int64) (w8 : Int64) (x10 : Int32) (h : AH) : Prop := fx_loop (fun (X68 : Int64 × Int32 × AH → Prop) (st : Int64 × Int32 × AH) => m_M_raise_68_b Q X27 X68 r0 w1 w3 x5 w6 st.1 st.2.1 st.2.2) (w8, x10, h)
def m_M_raise_60 (Q : AH → Prop) (X27 : Int32 × AH → Prop) (r0 : Nat) (w1 : Int64) (w3 : Int64) (x5 : Int32) (sw0 : Int64) (h : AH) : Prop := m_M_raise_68 Q X27 r0 w1 w3 x5 sw0 (0 : Int64) (0 : Int32) h
def m_M_raise_27_b (Q : AH → Prop) (X27 : Int32 × AH → Prop) (r0 : Nat) (w1 : Int64) (w3 : Int64) (x5 : Int32) (h : AH) : Prop := ((3 : Int32) ≤ x5 → m_M_raise_142 Q r0 (0 : Int32) h) ∧ (¬ (3 : Int32) ≤ x5 → (¬ x5 = 0 → (¬ x5 = (1 : Int32) → m_M_raise_60 Q X27 r0 w1 w3 x5 w1 h) ∧ (x5 = (1 : Int32) → m_M_raise_60 Q X27 r0 w1 w3 x5 (sh_lu w3 (32 : Int32)) h)) ∧ (x5 = 0 → m_M_raise_60 Q X27 r0 w1 w3 x5 (w3 &&& (4294967295 : Int64)) h))
def m_M_raise_27 (Q : AH → Prop) (r0 : Nat) (w1 : Int64) (w3 : Int64) (x5 : Int32) (h : AH) : Prop := fx_loop (fun (X27 : Int32 × AH → Prop) (st : Int32 × AH) => m_M_raise_27_b Q X27 r0 w1 w3 st.1 st.2) (x5, h)
def m_M_raise_3_b (Q : AH → Prop) (X3 : Int32 × AH → Prop) (r0 : Nat) (w1 : Int64) (w3 : Int64) (x5 : Int32) (h : AH) : Prop := ((8 : Int32) ≤ x5 → m_M_raise_27 Q r0 w1 w3 (0 : Int32) h) ∧ (¬ (8 : Int32) ≤ x5 → hp_k h r0 = 13 ∧ ∃ b1, hp_R h r0 55 = some b1 ∧ hp_k h b1 = 103 ∧ vp_in x5 (hp_n h b1) ∧ ∀ h1 : AH, h1 = up_L h b1 (x5).toNatClampNeg (0 : Int64) → ∀ v1 : Int32, v1 = (x5 + (1 : Int32)) → X3 (v1, h1))
def m_M_raise_3 (Q : AH → Prop) (r0 : Nat) (w1 : Int64) (w3 : Int64) (x5 : Int32) (h : AH) : Prop := fx_loop (fun (X3 : Int32 × AH → Prop) (st : Int32 × AH) => m_M_raise_3_b Q X3 r0 w1 w3 st.1 st.2) (x5, h)
def m_M_raise (Q : AH → Prop) (r0 : Nat) (w1 : Int64) (w3 : Int64) (h : AH) : Prop := m_M_raise_3 Q r0 w1 w3 (0 : Int32) h
theorem b_M_raise_142 {p : Program} {l : Launch} {e : Env} {R : Room} {s : State} {m : MethodId} {args : Array Value} {below : List Frame} {meth : Method} {c : Code} {D : DD} {h0 : AH} {Q : AH → Prop} (C : fx_CX D y_M_raise prog_15_method_8_code 13 0 0 (none) [] h0 p R s m meth c) (hl : l.flags = flags0) (r0 : Nat) (x5 : Int32) (h : AH) (hw : m_M_raise_142 Q r0 x5 h) : ∀ (ls : Array Slot) (H : Heap) (locs : List Loc) (cells slots : Nat), lv_has ls 13 [(0, .ref r0), (5, .int x5)] → fx_F D h0 h H locs cells slots → W p l e R s m args below meth c H locs cells slots (fx_Z D below s h0 (fx_oV Q fx_no)) (F0 m 142 ls []) := by
  refine fx_loop.use hw (fun st => ∀ (ls : Array Slot) (H : Heap) (locs : List Loc) (cells slots : Nat), lv_has ls 13 [(0, .ref r0), (5, .int st.1)] → fx_F D h0 st.2 H locs cells slots → W p l e R s m args below meth c H locs cells slots (fx_Z D below s h0 (fx_oV Q fx_no)) (F0 m 142 ls [])) (fun X142 st hX142 hw => ?_)
  obtain ⟨x5, h⟩ := st
  replace hw : m_M_raise_142_b Q X142 r0 x5 h := hw
  unfold m_M_raise_142_b at hw
  intro ls H locs cells slots hv F
  refine lv_iload C.ex C.by d_M_raise_142 (lv_at hv 1 rfl) ?_
  refine lv_bipush (v := (8 : Int32)) C.ex C.by d_M_raise_144 (by decide) ?_
  refine lv_icmp_ge C.ex C.by d_M_raise_146 rfl (fun hc => ?_) (fun hc => ?_)
  · replace hw := hw.1 hc
    exact fx_vret C F d_M_raise_169 (Or.inl ⟨rfl, hw⟩)
  · replace hw := hw.2 hc
    refine lv_aload_n C.ex C.by d_M_raise_149 rfl (lv_at hv 0 rfl) ?_
    obtain ⟨hk1, hw⟩ := hw
    obtain ⟨b1, hb1, hw⟩ := hw
    refine fx_getR C F lf_M_71 hk1 rfl hb1 d_M_raise_150 ?_
    refine lv_iload C.ex C.by d_M_raise_153 (lv_at hv 1 rfl) ?_
    refine lv_aload_n C.ex C.by d_M_raise_155 rfl (lv_at hv 0 rfl) ?_
    obtain ⟨b2, hb2, hw⟩ := hw
    refine fx_getR C F lf_M_74 hk1 rfl hb2 d_M_raise_156 ?_
    refine lv_iload C.ex C.by d_M_raise_159 (lv_at hv 1 rfl) ?_
    obtain ⟨hk2, hw⟩ := hw
    obtain ⟨hi1, hw⟩ := hw
    refine fx_lald C F hk2 hi1 d_M_raise_161 ?_
    obtain ⟨hk3, hw⟩ := hw
    obtain ⟨hi2, hw⟩ := hw
    let h1 : AH := up_L h b1 (x5).toNatClampNeg (hp_L h b2 x5.toNatClampNeg)
    replace hw := hw h1 rfl
    refine fx_last C F hk3 hi2 d_M_raise_162 (fun H locs (F : fx_F D h0 h1 H locs _ _) => ?_)
    let v1 : Int32 := (x5 + (1 : Int32))
    replace hw := hw v1 rfl
    refine lv_iinc (v := v1) (k := 1) (lv' := [(5, .int v1), (0, .ref r0)]) C.ex C.by d_M_raise_163 hv rfl (congrArg (fun z => x5 + z) (by decide)) (by decide) rfl (fun ls hv => ?_)
    refine lv_goto C.ex C.by d_M_raise_166 rfl ?_
    exact hX142 _ hw _ _ _ _ _ (lv_sub hv [1, 0] rfl) F
theorem b_M_raise_68 {p : Program} {l : Launch} {e : Env} {R : Room} {s : State} {m : MethodId} {args : Array Value} {below : List Frame} {meth : Method} {c : Code} {D : DD} {h0 : AH} {Q : AH → Prop} {X27 : Int32 × AH → Prop} (C : fx_CX D y_M_raise prog_15_method_8_code 13 0 0 (none) [] h0 p R s m meth c) (hl : l.flags = flags0) (r0 : Nat) (w1 : Int64) (w3 : Int64) (x5 : Int32) (w6 : Int64) (w8 : Int64) (x10 : Int32) (h : AH) (hX27 : ∀ st, X27 st → ∀ (ls : Array Slot) (H : Heap) (locs : List Loc) (cells slots : Nat), lv_has ls 13 [(0, .ref r0), (1, .long w1), (3, .long w3), (5, .int st.1)] → fx_F D h0 st.2 H locs cells slots → W p l e R s m args below meth c H locs cells slots (fx_Z D below s h0 (fx_oV Q fx_no)) (F0 m 27 ls [])) (hw : m_M_raise_68 Q X27 r0 w1 w3 x5 w6 w8 x10 h) : ∀ (ls : Array Slot) (H : Heap) (locs : List Loc) (cells slots : Nat), lv_has ls 13 [(0, .ref r0), (1, .long w1), (3, .long w3), (5, .int x5), (6, .long w6), (8, .long w8), (10, .int x10)] → fx_F D h0 h H locs cells slots → W p l e R s m args below meth c H locs cells slots (fx_Z D below s h0 (fx_oV Q fx_no)) (F0 m 68 ls []) := by
  refine fx_loop.use hw (fun st => ∀ (ls : Array Slot) (H : Heap) (locs : List Loc) (cells slots : Nat), lv_has ls 13 [(0, .ref r0), (1, .long w1), (3, .long w3), (5, .int x5), (6, .long w6), (8, .long st.1), (10, .int st.2.1)] → fx_F D h0 st.2.2 H locs cells slots → W p l e R s m args below meth c H locs cells slots (fx_Z D below s h0 (fx_oV Q fx_no)) (F0 m 68 ls [])) (fun X68 st hX68 hw => ?_)
  obtain ⟨w8, x10, h⟩ := st
  replace hw : m_M_raise_68_b Q X27 X68 r0 w1 w3 x5 w6 w8 x10 h := hw
  unfold m_M_raise_68_b at hw
  intro ls H locs cells slots hv F
  refine lv_iload C.ex C.by d_M_raise_68 (lv_at hv 3 rfl) ?_
  refine lv_iload C.ex C.by d_M_raise_70 (lv_at hv 6 rfl) ?_
  refine lv_iadd C.ex C.by d_M_raise_72 ?_
  refine lv_bipush (v := (8 : Int32)) C.ex C.by d_M_raise_73 (by decide) ?_
  refine lv_icmp_ge C.ex C.by d_M_raise_75 rfl (fun hc => ?_) (fun hc => ?_)
  · replace hw := hw.1 hc
    let v1 : Int32 := (x5 + (1 : Int32))
    replace hw := hw v1 rfl
    refine lv_iinc (v := v1) (k := 3) (lv' := [(5, .int v1), (0, .ref r0), (1, .long w1), (3, .long w3), (6, .long w6), (8, .long w8), (10, .int x10)]) C.ex C.by d_M_raise_133 hv rfl (congrArg (fun z => x5 + z) (by decide)) (by decide) rfl (fun ls hv => ?_)
    refine lv_goto C.ex C.by d_M_raise_136 rfl ?_
    exact hX27 _ hw _ _ _ _ _ (lv_sub hv [1, 2, 3, 0] rfl) F
  · replace hw := hw.2 hc
    refine lv_aload_n C.ex C.by d_M_raise_78 rfl (lv_at hv 0 rfl) ?_
    obtain ⟨hk1, hw⟩ := hw
    obtain ⟨b1, hb1, hw⟩ := hw
    refine fx_getR C F lf_M_74 hk1 rfl hb1 d_M_raise_79 ?_
    refine lv_iload C.ex C.by d_M_raise_82 (lv_at hv 3 rfl) ?_
    refine lv_iload C.ex C.by d_M_raise_84 (lv_at hv 6 rfl) ?_
    refine lv_iadd C.ex C.by d_M_raise_86 ?_
    obtain ⟨hk2, hw⟩ := hw
    obtain ⟨hi1, hw⟩ := hw
    refine fx_lald C F hk2 hi1 d_M_raise_87 ?_
    refine lv_lload C.ex C.by d_M_raise_88 (lv_at hv 4 rfl) ?_
    refine lv_aload_n C.ex C.by d_M_raise_90 rfl (lv_at hv 0 rfl) ?_
    obtain ⟨b2, hb2, hw⟩ := hw
    refine fx_getR C F lf_M_71 hk1 rfl hb2 d_M_raise_91 ?_
    refine lv_iload C.ex C.by d_M_raise_94 (lv_at hv 6 rfl) ?_
    obtain ⟨hk3, hw⟩ := hw
    obtain ⟨hi2, hw⟩ := hw
    refine fx_lald C F hk3 hi2 d_M_raise_96 ?_
    refine lv_lmul C.ex C.by d_M_raise_97 ?_
    refine lv_ladd C.ex C.by d_M_raise_98 ?_
    refine lv_lload C.ex C.by d_M_raise_99 (lv_at hv 5 rfl) ?_
    refine lv_ladd C.ex C.by d_M_raise_101 ?_
    let u1 : Int64 := (((hp_L h b1 ((x5 + x10)).toNatClampNeg) + (w6 * (hp_L h b2 x10.toNatClampNeg))) + w8)
    replace hw := hw u1 rfl
    refine lv_lstore (lv' := [(11, .long u1), (0, .ref r0), (1, .long w1), (3, .long w3), (5, .int x5), (6, .long w6), (8, .long w8), (10, .int x10)]) C.ex C.by d_M_raise_102 hv (by decide) rfl (fun ls hv => ?_)
    refine lv_aload_n C.ex C.by d_M_raise_104 rfl (lv_at hv 1 rfl) ?_
    refine fx_getR C F lf_M_74 hk1 rfl hb1 d_M_raise_105 ?_
    refine lv_iload C.ex C.by d_M_raise_108 (lv_at hv 4 rfl) ?_
    refine lv_iload C.ex C.by d_M_raise_110 (lv_at hv 7 rfl) ?_
    refine lv_iadd C.ex C.by d_M_raise_112 ?_
    refine lv_lload C.ex C.by d_M_raise_113 (lv_at hv 0 rfl) ?_
    refine lv_ldc2 (v := (4294967295 : Int64)) C.ex C.by C.ow (C.tw.at (fx_m6 (List.mem_of_getElem? (i := 5) rfl)) rfl rfl) d_M_raise_115 ?_
    refine lv_land C.ex C.by d_M_raise_118 ?_
    obtain ⟨hk4, hw⟩ := hw
    obtain ⟨hi3, hw⟩ := hw
    let h1 : AH := up_L h b1 ((x5 + x10)).toNatClampNeg (u1 &&& (4294967295 : Int64))
    replace hw := hw h1 rfl
    refine fx_last C F hk4 hi3 d_M_raise_119 (fun H locs (F : fx_F D h0 h1 H locs _ _) => ?_)
    refine lv_lload C.ex C.by d_M_raise_120 (lv_at hv 0 rfl) ?_
    refine lv_bipush (v := (32 : Int32)) C.ex C.by d_M_raise_122 (by decide) ?_
    refine lv_lushr (v := (sh_lu u1 (32 : Int32))) C.ex C.by d_M_raise_124 rfl ?_
    let u2 : Int64 := (sh_lu u1 (32 : Int32))
    replace hw := hw u2 rfl
    refine lv_lstore (lv' := [(8, .long u2), (11, .long u1), (0, .ref r0), (1, .long w1), (3, .long w3), (5, .int x5), (6, .long w6), (10, .int x10)]) C.ex C.by d_M_raise_125 hv (by decide) rfl (fun ls hv => ?_)
    let v2 : Int32 := (x10 + (1 : Int32))
    replace hw := hw v2 rfl
    refine lv_iinc (v := v2) (k := 7) (lv' := [(10, .int v2), (8, .long u2), (11, .long u1), (0, .ref r0), (1, .long w1), (3, .long w3), (5, .int x5), (6, .long w6)]) C.ex C.by d_M_raise_127 hv rfl (congrArg (fun z => x10 + z) (by decide)) (by decide) rfl (fun ls hv => ?_)
    refine lv_goto C.ex C.by d_M_raise_130 rfl ?_
    exact hX68 _ hw _ _ _ _ _ (lv_sub hv [3, 4, 5, 6, 7, 1, 0] rfl) F
theorem b_M_raise_60 {p : Program} {l : Launch} {e : Env} {R : Room} {s : State} {m : MethodId} {args : Array Value} {below : List Frame} {meth : Method} {c : Code} {D : DD} {h0 : AH} {Q : AH → Prop} {X27 : Int32 × AH → Prop} (C : fx_CX D y_M_raise prog_15_method_8_code 13 0 0 (none) [] h0 p R s m meth c) (hl : l.flags = flags0) (r0 : Nat) (w1 : Int64) (w3 : Int64) (x5 : Int32) (sw0 : Int64) (h : AH) (hX27 : ∀ st, X27 st → ∀ (ls : Array Slot) (H : Heap) (locs : List Loc) (cells slots : Nat), lv_has ls 13 [(0, .ref r0), (1, .long w1), (3, .long w3), (5, .int st.1)] → fx_F D h0 st.2 H locs cells slots → W p l e R s m args below meth c H locs cells slots (fx_Z D below s h0 (fx_oV Q fx_no)) (F0 m 27 ls [])) (hw : m_M_raise_60 Q X27 r0 w1 w3 x5 sw0 h) : ∀ (ls : Array Slot) (H : Heap) (locs : List Loc) (cells slots : Nat), lv_has ls 13 [(0, .ref r0), (1, .long w1), (3, .long w3), (5, .int x5)] → fx_F D h0 h H locs cells slots → W p l e R s m args below meth c H locs cells slots (fx_Z D below s h0 (fx_oV Q fx_no)) (F0 m 60 ls [.long sw0]) := by
  unfold m_M_raise_60 at hw
  intro ls H locs cells slots hv F
  refine lv_lstore (lv' := [(6, .long sw0), (0, .ref r0), (1, .long w1), (3, .long w3), (5, .int x5)]) C.ex C.by d_M_raise_60 hv (by decide) rfl (fun ls hv => ?_)
  refine lv_lconst (v := (0 : Int64)) C.ex C.by d_M_raise_62 (by decide) ?_
  refine lv_lstore (lv' := [(8, .long (0 : Int64)), (6, .long sw0), (0, .ref r0), (1, .long w1), (3, .long w3), (5, .int x5)]) C.ex C.by d_M_raise_63 hv (by decide) rfl (fun ls hv => ?_)
  refine lv_iconst (v := (0 : Int32)) C.ex C.by d_M_raise_65 (by decide) ?_
  refine lv_istore (lv' := [(10, .int (0 : Int32)), (8, .long (0 : Int64)), (6, .long sw0), (0, .ref r0), (1, .long w1), (3, .long w3), (5, .int x5)]) C.ex C.by d_M_raise_66 hv (by decide) rfl (fun ls hv => ?_)
  exact b_M_raise_68 C hl _ _ _ _ _ _ _ _ hX27 hw _ _ _ _ _ (lv_sub hv [3, 4, 5, 6, 2, 1, 0] rfl) F
theorem b_M_raise_27 {p : Program} {l : Launch} {e : Env} {R : Room} {s : State} {m : MethodId} {args : Array Value} {below : List Frame} {meth : Method} {c : Code} {D : DD} {h0 : AH} {Q : AH → Prop} (C : fx_CX D y_M_raise prog_15_method_8_code 13 0 0 (none) [] h0 p R s m meth c) (hl : l.flags = flags0) (r0 : Nat) (w1 : Int64) (w3 : Int64) (x5 : Int32) (h : AH) (hw : m_M_raise_27 Q r0 w1 w3 x5 h) : ∀ (ls : Array Slot) (H : Heap) (locs : List Loc) (cells slots : Nat), lv_has ls 13 [(0, .ref r0), (1, .long w1), (3, .long w3), (5, .int x5)] → fx_F D h0 h H locs cells slots → W p l e R s m args below meth c H locs cells slots (fx_Z D below s h0 (fx_oV Q fx_no)) (F0 m 27 ls []) := by
  refine fx_loop.use hw (fun st => ∀ (ls : Array Slot) (H : Heap) (locs : List Loc) (cells slots : Nat), lv_has ls 13 [(0, .ref r0), (1, .long w1), (3, .long w3), (5, .int st.1)] → fx_F D h0 st.2 H locs cells slots → W p l e R s m args below meth c H locs cells slots (fx_Z D below s h0 (fx_oV Q fx_no)) (F0 m 27 ls [])) (fun X27 st hX27 hw => ?_)
  obtain ⟨x5, h⟩ := st
  replace hw : m_M_raise_27_b Q X27 r0 w1 w3 x5 h := hw
  unfold m_M_raise_27_b at hw
  intro ls H locs cells slots hv F
  refine lv_iload C.ex C.by d_M_raise_27 (lv_at hv 3 rfl) ?_
  refine lv_iconst (v := (3 : Int32)) C.ex C.by d_M_raise_29 (by decide) ?_
  refine lv_icmp_ge C.ex C.by d_M_raise_30 rfl (fun hc => ?_) (fun hc => ?_)
  · replace hw := hw.1 hc
    refine lv_iconst (v := (0 : Int32)) C.ex C.by d_M_raise_139 (by decide) ?_
    refine lv_istore (lv' := [(5, .int (0 : Int32)), (0, .ref r0), (1, .long w1), (3, .long w3)]) C.ex C.by d_M_raise_140 hv (by decide) rfl (fun ls hv => ?_)
    exact b_M_raise_142 C hl _ _ _ hw _ _ _ _ _ (lv_sub hv [1, 0] rfl) F
  · replace hw := hw.2 hc
    refine lv_iload C.ex C.by d_M_raise_33 (lv_at hv 3 rfl) ?_
    refine lv_if_ne C.ex C.by d_M_raise_35 rfl (fun hc => ?_) (fun hc => ?_)
    · replace hw := hw.1 hc
      refine lv_iload C.ex C.by d_M_raise_46 (lv_at hv 3 rfl) ?_
      refine lv_iconst (v := (1 : Int32)) C.ex C.by d_M_raise_48 (by decide) ?_
      refine lv_icmp_ne C.ex C.by d_M_raise_49 rfl (fun hc => ?_) (fun hc => ?_)
      · replace hw := hw.1 hc
        refine lv_lload_n C.ex C.by d_M_raise_59 rfl (lv_at hv 1 rfl) ?_
        exact b_M_raise_60 C hl _ _ _ _ _ _ hX27 hw _ _ _ _ _ hv F
      · replace hw := hw.2 hc
        refine lv_lload_n C.ex C.by d_M_raise_52 rfl (lv_at hv 2 rfl) ?_
        refine lv_bipush (v := (32 : Int32)) C.ex C.by d_M_raise_53 (by decide) ?_
        refine lv_lushr (v := (sh_lu w3 (32 : Int32))) C.ex C.by d_M_raise_55 rfl ?_
        refine lv_goto C.ex C.by d_M_raise_56 rfl ?_
        exact b_M_raise_60 C hl _ _ _ _ _ _ hX27 hw _ _ _ _ _ hv F
    · replace hw := hw.2 hc
      refine lv_lload_n C.ex C.by d_M_raise_38 rfl (lv_at hv 2 rfl) ?_
      refine lv_ldc2 (v := (4294967295 : Int64)) C.ex C.by C.ow (C.tw.at (fx_m6 (List.mem_of_getElem? (i := 5) rfl)) rfl rfl) d_M_raise_39 ?_
      refine lv_land C.ex C.by d_M_raise_42 ?_
      refine lv_goto C.ex C.by d_M_raise_43 rfl ?_
      exact b_M_raise_60 C hl _ _ _ _ _ _ hX27 hw _ _ _ _ _ hv F
theorem b_M_raise_3 {p : Program} {l : Launch} {e : Env} {R : Room} {s : State} {m : MethodId} {args : Array Value} {below : List Frame} {meth : Method} {c : Code} {D : DD} {h0 : AH} {Q : AH → Prop} (C : fx_CX D y_M_raise prog_15_method_8_code 13 0 0 (none) [] h0 p R s m meth c) (hl : l.flags = flags0) (r0 : Nat) (w1 : Int64) (w3 : Int64) (x5 : Int32) (h : AH) (hw : m_M_raise_3 Q r0 w1 w3 x5 h) : ∀ (ls : Array Slot) (H : Heap) (locs : List Loc) (cells slots : Nat), lv_has ls 13 [(0, .ref r0), (1, .long w1), (3, .long w3), (5, .int x5)] → fx_F D h0 h H locs cells slots → W p l e R s m args below meth c H locs cells slots (fx_Z D below s h0 (fx_oV Q fx_no)) (F0 m 3 ls []) := by
  refine fx_loop.use hw (fun st => ∀ (ls : Array Slot) (H : Heap) (locs : List Loc) (cells slots : Nat), lv_has ls 13 [(0, .ref r0), (1, .long w1), (3, .long w3), (5, .int st.1)] → fx_F D h0 st.2 H locs cells slots → W p l e R s m args below meth c H locs cells slots (fx_Z D below s h0 (fx_oV Q fx_no)) (F0 m 3 ls [])) (fun X3 st hX3 hw => ?_)
  obtain ⟨x5, h⟩ := st
  replace hw : m_M_raise_3_b Q X3 r0 w1 w3 x5 h := hw
  unfold m_M_raise_3_b at hw
  intro ls H locs cells slots hv F
  refine lv_iload C.ex C.by d_M_raise_3 (lv_at hv 3 rfl) ?_
  refine lv_bipush (v := (8 : Int32)) C.ex C.by d_M_raise_5 (by decide) ?_
  refine lv_icmp_ge C.ex C.by d_M_raise_7 rfl (fun hc => ?_) (fun hc => ?_)
  · replace hw := hw.1 hc
    refine lv_iconst (v := (0 : Int32)) C.ex C.by d_M_raise_24 (by decide) ?_
    refine lv_istore (lv' := [(5, .int (0 : Int32)), (0, .ref r0), (1, .long w1), (3, .long w3)]) C.ex C.by d_M_raise_25 hv (by decide) rfl (fun ls hv => ?_)
    exact b_M_raise_27 C hl _ _ _ _ _ hw _ _ _ _ _ (lv_sub hv [1, 2, 3, 0] rfl) F
  · replace hw := hw.2 hc
    refine lv_aload_n C.ex C.by d_M_raise_10 rfl (lv_at hv 0 rfl) ?_
    obtain ⟨hk1, hw⟩ := hw
    obtain ⟨b1, hb1, hw⟩ := hw
    refine fx_getR C F lf_M_74 hk1 rfl hb1 d_M_raise_11 ?_
    refine lv_iload C.ex C.by d_M_raise_14 (lv_at hv 3 rfl) ?_
    refine lv_lconst (v := (0 : Int64)) C.ex C.by d_M_raise_16 (by decide) ?_
    obtain ⟨hk2, hw⟩ := hw
    obtain ⟨hi1, hw⟩ := hw
    let h1 : AH := up_L h b1 (x5).toNatClampNeg (0 : Int64)
    replace hw := hw h1 rfl
    refine fx_last C F hk2 hi1 d_M_raise_17 (fun H locs (F : fx_F D h0 h1 H locs _ _) => ?_)
    let v1 : Int32 := (x5 + (1 : Int32))
    replace hw := hw v1 rfl
    refine lv_iinc (v := v1) (k := 3) (lv' := [(5, .int v1), (0, .ref r0), (1, .long w1), (3, .long w3)]) C.ex C.by d_M_raise_18 hv rfl (congrArg (fun z => x5 + z) (by decide)) (by decide) rfl (fun ls hv => ?_)
    refine lv_goto C.ex C.by d_M_raise_21 rfl ?_
    exact hX3 _ hw _ _ _ _ _ (lv_sub hv [1, 2, 3, 0] rfl) F
theorem b_M_raise_0 {p : Program} {l : Launch} {e : Env} {R : Room} {s : State} {m : MethodId} {args : Array Value} {below : List Frame} {meth : Method} {c : Code} {D : DD} {h0 : AH} {Q : AH → Prop} (C : fx_CX D y_M_raise prog_15_method_8_code 13 0 0 (none) [] h0 p R s m meth c) (hl : l.flags = flags0) (r0 : Nat) (w1 : Int64) (w3 : Int64) (h : AH) (hw : m_M_raise Q r0 w1 w3 h) : ∀ (ls : Array Slot) (H : Heap) (locs : List Loc) (cells slots : Nat), lv_has ls 13 [(0, .ref r0), (1, .long w1), (3, .long w3)] → fx_F D h0 h H locs cells slots → W p l e R s m args below meth c H locs cells slots (fx_Z D below s h0 (fx_oV Q fx_no)) (F0 m 0 ls []) := by
  unfold m_M_raise at hw
  intro ls H locs cells slots hv F
  refine lv_iconst (v := (0 : Int32)) C.ex C.by d_M_raise_0 (by decide) ?_
  refine lv_istore (lv' := [(5, .int (0 : Int32)), (0, .ref r0), (1, .long w1), (3, .long w3)]) C.ex C.by d_M_raise_1 hv (by decide) rfl (fun ls hv => ?_)
  exact b_M_raise_3 C hl _ _ _ _ _ hw _ _ _ _ _ (lv_sub hv [1, 2, 3, 0] rfl) F
theorem hm_M_raise : fx_hd y_M_raise prog_15_method_8_code 13 (none) [] ∈ tables_1 := (fx_m6 (List.mem_of_getElem? (i := 4) rfl))
theorem hi_M_raise : Cond.initialized y_M_raise.cls ∈ tables_1 := (fx_m1 (List.mem_of_getElem? (i := 15) rfl))
theorem c_M_raise {l : Launch} (hl : l.flags = flags0) {D : DD} {Q : AH → Prop} {r0 : Nat} {w1 : Int64} {w3 : Int64} {h : AH} (hw : m_M_raise Q r0 w1 w3 h) : fx_Mt l D y_M_raise (fx_hd y_M_raise prog_15_method_8_code 13 (none) []) 0 0 [.ref r0, .long w1, .long w3] h (fx_oV Q fx_no) := by
  refine fx_ofW (plainFor_of_name (by decide)) (fun p e s m below meth c C F => ?_)
  have hv := lv_entry ([.ref r0, .long w1, .long w3]) (n := 13) (Nat.le_of_ble_eq_true rfl)
  rw [lg_entry_eq]
  generalize (lg_sl ([.ref r0, .long w1, .long w3]) ++ List.replicate (13 - (lg_sl ([.ref r0, .long w1, .long w3])).length) Slot.unset).toArray = ls at hv ⊢
  have hv : lv_has ls 13 [(0, .ref r0), (1, .long w1), (3, .long w3)] := hv
  exact b_M_raise_0 C hl _ _ _ _ hw _ _ _ _ _ hv F
