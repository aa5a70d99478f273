set_option maxRecDepth 10000
/-! ChainJudgeModel.keyed([BI[BII)V: frames 3, words 58 -/
abbrev y_M_keyed : MethodName := ⟨"ChainJudgeModel", "keyed", "([BI[BII)V"⟩
theorem lm_M_117 : Cond.methodLink "ChainJudgeModel" 117 y_M_hash ∈ tables_1 ∨ ∃ host, Cond.methodLinkNest "ChainJudgeModel" 117 y_M_hash host ∈ tables_1 := Or.inl (fx_m7 (List.mem_of_getElem? (i := 130) rfl))
section
variable {p : Program} {l : Launch} {e : Env} {R : Room} {s : State} {m : MethodId} {args : Array Value} {below : List Frame} {meth : Method} {c : Code} {H : Heap} {locs : List Loc} {cells slots : Nat}
variable {D : DD} {y : MethodName} {cc : ByteArray} {nL kf kw : Nat} {ret : Option FieldType} {hh : List (Nat × Nat × Nat × Nat)} {h0 h : AH} {pc : Nat} {ls : Array Slot} {rest : List Value} {b idx : Nat}
theorem iv_M_hash {r1 : Nat} {x2 : Int32} (C : fx_CX D y cc nL kf kw ret hh h0 p R s m meth c) (F : fx_F D h0 h H locs cells slots) (hw1 : Cond.methodLink y.cls idx y_M_hash ∈ tables_1 ∨ ∃ host, Cond.methodLinkNest y.cls idx y_M_hash host ∈ tables_1) (hk : hp_k h b = 13) (hd : decode cc pc = .ok (.invokevirtual idx, 3)) : fx_IV p l e R s m args below meth c H locs cells slots (F0 m pc ls (.int x2 :: .ref r1 :: .ref b :: rest)) rest y_M_hash [.ref b, .ref r1, .int x2] 3 := fun T hT X => fx_invV (As := [.ref r1, .int x2]) (Cn := "ChainJudgeModel") C X hw1 (fx_m7 (List.mem_of_getElem? (i := 132) rfl)) (fx_selP C ⟨by decide, by decide⟩ (fx_m5 (List.mem_of_getElem? (i := 217) rfl)) (fx_m7 (List.mem_of_getElem? (i := 131) rfl)) (fx_m7 (List.mem_of_getElem? (i := 132) rfl))) hm_M_hash ⟨by decide, by decide⟩ (by rw [hT]; exact fx_clsO (ci := 12) (r := ("ChainJudgeModel", fx_T12, 57)) C F rfl (by decide) hk) rfl (n := 2) (by decide +kernel) rfl rfl hd
end
def dl_M_keyed : List (Nat × Instr × Nat) := [(0, .iconst 0, 1), (1, .istore 6, 2), (3, .iload 6, 2), (5, .bipush 64, 2), (7, .if_icmp .ge 37, 3), (10, .aload_n 0, 1), (11, .getfield 52, 3), (14, .iload 6, 2), (16, .iload 6, 2), (18, .bipush 32, 2), (20, .if_icmp .ge 12, 3), (23, .aload_n 1, 1), (24, .iload_n 2, 1), (25, .iload 6, 2), (27, .iadd, 1), (28, .baload, 1), (29, .goto 4, 3), (32, .iconst 0, 1), (33, .bipush 54, 2), (35, .ixor, 1), (36, .i2b, 1), (37, .bastore, 1), (38, .iinc 6 1, 3), (41, .goto (-38), 3), (44, .iconst 0, 1), (45, .istore 6, 2), (47, .iload 6, 2), (49, .iload 5, 2), (51, .if_icmp .ge 26, 3), (54, .aload_n 0, 1), (55, .getfield 52, 3), (58, .bipush 64, 2), (60, .iload 6, 2), (62, .iadd, 1), (63, .aload_n 3, 1), (64, .iload 4, 2), (66, .iload 6, 2), (68, .iadd, 1), (69, .baload, 1), (70, .bastore, 1), (71, .iinc 6 1, 3), (74, .goto (-27), 3), (77, .aload_n 0, 1), (78, .aload_n 0, 1), (79, .getfield 52, 3), (82, .bipush 64, 2), (84, .iload 5, 2), (86, .iadd, 1), (87, .invokevirtual 117, 3), (90, .iconst 0, 1), (91, .istore 6, 2), (93, .iload 6, 2), (95, .bipush 32, 2), (97, .if_icmp .ge 23, 3), (100, .aload_n 0, 1), (101, .getfield 55, 3), (104, .iload 6, 2), (106, .aload_n 0, 1), (107, .getfield 77, 3), (110, .iload 6, 2), (112, .baload, 1), (113, .bastore, 1), (114, .iinc 6 1, 3), (117, .goto (-24), 3), (120, .iconst 0, 1), (121, .istore 6, 2), (123, .iload 6, 2), (125, .bipush 64, 2), (127, .if_icmp .ge 37, 3), (130, .aload_n 0, 1), (131, .getfield 52, 3), (134, .iload 6, 2), (136, .iload 6, 2), (138, .bipush 32, 2), (140, .if_icmp .ge 12, 3), (143, .aload_n 1, 1), (144, .iload_n 2, 1), (145, .iload 6, 2), (147, .iadd, 1), (148, .baload, 1), (149, .goto 4, 3), (152, .iconst 0, 1), (153, .bipush 92, 2), (155, .ixor, 1), (156, .i2b, 1), (157, .bastore, 1), (158, .iinc 6 1, 3), (161, .goto (-38), 3), (164, .iconst 0, 1), (165, .istore 6, 2), (167, .iload 6, 2), (169, .bipush 32, 2), (171, .if_icmp .ge 26, 3), (174, .aload_n 0, 1), (175, .getfield 52, 3), (178, .bipush 64, 2), (180, .iload 6, 2), (182, .iadd, 1), (183, .aload_n 0, 1), (184, .getfield 55, 3), (187, .iload 6, 2), (189, .baload, 1), (190, .bastore, 1), (191, .iinc 6 1, 3), (194, .goto (-27), 3), (197, .aload_n 0, 1), (198, .aload_n 0, 1), (199, .getfield 52, 3), (202, .bipush 96, 2), (204, .invokevirtual 117, 3), (207, .return_, 1)]
theorem dk_M_keyed : fx_dec prog_15_method_13_code dl_M_keyed = true := by decide +kernel
theorem d_M_keyed_0 : decode prog_15_method_13_code 0 = .ok (.iconst 0, 1) := fx_dat dk_M_keyed 0 rfl
theorem d_M_keyed_1 : decode prog_15_method_13_code 1 = .ok (.istore 6, 2) := fx_dat dk_M_keyed 1 rfl
theorem d_M_keyed_3 : decode prog_15_method_13_code 3 = .ok (.iload 6, 2) := fx_dat dk_M_keyed 2 rfl
theorem d_M_keyed_5 : decode prog_15_method_13_code 5 = .ok (.bipush 64, 2) := fx_dat dk_M_keyed 3 rfl
theorem d_M_keyed_7 : decode prog_15_method_13_code 7 = .ok (.if_icmp .ge 37, 3) := fx_dat dk_M_keyed 4 rfl
theorem d_M_keyed_10 : decode prog_15_method_13_code 10 = .ok (.aload_n 0, 1) := fx_dat dk_M_keyed 5 rfl
theorem d_M_keyed_11 : decode prog_15_method_13_code 11 = .ok (.getfield 52, 3) := fx_dat dk_M_keyed 6 rfl
theorem d_M_keyed_14 : decode prog_15_method_13_code 14 = .ok (.iload 6, 2) := fx_dat dk_M_keyed 7 rfl
theorem d_M_keyed_16 : decode prog_15_method_13_code 16 = .ok (.iload 6, 2) := fx_dat dk_M_keyed 8 rfl
theorem d_M_keyed_18 : decode prog_15_method_13_code 18 = .ok (.bipush 32, 2) := fx_dat dk_M_keyed 9 rfl
theorem d_M_keyed_20 : decode prog_15_method_13_code 20 = .ok (.if_icmp .ge 12, 3) := fx_dat dk_M_keyed 10 rfl
theorem d_M_keyed_23 : decode prog_15_method_13_code 23 = .ok (.aload_n 1, 1) := fx_dat dk_M_keyed 11 rfl
theorem d_M_keyed_24 : decode prog_15_method_13_code 24 = .ok (.iload_n 2, 1) := fx_dat dk_M_keyed 12 rfl
theorem d_M_keyed_25 : decode prog_15_method_13_code 25 = .ok (.iload 6, 2) := fx_dat dk_M_keyed 13 rfl
theorem d_M_keyed_27 : decode prog_15_method_13_code 27 = .ok (.iadd, 1) := fx_dat dk_M_keyed 14 rfl
theorem d_M_keyed_28 : decode prog_15_method_13_code 28 = .ok (.baload, 1) := fx_dat dk_M_keyed 15 rfl
theorem d_M_keyed_29 : decode prog_15_method_13_code 29 = .ok (.goto 4, 3) := fx_dat dk_M_keyed 16 rfl
theorem d_M_keyed_32 : decode prog_15_method_13_code 32 = .ok (.iconst 0, 1) := fx_dat dk_M_keyed 17 rfl
theorem d_M_keyed_33 : decode prog_15_method_13_code 33 = .ok (.bipush 54, 2) := fx_dat dk_M_keyed 18 rfl
theorem d_M_keyed_35 : decode prog_15_method_13_code 35 = .ok (.ixor, 1) := fx_dat dk_M_keyed 19 rfl
theorem d_M_keyed_36 : decode prog_15_method_13_code 36 = .ok (.i2b, 1) := fx_dat dk_M_keyed 20 rfl
theorem d_M_keyed_37 : decode prog_15_method_13_code 37 = .ok (.bastore, 1) := fx_dat dk_M_keyed 21 rfl
theorem d_M_keyed_38 : decode prog_15_method_13_code 38 = .ok (.iinc 6 1, 3) := fx_dat dk_M_keyed 22 rfl
theorem d_M_keyed_41 : decode prog_15_method_13_code 41 = .ok (.goto (-38), 3) := fx_dat dk_M_keyed 23 rfl
theorem d_M_keyed_44 : decode prog_15_method_13_code 44 = .ok (.iconst 0, 1) := fx_dat dk_M_keyed 24 rfl
theorem d_M_keyed_45 : decode prog_15_method_13_code 45 = .ok (.istore 6, 2) := fx_dat dk_M_keyed 25 rfl
theorem d_M_keyed_47 : decode prog_15_method_13_code 47 = .ok (.iload 6, 2) := fx_dat dk_M_keyed 26 rfl
theorem d_M_keyed_49 : decode prog_15_method_13_code 49 = .ok (.iload 5, 2) := fx_dat dk_M_keyed 27 rfl
theorem d_M_keyed_51 : decode prog_15_method_13_code 51 = .ok (.if_icmp .ge 26, 3) := fx_dat dk_M_keyed 28 rfl
theorem d_M_keyed_54 : decode prog_15_method_13_code 54 = .ok (.aload_n 0, 1) := fx_dat dk_M_keyed 29 rfl
theorem d_M_keyed_55 : decode prog_15_method_13_code 55 = .ok (.getfield 52, 3) := fx_dat dk_M_keyed 30 rfl
theorem d_M_keyed_58 : decode prog_15_method_13_code 58 = .ok (.bipush 64, 2) := fx_dat dk_M_keyed 31 rfl
theorem d_M_keyed_60 : decode prog_15_method_13_code 60 = .ok (.iload 6, 2) := fx_dat dk_M_keyed 32 rfl
theorem d_M_keyed_62 : decode prog_15_method_13_code 62 = .ok (.iadd, 1) := fx_dat dk_M_keyed 33 rfl
theorem d_M_keyed_63 : decode prog_15_method_13_code 63 = .ok (.aload_n 3, 1) := fx_dat dk_M_keyed 34 rfl
theorem d_M_keyed_64 : decode prog_15_method_13_code 64 = .ok (.iload 4, 2) := fx_dat dk_M_keyed 35 rfl
theorem d_M_keyed_66 : decode prog_15_method_13_code 66 = .ok (.iload 6, 2) := fx_dat dk_M_keyed 36 rfl
theorem d_M_keyed_68 : decode prog_15_method_13_code 68 = .ok (.iadd, 1) := fx_dat dk_M_keyed 37 rfl
theorem d_M_keyed_69 : decode prog_15_method_13_code 69 = .ok (.baload, 1) := fx_dat dk_M_keyed 38 rfl
theorem d_M_keyed_70 : decode prog_15_method_13_code 70 = .ok (.bastore, 1) := fx_dat dk_M_keyed 39 rfl
theorem d_M_keyed_71 : decode prog_15_method_13_code 71 = .ok (.iinc 6 1, 3) := fx_dat dk_M_keyed 40 rfl
theorem d_M_keyed_74 : decode prog_15_method_13_code 74 = .ok (.goto (-27), 3) := fx_dat dk_M_keyed 41 rfl
theorem d_M_keyed_77 : decode prog_15_method_13_code 77 = .ok (.aload_n 0, 1) := fx_dat dk_M_keyed 42 rfl
theorem d_M_keyed_78 : decode prog_15_method_13_code 78 = .ok (.aload_n 0, 1) := fx_dat dk_M_keyed 43 rfl
theorem d_M_keyed_79 : decode prog_15_method_13_code 79 = .ok (.getfield 52, 3) := fx_dat dk_M_keyed 44 rfl
theorem d_M_keyed_82 : decode prog_15_method_13_code 82 = .ok (.bipush 64, 2) := fx_dat dk_M_keyed 45 rfl
theorem d_M_keyed_84 : decode prog_15_method_13_code 84 = .ok (.iload 5, 2) := fx_dat dk_M_keyed 46 rfl
theorem d_M_keyed_86 : decode prog_15_method_13_code 86 = .ok (.iadd, 1) := fx_dat dk_M_keyed 47 rfl
theorem d_M_keyed_87 : decode prog_15_method_13_code 87 = .ok (.invokevirtual 117, 3) := fx_dat dk_M_keyed 48 rfl
theorem d_M_keyed_90 : decode prog_15_method_13_code 90 = .ok (.iconst 0, 1) := fx_dat dk_M_keyed 49 rfl
theorem d_M_keyed_91 : decode prog_15_method_13_code 91 = .ok (.istore 6, 2) := fx_dat dk_M_keyed 50 rfl
theorem d_M_keyed_93 : decode prog_15_method_13_code 93 = .ok (.iload 6, 2) := fx_dat dk_M_keyed 51 rfl
theorem d_M_keyed_95 : decode prog_15_method_13_code 95 = .ok (.bipush 32, 2) := fx_dat dk_M_keyed 52 rfl
theorem d_M_keyed_97 : decode prog_15_method_13_code 97 = .ok (.if_icmp .ge 23, 3) := fx_dat dk_M_keyed 53 rfl
theorem d_M_keyed_100 : decode prog_15_method_13_code 100 = .ok (.aload_n 0, 1) := fx_dat dk_M_keyed 54 rfl
theorem d_M_keyed_101 : decode prog_15_method_13_code 101 = .ok (.getfield 55, 3) := fx_dat dk_M_keyed 55 rfl
theorem d_M_keyed_104 : decode prog_15_method_13_code 104 = .ok (.iload 6, 2) := fx_dat dk_M_keyed 56 rfl
theorem d_M_keyed_106 : decode prog_15_method_13_code 106 = .ok (.aload_n 0, 1) := fx_dat dk_M_keyed 57 rfl
theorem d_M_keyed_107 : decode prog_15_method_13_code 107 = .ok (.getfield 77, 3) := fx_dat dk_M_keyed 58 rfl
theorem d_M_keyed_110 : decode prog_15_method_13_code 110 = .ok (.iload 6, 2) := fx_dat dk_M_keyed 59 rfl
theorem d_M_keyed_112 : decode prog_15_method_13_code 112 = .ok (.baload, 1) := fx_dat dk_M_keyed 60 rfl
theorem d_M_keyed_113 : decode prog_15_method_13_code 113 = .ok (.bastore, 1) := fx_dat dk_M_keyed 61 rfl
theorem d_M_keyed_114 : decode prog_15_method_13_code 114 = .ok (.iinc 6 1, 3) := fx_dat dk_M_keyed 62 rfl
theorem d_M_keyed_117 : decode prog_15_method_13_code 117 = .ok (.goto (-24), 3) := fx_dat dk_M_keyed 63 rfl
theorem d_M_keyed_120 : decode prog_15_method_13_code 120 = .ok (.iconst 0, 1) := fx_dat dk_M_keyed 64 rfl
theorem d_M_keyed_121 : decode prog_15_method_13_code 121 = .ok (.istore 6, 2) := fx_dat dk_M_keyed 65 rfl
theorem d_M_keyed_123 : decode prog_15_method_13_code 123 = .ok (.iload 6, 2) := fx_dat dk_M_keyed 66 rfl
theorem d_M_keyed_125 : decode prog_15_method_13_code 125 = .ok (.bipush 64, 2) := fx_dat dk_M_keyed 67 rfl
theorem d_M_keyed_127 : decode prog_15_method_13_code 127 = .ok (.if_icmp .ge 37, 3) := fx_dat dk_M_keyed 68 rfl
theorem d_M_keyed_130 : decode prog_15_method_13_code 130 = .ok (.aload_n 0, 1) := fx_dat dk_M_keyed 69 rfl
theorem d_M_keyed_131 : decode prog_15_method_13_code 131 = .ok (.getfield 52, 3) := fx_dat dk_M_keyed 70 rfl
theorem d_M_keyed_134 : decode prog_15_method_13_code 134 = .ok (.iload 6, 2) := fx_dat dk_M_keyed 71 rfl
theorem d_M_keyed_136 : decode prog_15_method_13_code 136 = .ok (.iload 6, 2) := fx_dat dk_M_keyed 72 rfl
theorem d_M_keyed_138 : decode prog_15_method_13_code 138 = .ok (.bipush 32, 2) := fx_dat dk_M_keyed 73 rfl
theorem d_M_keyed_140 : decode prog_15_method_13_code 140 = .ok (.if_icmp .ge 12, 3) := fx_dat dk_M_keyed 74 rfl
theorem d_M_keyed_143 : decode prog_15_method_13_code 143 = .ok (.aload_n 1, 1) := fx_dat dk_M_keyed 75 rfl
theorem d_M_keyed_144 : decode prog_15_method_13_code 144 = .ok (.iload_n 2, 1) := fx_dat dk_M_keyed 76 rfl
theorem d_M_keyed_145 : decode prog_15_method_13_code 145 = .ok (.iload 6, 2) := fx_dat dk_M_keyed 77 rfl
theorem d_M_keyed_147 : decode prog_15_method_13_code 147 = .ok (.iadd, 1) := fx_dat dk_M_keyed 78 rfl
theorem d_M_keyed_148 : decode prog_15_method_13_code 148 = .ok (.baload, 1) := fx_dat dk_M_keyed 79 rfl
theorem d_M_keyed_149 : decode prog_15_method_13_code 149 = .ok (.goto 4, 3) := fx_dat dk_M_keyed 80 rfl
theorem d_M_keyed_152 : decode prog_15_method_13_code 152 = .ok (.iconst 0, 1) := fx_dat dk_M_keyed 81 rfl
theorem d_M_keyed_153 : decode prog_15_method_13_code 153 = .ok (.bipush 92, 2) := fx_dat dk_M_keyed 82 rfl
theorem d_M_keyed_155 : decode prog_15_method_13_code 155 = .ok (.ixor, 1) := fx_dat dk_M_keyed 83 rfl
theorem d_M_keyed_156 : decode prog_15_method_13_code 156 = .ok (.i2b, 1) := fx_dat dk_M_keyed 84 rfl
theorem d_M_keyed_157 : decode prog_15_method_13_code 157 = .ok (.bastore, 1) := fx_dat dk_M_keyed 85 rfl
theorem d_M_keyed_158 : decode prog_15_method_13_code 158 = .ok (.iinc 6 1, 3) := fx_dat dk_M_keyed 86 rfl
theorem d_M_keyed_161 : decode prog_15_method_13_code 161 = .ok (.goto (-38), 3) := fx_dat dk_M_keyed 87 rfl
theorem d_M_keyed_164 : decode prog_15_method_13_code 164 = .ok (.iconst 0, 1) := fx_dat dk_M_keyed 88 rfl
theorem d_M_keyed_165 : decode prog_15_method_13_code 165 = .ok (.istore 6, 2) := fx_dat dk_M_keyed 89 rfl
theorem d_M_keyed_167 : decode prog_15_method_13_code 167 = .ok (.iload 6, 2) := fx_dat dk_M_keyed 90 rfl
theorem d_M_keyed_169 : decode prog_15_method_13_code 169 = .ok (.bipush 32, 2) := fx_dat dk_M_keyed 91 rfl
theorem d_M_keyed_171 : decode prog_15_method_13_code 171 = .ok (.if_icmp .ge 26, 3) := fx_dat dk_M_keyed 92 rfl
theorem d_M_keyed_174 : decode prog_15_method_13_code 174 = .ok (.aload_n 0, 1) := fx_dat dk_M_keyed 93 rfl
theorem d_M_keyed_175 : decode prog_15_method_13_code 175 = .ok (.getfield 52, 3) := fx_dat dk_M_keyed 94 rfl
theorem d_M_keyed_178 : decode prog_15_method_13_code 178 = .ok (.bipush 64, 2) := fx_dat dk_M_keyed 95 rfl
theorem d_M_keyed_180 : decode prog_15_method_13_code 180 = .ok (.iload 6, 2) := fx_dat dk_M_keyed 96 rfl
theorem d_M_keyed_182 : decode prog_15_method_13_code 182 = .ok (.iadd, 1) := fx_dat dk_M_keyed 97 rfl
theorem d_M_keyed_183 : decode prog_15_method_13_code 183 = .ok (.aload_n 0, 1) := fx_dat dk_M_keyed 98 rfl
theorem d_M_keyed_184 : decode prog_15_method_13_code 184 = .ok (.getfield 55, 3) := fx_dat dk_M_keyed 99 rfl
theorem d_M_keyed_187 : decode prog_15_method_13_code 187 = .ok (.iload 6, 2) := fx_dat dk_M_keyed 100 rfl
theorem d_M_keyed_189 : decode prog_15_method_13_code 189 = .ok (.baload, 1) := fx_dat dk_M_keyed 101 rfl
theorem d_M_keyed_190 : decode prog_15_method_13_code 190 = .ok (.bastore, 1) := fx_dat dk_M_keyed 102 rfl
theorem d_M_keyed_191 : decode prog_15_method_13_code 191 = .ok (.iinc 6 1, 3) := fx_dat dk_M_keyed 103 rfl
theorem d_M_keyed_194 : decode prog_15_method_13_code 194 = .ok (.goto (-27), 3) := fx_dat dk_M_keyed 104 rfl
theorem d_M_keyed_197 : decode prog_15_method_13_code 197 = .ok (.aload_n 0, 1) := fx_dat dk_M_keyed 105 rfl
theorem d_M_keyed_198 : decode prog_15_method_13_code 198 = .ok (.aload_n 0, 1) := fx_dat dk_M_keyed 106 rfl
theorem d_M_keyed_199 : decode prog_15_method_13_code 199 = .ok (.getfield 52, 3) := fx_dat dk_M_keyed 107 rfl
theorem d_M_keyed_202 : decode prog_15_method_13_code 202 = .ok (.bipush 96, 2) := fx_dat dk_M_keyed 108 rfl
theorem d_M_keyed_204 : decode prog_15_method_13_code 204 = .ok (.invokevirtual 117, 3) := fx_dat dk_M_keyed 109 rfl
theorem d_M_keyed_207 : decode prog_15_method_13_code 207 = .ok (.return_, 1) := fx_dat dk_M_keyed 110 rfl
def m_M_keyed_167_b (Q : AH → Prop) (X167 : Int32 × AH → Prop) (r0 : Nat) (x6 : Int32) (h : AH) : Prop := ((32 : Int32) ≤ x6 → hp_k h r0 = 13 ∧ ∃ b1, hp_R h r0 48 = some b1 ∧ m_M_hash (fun h1 => fx_ext h h1 → Q h1) r0 b1 (96 : Int32) h) ∧ (¬ (32 : Int32) ≤ x6 → hp_k h r0 = 13 ∧ ∃ b2, hp_R h r0 48 = some b2 ∧ ∃ b3, hp_R h r0 49 = some b3 ∧ bk (hp_k h b3) ∧ vp_in x6 (hp_n h b3) ∧ (by8 (hp_I h b3 x6.toNatClampNeg) → hp_k h b2 = 101 ∧ vp_in ((64 : Int32) + x6) (hp_n h b2) ∧ ∀ h2 : AH, h2 = up_I h b2 (((64 : Int32) + x6)).toNatClampNeg ((hp_I h b3 x6.toNatClampNeg)).toInt8.toInt32 → ∀ v1 : Int32, v1 = (x6 + (1 : Int32)) → X167 (v1, h2)))
def m_M_keyed_167 (Q : AH → Prop) (r0 : Nat) (x6 : Int32) (h : AH) : Prop := fx_loop (fun (X167 : Int32 × AH → Prop) (st : Int32 × AH) => m_M_keyed_167_b Q X167 r0 st.1 st.2) (x6, h)
def m_M_keyed_153 (Q : AH → Prop) (X123 : Int32 × AH → Prop) (r0 : Nat) (r1 : Nat) (x2 : Int32) (x6 : Int32) (sr0 : Nat) (sx1 : Int32) (sx2 : Int32) (h : AH) : Prop := hp_k h sr0 = 101 ∧ vp_in sx1 (hp_n h sr0) ∧ ∀ h1 : AH, h1 = up_I h sr0 (sx1).toNatClampNeg ((((sx2 ^^^ (92 : Int32))).toInt8.toInt32)).toInt8.toInt32 → ∀ v1 : Int32, v1 = (x6 + (1 : Int32)) → X123 (v1, h1)
def m_M_keyed_123_b (Q : AH → Prop) (X123 : Int32 × AH → Prop) (r0 : Nat) (r1 : Nat) (x2 : Int32) (x6 : Int32) (h : AH) : Prop := ((64 : Int32) ≤ x6 → m_M_keyed_167 Q r0 (0 : Int32) h) ∧ (¬ (64 : Int32) ≤ x6 → hp_k h r0 = 13 ∧ ∃ b1, hp_R h r0 48 = some b1 ∧ ((32 : Int32) ≤ x6 → m_M_keyed_153 Q X123 r0 r1 x2 x6 b1 x6 (0 : Int32) h) ∧ (¬ (32 : Int32) ≤ x6 → bk (hp_k h r1) ∧ vp_in (x2 + x6) (hp_n h r1) ∧ (by8 (hp_I h r1 ((x2 + x6)).toNatClampNeg) → m_M_keyed_153 Q X123 r0 r1 x2 x6 b1 x6 (hp_I h r1 ((x2 + x6)).toNatClampNeg) h)))
def m_M_keyed_123 (Q : AH → Prop) (r0 : Nat) (r1 : Nat) (x2 : Int32) (x6 : Int32) (h : AH) : Prop := fx_loop (fun (X123 : Int32 × AH → Prop) (st : Int32 × AH) => m_M_keyed_123_b Q X123 r0 r1 x2 st.1 st.2) (x6, h)
def m_M_keyed_93_b (Q : AH → Prop) (X93 : Int32 × AH → Prop) (r0 : Nat) (r1 : Nat) (x2 : Int32) (x6 : Int32) (h : AH) : Prop := ((32 : Int32) ≤ x6 → m_M_keyed_123 Q r0 r1 x2 (0 : Int32) h) ∧ (¬ (32 : Int32) ≤ x6 → hp_k h r0 = 13 ∧ ∃ b1, hp_R h r0 49 = some b1 ∧ ∃ b2, hp_R h r0 56 = some b2 ∧ bk (hp_k h b2) ∧ vp_in x6 (hp_n h b2) ∧ (by8 (hp_I h b2 x6.toNatClampNeg) → hp_k h b1 = 101 ∧ vp_in x6 (hp_n h b1) ∧ ∀ h1 : AH, h1 = up_I h b1 (x6).toNatClampNeg ((hp_I h b2 x6.toNatClampNeg)).toInt8.toInt32 → ∀ v1 : Int32, v1 = (x6 + (1 : Int32)) → X93 (v1, h1)))
def m_M_keyed_93 (Q : AH → Prop) (r0 : Nat) (r1 : Nat) (x2 : Int32) (x6 : Int32) (h : AH) : Prop := fx_loop (fun (X93 : Int32 × AH → Prop) (st : Int32 × AH) => m_M_keyed_93_b Q X93 r0 r1 x2 st.1 st.2) (x6, h)
def m_M_keyed_47_b (Q : AH → Prop) (X47 : Int32 × AH → Prop) (r0 : Nat) (r1 : Nat) (x2 : Int32) (r3 : Nat) (x4 : Int32) (x5 : Int32) (x6 : Int32) (h : AH) : Prop := (x5 ≤ x6 → hp_k h r0 = 13 ∧ ∃ b1, hp_R h r0 48 = some b1 ∧ m_M_hash (fun h1 => fx_ext h h1 → m_M_keyed_93 Q r0 r1 x2 (0 : Int32) h1) r0 b1 ((64 : Int32) + x5) h) ∧ (¬ x5 ≤ x6 → hp_k h r0 = 13 ∧ ∃ b2, hp_R h r0 48 = some b2 ∧ bk (hp_k h r3) ∧ vp_in (x4 + x6) (hp_n h r3) ∧ (by8 (hp_I h r3 ((x4 + x6)).toNatClampNeg) → hp_k h b2 = 101 ∧ vp_in ((64 : Int32) + x6) (hp_n h b2) ∧ ∀ h2 : AH, h2 = up_I h b2 (((64 : Int32) + x6)).toNatClampNeg ((hp_I h r3 ((x4 + x6)).toNatClampNeg)).toInt8.toInt32 → ∀ v1 : Int32, v1 = (x6 + (1 : Int32)) → X47 (v1, h2)))
def m_M_keyed_47 (Q : AH → Prop) (r0 : Nat) (r1 : Nat) (x2 : Int32) (r3 : Nat) (x4 : Int32) (x5 : Int32) (x6 : Int32) (h : AH) : Prop := fx_loop (fun (X47 : Int32 × AH → Prop) (st : Int32 × AH) => m_M_keyed_47_b Q X47 r0 r1 x2 r3 x4 x5 st.1 st.2) (x6, h)
def m_M_keyed_33 (Q : AH → Prop) (X3 : Int32 × AH → Prop) (r0 : Nat) (r1 : Nat) (x2 : Int32) (r3 : Nat) (x4 : Int32) (x5 : Int32) (x6 : Int32) (sr0 : Nat) (sx1 : Int32) (sx2 : Int32) (h : AH) : Prop := hp_k h sr0 = 101 ∧ vp_in sx1 (hp_n h sr0) ∧ ∀ h1 : AH, h1 = up_I h sr0 (sx1).toNatClampNeg ((((sx2 ^^^ (54 : Int32))).toInt8.toInt32)).toInt8.toInt32 → ∀ v1 : Int32, v1 = (x6 + (1 : Int32)) → X3 (v1, h1)
def m_M_keyed_3_b (Q : AH → Prop) (X3 : Int32 × AH → Prop) (r0 : Nat) (r1 : Nat) (x2 : Int32) (r3 : Nat) (x4 : Int32) (x5 : Int32) (x6 : Int32) (h : AH) : Prop := ((64 : Int32) ≤ x6 → m_M_keyed_47 Q r0 r1 x2 r3 x4 x5 (0 : Int32) h) ∧ (¬ (64 : Int32) ≤ x6 → hp_k h r0 = 13 ∧ ∃ b1, hp_R h r0 48 = some b1 ∧ ((32 : Int32) ≤ x6 → m_M_keyed_33 Q X3 r0 r1 x2 r3 x4 x5 x6 b1 x6 (0 : Int32) h) ∧ (¬ (32 : Int32) ≤ x6 → bk (hp_k h r1) ∧ vp_in (x2 + x6) (hp_n h r1) ∧ (by8 (hp_I h r1 ((x2 + x6)).toNatClampNeg) → m_M_keyed_33 Q X3 r0 r1 x2 r3 x4 x5 x6 b1 x6 (hp_I h r1 ((x2 + x6)).toNatClampNeg) h)))
def m_M_keyed_3 (Q : AH → Prop) (r0 : Nat) (r1 : Nat) (x2 : Int32) (r3 : Nat) (x4 : Int32) (x5 : Int32) (x6 : Int32) (h : AH) : Prop := fx_loop (fun (X3 : Int32 × AH → Prop) (st : Int32 × AH) => m_M_keyed_3_b Q X3 r0 r1 x2 r3 x4 x5 st.1 st.2) (x6, h)
def m_M_keyed (Q : AH → Prop) (r0 : Nat) (r1 : Nat) (x2 : Int32) (r3 : Nat) (x4 : Int32) (x5 : Int32) (h : AH) : Prop := m_M_keyed_3 Q r0 r1 x2 r3 x4 x5 (0 : Int32) h
theorem b_M_keyed_167 {p : Program} {l : Launch} {e : Env} {R : Room} {s : State} {m : MethodId} {args : Array Value} {below : List Frame} {meth : Method} {c : Code} {D : DD} {h0 : AH} {Q : AH → Prop} (C : fx_CX D y_M_keyed prog_15_method_13_code 7 3 58 (none) [] h0 p R s m meth c) (hl : l.flags = flags0) (r0 : Nat) (x6 : Int32) (h : AH) (hw : m_M_keyed_167 Q r0 x6 h) : ∀ (ls : Array Slot) (H : Heap) (locs : List Loc) (cells slots : Nat), lv_has ls 7 [(0, .ref r0), (6, .int x6)] → fx_F D h0 h H locs cells slots → W p l e R s m args below meth c H locs cells slots (fx_Z D below s h0 (fx_oV Q fx_no)) (F0 m 167 ls []) := by
  refine fx_loop.use hw (fun st => ∀ (ls : Array Slot) (H : Heap) (locs : List Loc) (cells slots : Nat), lv_has ls 7 [(0, .ref r0), (6, .int st.1)] → fx_F D h0 st.2 H locs cells slots → W p l e R s m args below meth c H locs cells slots (fx_Z D below s h0 (fx_oV Q fx_no)) (F0 m 167 ls [])) (fun X167 st hX167 hw => ?_)
  obtain ⟨x6, h⟩ := st
  replace hw : m_M_keyed_167_b Q X167 r0 x6 h := hw
  unfold m_M_keyed_167_b at hw
  intro ls H locs cells slots hv F
  refine lv_iload C.ex C.by d_M_keyed_167 (lv_at hv 1 rfl) ?_
  refine lv_bipush (v := (32 : Int32)) C.ex C.by d_M_keyed_169 (by decide) ?_
  refine lv_icmp_ge C.ex C.by d_M_keyed_171 rfl (fun hc => ?_) (fun hc => ?_)
  · replace hw := hw.1 hc
    refine lv_aload_n C.ex C.by d_M_keyed_197 rfl (lv_at hv 0 rfl) ?_
    refine lv_aload_n C.ex C.by d_M_keyed_198 rfl (lv_at hv 0 rfl) ?_
    obtain ⟨hk1, hw⟩ := hw
    obtain ⟨b1, hb1, hw⟩ := hw
    refine fx_getR C F lf_M_52 hk1 rfl hb1 d_M_keyed_199 ?_
    refine lv_bipush (v := (96 : Int32)) C.ex C.by d_M_keyed_202 (by decide) ?_
    refine fx_callV C F (c_M_hash hl hw) hm_M_hash hi_M_hash hv.1 (by decide) (Nat.le_of_ble_eq_true rfl) (iv_M_hash C F lm_M_117 hk1 d_M_keyed_204) (fx_out0 _) fx_eno (fun h1 H locs cells slots hw hx1 F => ?_)
    replace hw := hw hx1
    have hk1 := (hx1).k hk1
    exact fx_vret C F d_M_keyed_207 (Or.inl ⟨rfl, hw⟩)
  · replace hw := hw.2 hc
    refine lv_aload_n C.ex C.by d_M_keyed_174 rfl (lv_at hv 0 rfl) ?_
    obtain ⟨hk2, hw⟩ := hw
    obtain ⟨b2, hb2, hw⟩ := hw
    refine fx_getR C F lf_M_52 hk2 rfl hb2 d_M_keyed_175 ?_
    refine lv_bipush (v := (64 : Int32)) C.ex C.by d_M_keyed_178 (by decide) ?_
    refine lv_iload C.ex C.by d_M_keyed_180 (lv_at hv 1 rfl) ?_
    refine lv_iadd C.ex C.by d_M_keyed_182 ?_
    refine lv_aload_n C.ex C.by d_M_keyed_183 rfl (lv_at hv 0 rfl) ?_
    obtain ⟨b3, hb3, hw⟩ := hw
    refine fx_getR C F lf_M_55 hk2 rfl hb3 d_M_keyed_184 ?_
    refine lv_iload C.ex C.by d_M_keyed_187 (lv_at hv 1 rfl) ?_
    obtain ⟨hk3, hw⟩ := hw
    obtain ⟨hi1, hw⟩ := hw
    refine fx_bald C F hk3 hi1 d_M_keyed_189 (fun h8 => ?_)
    replace hw := hw h8
    obtain ⟨hk4, hw⟩ := hw
    obtain ⟨hi2, hw⟩ := hw
    let h2 : AH := up_I h b2 (((64 : Int32) + x6)).toNatClampNeg ((hp_I h b3 x6.toNatClampNeg)).toInt8.toInt32
    replace hw := hw h2 rfl
    refine fx_bast C F hk4 hi2 d_M_keyed_190 (fun H locs (F : fx_F D h0 h2 H locs _ _) => ?_)
    let v1 : Int32 := (x6 + (1 : Int32))
    replace hw := hw v1 rfl
    refine lv_iinc (v := v1) (k := 1) (lv' := [(6, .int v1), (0, .ref r0)]) C.ex C.by d_M_keyed_191 hv rfl (congrArg (fun z => x6 + z) (by decide)) (by decide) rfl (fun ls hv => ?_)
    refine lv_goto C.ex C.by d_M_keyed_194 rfl ?_
    exact hX167 _ hw _ _ _ _ _ (lv_sub hv [1, 0] rfl) F
theorem b_M_keyed_153 {p : Program} {l : Launch} {e : Env} {R : Room} {s : State} {m : MethodId} {args : Array Value} {below : List Frame} {meth : Method} {c : Code} {D : DD} {h0 : AH} {Q : AH → Prop} {X123 : Int32 × AH → Prop} (C : fx_CX D y_M_keyed prog_15_method_13_code 7 3 58 (none) [] h0 p R s m meth c) (hl : l.flags = flags0) (r0 : Nat) (r1 : Nat) (x2 : Int32) (x6 : Int32) (sr0 : Nat) (sx1 : Int32) (sx2 : Int32) (h : AH) (hX123 : ∀ st, X123 st → ∀ (ls : Array Slot) (H : Heap) (locs : List Loc) (cells slots : Nat), lv_has ls 7 [(0, .ref r0), (1, .ref r1), (2, .int x2), (6, .int st.1)] → fx_F D h0 st.2 H locs cells slots → W p l e R s m args below meth c H locs cells slots (fx_Z D below s h0 (fx_oV Q fx_no)) (F0 m 123 ls [])) (hw : m_M_keyed_153 Q X123 r0 r1 x2 x6 sr0 sx1 sx2 h) : ∀ (ls : Array Slot) (H : Heap) (locs : List Loc) (cells slots : Nat), lv_has ls 7 [(0, .ref r0), (1, .ref r1), (2, .int x2), (6, .int x6)] → fx_F D h0 h H locs cells slots → W p l e R s m args below meth c H locs cells slots (fx_Z D below s h0 (fx_oV Q fx_no)) (F0 m 153 ls [.int sx2, .int sx1, .ref sr0]) := by
  unfold m_M_keyed_153 at hw
  intro ls H locs cells slots hv F
  refine lv_bipush (v := (92 : Int32)) C.ex C.by d_M_keyed_153 (by decide) ?_
  refine lv_ixor C.ex C.by d_M_keyed_155 ?_
  refine lv_i2b (v := (((sx2 ^^^ (92 : Int32))).toInt8.toInt32)) C.ex C.by d_M_keyed_156 rfl ?_
  obtain ⟨hk1, hw⟩ := hw
  obtain ⟨hi1, hw⟩ := hw
  let h1 : AH := up_I h sr0 (sx1).toNatClampNeg ((((sx2 ^^^ (92 : Int32))).toInt8.toInt32)).toInt8.toInt32
  replace hw := hw h1 rfl
  refine fx_bast C F hk1 hi1 d_M_keyed_157 (fun H locs (F : fx_F D h0 h1 H locs _ _) => ?_)
  let v1 : Int32 := (x6 + (1 : Int32))
  replace hw := hw v1 rfl
  refine lv_iinc (v := v1) (k := 3) (lv' := [(6, .int v1), (0, .ref r0), (1, .ref r1), (2, .int x2)]) C.ex C.by d_M_keyed_158 hv rfl (congrArg (fun z => x6 + z) (by decide)) (by decide) rfl (fun ls hv => ?_)
  refine lv_goto C.ex C.by d_M_keyed_161 rfl ?_
  exact hX123 _ hw _ _ _ _ _ (lv_sub hv [1, 2, 3, 0] rfl) F
theorem b_M_keyed_123 {p : Program} {l : Launch} {e : Env} {R : Room} {s : State} {m : MethodId} {args : Array Value} {below : List Frame} {meth : Method} {c : Code} {D : DD} {h0 : AH} {Q : AH → Prop} (C : fx_CX D y_M_keyed prog_15_method_13_code 7 3 58 (none) [] h0 p R s m meth c) (hl : l.flags = flags0) (r0 : Nat) (r1 : Nat) (x2 : Int32) (x6 : Int32) (h : AH) (hw : m_M_keyed_123 Q r0 r1 x2 x6 h) : ∀ (ls : Array Slot) (H : Heap) (locs : List Loc) (cells slots : Nat), lv_has ls 7 [(0, .ref r0), (1, .ref r1), (2, .int x2), (6, .int x6)] → fx_F D h0 h H locs cells slots → W p l e R s m args below meth c H locs cells slots (fx_Z D below s h0 (fx_oV Q fx_no)) (F0 m 123 ls []) := by
  refine fx_loop.use hw (fun st => ∀ (ls : Array Slot) (H : Heap) (locs : List Loc) (cells slots : Nat), lv_has ls 7 [(0, .ref r0), (1, .ref r1), (2, .int x2), (6, .int st.1)] → fx_F D h0 st.2 H locs cells slots → W p l e R s m args below meth c H locs cells slots (fx_Z D below s h0 (fx_oV Q fx_no)) (F0 m 123 ls [])) (fun X123 st hX123 hw => ?_)
  obtain ⟨x6, h⟩ := st
  replace hw : m_M_keyed_123_b Q X123 r0 r1 x2 x6 h := hw
  unfold m_M_keyed_123_b at hw
  intro ls H locs cells slots hv F
  refine lv_iload C.ex C.by d_M_keyed_123 (lv_at hv 3 rfl) ?_
  refine lv_bipush (v := (64 : Int32)) C.ex C.by d_M_keyed_125 (by decide) ?_
  refine lv_icmp_ge C.ex C.by d_M_keyed_127 rfl (fun hc => ?_) (fun hc => ?_)
  · replace hw := hw.1 hc
    refine lv_iconst (v := (0 : Int32)) C.ex C.by d_M_keyed_164 (by decide) ?_
    refine lv_istore (lv' := [(6, .int (0 : Int32)), (0, .ref r0), (1, .ref r1), (2, .int x2)]) C.ex C.by d_M_keyed_165 hv (by decide) rfl (fun ls hv => ?_)
    exact b_M_keyed_167 C hl _ _ _ hw _ _ _ _ _ (lv_sub hv [1, 0] rfl) F
  · replace hw := hw.2 hc
    refine lv_aload_n C.ex C.by d_M_keyed_130 rfl (lv_at hv 0 rfl) ?_
    obtain ⟨hk1, hw⟩ := hw
    obtain ⟨b1, hb1, hw⟩ := hw
    refine fx_getR C F lf_M_52 hk1 rfl hb1 d_M_keyed_131 ?_
    refine lv_iload C.ex C.by d_M_keyed_134 (lv_at hv 3 rfl) ?_
    refine lv_iload C.ex C.by d_M_keyed_136 (lv_at hv 3 rfl) ?_
    refine lv_bipush (v := (32 : Int32)) C.ex C.by d_M_keyed_138 (by decide) ?_
    refine lv_icmp_ge C.ex C.by d_M_keyed_140 rfl (fun hc => ?_) (fun hc => ?_)
    · replace hw := hw.1 hc
      refine lv_iconst (v := (0 : Int32)) C.ex C.by d_M_keyed_152 (by decide) ?_
      exact b_M_keyed_153 C hl _ _ _ _ _ _ _ _ hX123 hw _ _ _ _ _ hv F
    · replace hw := hw.2 hc
      refine lv_aload_n C.ex C.by d_M_keyed_143 rfl (lv_at hv 1 rfl) ?_
      refine lv_iload_n C.ex C.by d_M_keyed_144 rfl (lv_at hv 2 rfl) ?_
      refine lv_iload C.ex C.by d_M_keyed_145 (lv_at hv 3 rfl) ?_
      refine lv_iadd C.ex C.by d_M_keyed_147 ?_
      obtain ⟨hk2, hw⟩ := hw
      obtain ⟨hi1, hw⟩ := hw
      refine fx_bald C F hk2 hi1 d_M_keyed_148 (fun h8 => ?_)
      replace hw := hw h8
      refine lv_goto C.ex C.by d_M_keyed_149 rfl ?_
      exact b_M_keyed_153 C hl _ _ _ _ _ _ _ _ hX123 hw _ _ _ _ _ hv F
theorem b_M_keyed_93 {p : Program} {l : Launch} {e : Env} {R : Room} {s : State} {m : MethodId} {args : Array Value} {below : List Frame} {meth : Method} {c : Code} {D : DD} {h0 : AH} {Q : AH → Prop} (C : fx_CX D y_M_keyed prog_15_method_13_code 7 3 58 (none) [] h0 p R s m meth c) (hl : l.flags = flags0) (r0 : Nat) (r1 : Nat) (x2 : Int32) (x6 : Int32) (h : AH) (hw : m_M_keyed_93 Q r0 r1 x2 x6 h) : ∀ (ls : Array Slot) (H : Heap) (locs : List Loc) (cells slots : Nat), lv_has ls 7 [(0, .ref r0), (1, .ref r1), (2, .int x2), (6, .int x6)] → fx_F D h0 h H locs cells slots → W p l e R s m args below meth c H locs cells slots (fx_Z D below s h0 (fx_oV Q fx_no)) (F0 m 93 ls []) := by
  refine fx_loop.use hw (fun st => ∀ (ls : Array Slot) (H : Heap) (locs : List Loc) (cells slots : Nat), lv_has ls 7 [(0, .ref r0), (1, .ref r1), (2, .int x2), (6, .int st.1)] → fx_F D h0 st.2 H locs cells slots → W p l e R s m args below meth c H locs cells slots (fx_Z D below s h0 (fx_oV Q fx_no)) (F0 m 93 ls [])) (fun X93 st hX93 hw => ?_)
  obtain ⟨x6, h⟩ := st
  replace hw : m_M_keyed_93_b Q X93 r0 r1 x2 x6 h := hw
  unfold m_M_keyed_93_b at hw
  intro ls H locs cells slots hv F
  refine lv_iload C.ex C.by d_M_keyed_93 (lv_at hv 3 rfl) ?_
  refine lv_bipush (v := (32 : Int32)) C.ex C.by d_M_keyed_95 (by decide) ?_
  refine lv_icmp_ge C.ex C.by d_M_keyed_97 rfl (fun hc => ?_) (fun hc => ?_)
  · replace hw := hw.1 hc
    refine lv_iconst (v := (0 : Int32)) C.ex C.by d_M_keyed_120 (by decide) ?_
    refine lv_istore (lv' := [(6, .int (0 : Int32)), (0, .ref r0), (1, .ref r1), (2, .int x2)]) C.ex C.by d_M_keyed_121 hv (by decide) rfl (fun ls hv => ?_)
    exact b_M_keyed_123 C hl _ _ _ _ _ hw _ _ _ _ _ (lv_sub hv [1, 2, 3, 0] rfl) F
  · replace hw := hw.2 hc
    refine lv_aload_n C.ex C.by d_M_keyed_100 rfl (lv_at hv 0 rfl) ?_
    obtain ⟨hk1, hw⟩ := hw
    obtain ⟨b1, hb1, hw⟩ := hw
    refine fx_getR C F lf_M_55 hk1 rfl hb1 d_M_keyed_101 ?_
    refine lv_iload C.ex C.by d_M_keyed_104 (lv_at hv 3 rfl) ?_
    refine lv_aload_n C.ex C.by d_M_keyed_106 rfl (lv_at hv 0 rfl) ?_
    obtain ⟨b2, hb2, hw⟩ := hw
    refine fx_getR C F lf_M_77 hk1 rfl hb2 d_M_keyed_107 ?_
    refine lv_iload C.ex C.by d_M_keyed_110 (lv_at hv 3 rfl) ?_
    obtain ⟨hk2, hw⟩ := hw
    obtain ⟨hi1, hw⟩ := hw
    refine fx_bald C F hk2 hi1 d_M_keyed_112 (fun h8 => ?_)
    replace hw := hw h8
    obtain ⟨hk3, hw⟩ := hw
    obtain ⟨hi2, hw⟩ := hw
    let h1 : AH := up_I h b1 (x6).toNatClampNeg ((hp_I h b2 x6.toNatClampNeg)).toInt8.toInt32
    replace hw := hw h1 rfl
    refine fx_bast C F hk3 hi2 d_M_keyed_113 (fun H locs (F : fx_F D h0 h1 H locs _ _) => ?_)
    let v1 : Int32 := (x6 + (1 : Int32))
    replace hw := hw v1 rfl
    refine lv_iinc (v := v1) (k := 3) (lv' := [(6, .int v1), (0, .ref r0), (1, .ref r1), (2, .int x2)]) C.ex C.by d_M_keyed_114 hv rfl (congrArg (fun z => x6 + z) (by decide)) (by decide) rfl (fun ls hv => ?_)
    refine lv_goto C.ex C.by d_M_keyed_117 rfl ?_
    exact hX93 _ hw _ _ _ _ _ (lv_sub hv [1, 2, 3, 0] rfl) F
theorem b_M_keyed_47 {p : Program} {l : Launch} {e : Env} {R : Room} {s : State} {m : MethodId} {args : Array Value} {below : List Frame} {meth : Method} {c : Code} {D : DD} {h0 : AH} {Q : AH → Prop} (C : fx_CX D y_M_keyed prog_15_method_13_code 7 3 58 (none) [] h0 p R s m meth c) (hl : l.flags = flags0) (r0 : Nat) (r1 : Nat) (x2 : Int32) (r3 : Nat) (x4 : Int32) (x5 : Int32) (x6 : Int32) (h : AH) (hw : m_M_keyed_47 Q r0 r1 x2 r3 x4 x5 x6 h) : ∀ (ls : Array Slot) (H : Heap) (locs : List Loc) (cells slots : Nat), lv_has ls 7 [(0, .ref r0), (1, .ref r1), (2, .int x2), (3, .ref r3), (4, .int x4), (5, .int x5), (6, .int x6)] → fx_F D h0 h H locs cells slots → W p l e R s m args below meth c H locs cells slots (fx_Z D below s h0 (fx_oV Q fx_no)) (F0 m 47 ls []) := by
  refine fx_loop.use hw (fun st => ∀ (ls : Array Slot) (H : Heap) (locs : List Loc) (cells slots : Nat), lv_has ls 7 [(0, .ref r0), (1, .ref r1), (2, .int x2), (3, .ref r3), (4, .int x4), (5, .int x5), (6, .int st.1)] → fx_F D h0 st.2 H locs cells slots → W p l e R s m args below meth c H locs cells slots (fx_Z D below s h0 (fx_oV Q fx_no)) (F0 m 47 ls [])) (fun X47 st hX47 hw => ?_)
  obtain ⟨x6, h⟩ := st
  replace hw : m_M_keyed_47_b Q X47 r0 r1 x2 r3 x4 x5 x6 h := hw
  unfold m_M_keyed_47_b at hw
  intro ls H locs cells slots hv F
  refine lv_iload C.ex C.by d_M_keyed_47 (lv_at hv 6 rfl) ?_
  refine lv_iload C.ex C.by d_M_keyed_49 (lv_at hv 5 rfl) ?_
  refine lv_icmp_ge C.ex C.by d_M_keyed_51 rfl (fun hc => ?_) (fun hc => ?_)
  · replace hw := hw.1 hc
    refine lv_aload_n C.ex C.by d_M_keyed_77 rfl (lv_at hv 0 rfl) ?_
    refine lv_aload_n C.ex C.by d_M_keyed_78 rfl (lv_at hv 0 rfl) ?_
    obtain ⟨hk1, hw⟩ := hw
    obtain ⟨b1, hb1, hw⟩ := hw
    refine fx_getR C F lf_M_52 hk1 rfl hb1 d_M_keyed_79 ?_
    refine lv_bipush (v := (64 : Int32)) C.ex C.by d_M_keyed_82 (by decide) ?_
    refine lv_iload C.ex C.by d_M_keyed_84 (lv_at hv 5 rfl) ?_
    refine lv_iadd C.ex C.by d_M_keyed_86 ?_
    refine fx_callV C F (c_M_hash hl hw) hm_M_hash hi_M_hash hv.1 (by decide) (Nat.le_of_ble_eq_true rfl) (iv_M_hash C F lm_M_117 hk1 d_M_keyed_87) (fx_out0 _) fx_eno (fun h1 H locs cells slots hw hx1 F => ?_)
    replace hw := hw hx1
    have hk1 := (hx1).k hk1
    refine lv_iconst (v := (0 : Int32)) C.ex C.by d_M_keyed_90 (by decide) ?_
    refine lv_istore (lv' := [(6, .int (0 : Int32)), (0, .ref r0), (1, .ref r1), (2, .int x2), (3, .ref r3), (4, .int x4), (5, .int x5)]) C.ex C.by d_M_keyed_91 hv (by decide) rfl (fun ls hv => ?_)
    exact b_M_keyed_93 C hl _ _ _ _ _ hw _ _ _ _ _ (lv_sub hv [1, 2, 3, 0] rfl) F
  · replace hw := hw.2 hc
    refine lv_aload_n C.ex C.by d_M_keyed_54 rfl (lv_at hv 0 rfl) ?_
    obtain ⟨hk2, hw⟩ := hw
    obtain ⟨b2, hb2, hw⟩ := hw
    refine fx_getR C F lf_M_52 hk2 rfl hb2 d_M_keyed_55 ?_
    refine lv_bipush (v := (64 : Int32)) C.ex C.by d_M_keyed_58 (by decide) ?_
    refine lv_iload C.ex C.by d_M_keyed_60 (lv_at hv 6 rfl) ?_
    refine lv_iadd C.ex C.by d_M_keyed_62 ?_
    refine lv_aload_n C.ex C.by d_M_keyed_63 rfl (lv_at hv 3 rfl) ?_
    refine lv_iload C.ex C.by d_M_keyed_64 (lv_at hv 4 rfl) ?_
    refine lv_iload C.ex C.by d_M_keyed_66 (lv_at hv 6 rfl) ?_
    refine lv_iadd C.ex C.by d_M_keyed_68 ?_
    obtain ⟨hk3, hw⟩ := hw
    obtain ⟨hi1, hw⟩ := hw
    refine fx_bald C F hk3 hi1 d_M_keyed_69 (fun h8 => ?_)
    replace hw := hw h8
    obtain ⟨hk4, hw⟩ := hw
    obtain ⟨hi2, hw⟩ := hw
    let h2 : AH := up_I h b2 (((64 : Int32) + x6)).toNatClampNeg ((hp_I h r3 ((x4 + x6)).toNatClampNeg)).toInt8.toInt32
    replace hw := hw h2 rfl
    refine fx_bast C F hk4 hi2 d_M_keyed_70 (fun H locs (F : fx_F D h0 h2 H locs _ _) => ?_)
    let v1 : Int32 := (x6 + (1 : Int32))
    replace hw := hw v1 rfl
    refine lv_iinc (v := v1) (k := 6) (lv' := [(6, .int v1), (0, .ref r0), (1, .ref r1), (2, .int x2), (3, .ref r3), (4, .int x4), (5, .int x5)]) C.ex C.by d_M_keyed_71 hv rfl (congrArg (fun z => x6 + z) (by decide)) (by decide) rfl (fun ls hv => ?_)
    refine lv_goto C.ex C.by d_M_keyed_74 rfl ?_
    exact hX47 _ hw _ _ _ _ _ (lv_sub hv [1, 2, 3, 4, 5, 6, 0] rfl) F
theorem b_M_keyed_33 {p : Program} {l : Launch} {e : Env} {R : Room} {s : State} {m : MethodId} {args : Array Value} {below : List Frame} {meth : Method} {c : Code} {D : DD} {h0 : AH} {Q : AH → Prop} {X3 : Int32 × AH → Prop} (C : fx_CX D y_M_keyed prog_15_method_13_code 7 3 58 (none) [] h0 p R s m meth c) (hl : l.flags = flags0) (r0 : Nat) (r1 : Nat) (x2 : Int32) (r3 : Nat) (x4 : Int32) (x5 : Int32) (x6 : Int32) (sr0 : Nat) (sx1 : Int32) (sx2 : Int32) (h : AH) (hX3 : ∀ st, X3 st → ∀ (ls : Array Slot) (H : Heap) (locs : List Loc) (cells slots : Nat), lv_has ls 7 [(0, .ref r0), (1, .ref r1), (2, .int x2), (3, .ref r3), (4, .int x4), (5, .int x5), (6, .int st.1)] → fx_F D h0 st.2 H locs cells slots → W p l e R s m args below meth c H locs cells slots (fx_Z D below s h0 (fx_oV Q fx_no)) (F0 m 3 ls [])) (hw : m_M_keyed_33 Q X3 r0 r1 x2 r3 x4 x5 x6 sr0 sx1 sx2 h) : ∀ (ls : Array Slot) (H : Heap) (locs : List Loc) (cells slots : Nat), lv_has ls 7 [(0, .ref r0), (1, .ref r1), (2, .int x2), (3, .ref r3), (4, .int x4), (5, .int x5), (6, .int x6)] → fx_F D h0 h H locs cells slots → W p l e R s m args below meth c H locs cells slots (fx_Z D below s h0 (fx_oV Q fx_no)) (F0 m 33 ls [.int sx2, .int sx1, .ref sr0]) := by
  unfold m_M_keyed_33 at hw
  intro ls H locs cells slots hv F
  refine lv_bipush (v := (54 : Int32)) C.ex C.by d_M_keyed_33 (by decide) ?_
  refine lv_ixor C.ex C.by d_M_keyed_35 ?_
  refine lv_i2b (v := (((sx2 ^^^ (54 : Int32))).toInt8.toInt32)) C.ex C.by d_M_keyed_36 rfl ?_
  obtain ⟨hk1, hw⟩ := hw
  obtain ⟨hi1, hw⟩ := hw
  let h1 : AH := up_I h sr0 (sx1).toNatClampNeg ((((sx2 ^^^ (54 : Int32))).toInt8.toInt32)).toInt8.toInt32
  replace hw := hw h1 rfl
  refine fx_bast C F hk1 hi1 d_M_keyed_37 (fun H locs (F : fx_F D h0 h1 H locs _ _) => ?_)
  let v1 : Int32 := (x6 + (1 : Int32))
  replace hw := hw v1 rfl
  refine lv_iinc (v := v1) (k := 6) (lv' := [(6, .int v1), (0, .ref r0), (1, .ref r1), (2, .int x2), (3, .ref r3), (4, .int x4), (5, .int x5)]) C.ex C.by d_M_keyed_38 hv rfl (congrArg (fun z => x6 + z) (by decide)) (by decide) rfl (fun ls hv => ?_)
  refine lv_goto C.ex C.by d_M_keyed_41 rfl ?_
  exact hX3 _ hw _ _ _ _ _ (lv_sub hv [1, 2, 3, 4, 5, 6, 0] rfl) F
theorem b_M_keyed_3 {p : Program} {l : Launch} {e : Env} {R : Room} {s : State} {m : MethodId} {args : Array Value} {below : List Frame} {meth : Method} {c : Code} {D : DD} {h0 : AH} {Q : AH → Prop} (C : fx_CX D y_M_keyed prog_15_method_13_code 7 3 58 (none) [] h0 p R s m meth c) (hl : l.flags = flags0) (r0 : Nat) (r1 : Nat) (x2 : Int32) (r3 : Nat) (x4 : Int32) (x5 : Int32) (x6 : Int32) (h : AH) (hw : m_M_keyed_3 Q r0 r1 x2 r3 x4 x5 x6 h) : ∀ (ls : Array Slot) (H : Heap) (locs : List Loc) (cells slots : Nat), lv_has ls 7 [(0, .ref r0), (1, .ref r1), (2, .int x2), (3, .ref r3), (4, .int x4), (5, .int x5), (6, .int x6)] → fx_F D h0 h H locs cells slots → W p l e R s m args below meth c H locs cells slots (fx_Z D below s h0 (fx_oV Q fx_no)) (F0 m 3 ls []) := by
  refine fx_loop.use hw (fun st => ∀ (ls : Array Slot) (H : Heap) (locs : List Loc) (cells slots : Nat), lv_has ls 7 [(0, .ref r0), (1, .ref r1), (2, .int x2), (3, .ref r3), (4, .int x4), (5, .int x5), (6, .int st.1)] → fx_F D h0 st.2 H locs cells slots → W p l e R s m args below meth c H locs cells slots (fx_Z D below s h0 (fx_oV Q fx_no)) (F0 m 3 ls [])) (fun X3 st hX3 hw => ?_)
  obtain ⟨x6, h⟩ := st
  replace hw : m_M_keyed_3_b Q X3 r0 r1 x2 r3 x4 x5 x6 h := hw
  unfold m_M_keyed_3_b at hw
  intro ls H locs cells slots hv F
  refine lv_iload C.ex C.by d_M_keyed_3 (lv_at hv 6 rfl) ?_
  refine lv_bipush (v := (64 : Int32)) C.ex C.by d_M_keyed_5 (by decide) ?_
  refine lv_icmp_ge C.ex C.by d_M_keyed_7 rfl (fun hc => ?_) (fun hc => ?_)
  · replace hw := hw.1 hc
    refine lv_iconst (v := (0 : Int32)) C.ex C.by d_M_keyed_44 (by decide) ?_
    refine lv_istore (lv' := [(6, .int (0 : Int32)), (0, .ref r0), (1, .ref r1), (2, .int x2), (3, .ref r3), (4, .int x4), (5, .int x5)]) C.ex C.by d_M_keyed_45 hv (by decide) rfl (fun ls hv => ?_)
    exact b_M_keyed_47 C hl _ _ _ _ _ _ _ _ hw _ _ _ _ _ (lv_sub hv [1, 2, 3, 4, 5, 6, 0] rfl) F
  · replace hw := hw.2 hc
    refine lv_aload_n C.ex C.by d_M_keyed_10 rfl (lv_at hv 0 rfl) ?_
    obtain ⟨hk1, hw⟩ := hw
    obtain ⟨b1, hb1, hw⟩ := hw
    refine fx_getR C F lf_M_52 hk1 rfl hb1 d_M_keyed_11 ?_
    refine lv_iload C.ex C.by d_M_keyed_14 (lv_at hv 6 rfl) ?_
    refine lv_iload C.ex C.by d_M_keyed_16 (lv_at hv 6 rfl) ?_
    refine lv_bipush (v := (32 : Int32)) C.ex C.by d_M_keyed_18 (by decide) ?_
    refine lv_icmp_ge C.ex C.by d_M_keyed_20 rfl (fun hc => ?_) (fun hc => ?_)
    · replace hw := hw.1 hc
      refine lv_iconst (v := (0 : Int32)) C.ex C.by d_M_keyed_32 (by decide) ?_
      exact b_M_keyed_33 C hl _ _ _ _ _ _ _ _ _ _ _ hX3 hw _ _ _ _ _ hv F
    · replace hw := hw.2 hc
      refine lv_aload_n C.ex C.by d_M_keyed_23 rfl (lv_at hv 1 rfl) ?_
      refine lv_iload_n C.ex C.by d_M_keyed_24 rfl (lv_at hv 2 rfl) ?_
      refine lv_iload C.ex C.by d_M_keyed_25 (lv_at hv 6 rfl) ?_
      refine lv_iadd C.ex C.by d_M_keyed_27 ?_
      obtain ⟨hk2, hw⟩ := hw
      obtain ⟨hi1, hw⟩ := hw
      refine fx_bald C F hk2 hi1 d_M_keyed_28 (fun h8 => ?_)
      replace hw := hw h8
      refine lv_goto C.ex C.by d_M_keyed_29 rfl ?_
      exact b_M_keyed_33 C hl _ _ _ _ _ _ _ _ _ _ _ hX3 hw _ _ _ _ _ hv F
theorem b_M_keyed_0 {p : Program} {l : Launch} {e : Env} {R : Room} {s : State} {m : MethodId} {args : Array Value} {below : List Frame} {meth : Method} {c : Code} {D : DD} {h0 : AH} {Q : AH → Prop} (C : fx_CX D y_M_keyed prog_15_method_13_code 7 3 58 (none) [] h0 p R s m meth c) (hl : l.flags = flags0) (r0 : Nat) (r1 : Nat) (x2 : Int32) (r3 : Nat) (x4 : Int32) (x5 : Int32) (h : AH) (hw : m_M_keyed Q r0 r1 x2 r3 x4 x5 h) : ∀ (ls : Array Slot) (H : Heap) (locs : List Loc) (cells slots : Nat), lv_has ls 7 [(0, .ref r0), (1, .ref r1), (2, .int x2), (3, .ref r3), (4, .int x4), (5, .int x5)] → fx_F D h0 h H locs cells slots → W p l e R s m args below meth c H locs cells slots (fx_Z D below s h0 (fx_oV Q fx_no)) (F0 m 0 ls []) := by
  unfold m_M_keyed at hw
  intro ls H locs cells slots hv F
  refine lv_iconst (v := (0 : Int32)) C.ex C.by d_M_keyed_0 (by decide) ?_
  refine lv_istore (lv' := [(6, .int (0 : Int32)), (0, .ref r0), (1, .ref r1), (2, .int x2), (3, .ref r3), (4, .int x4), (5, .int x5)]) C.ex C.by d_M_keyed_1 hv (by decide) rfl (fun ls hv => ?_)
  exact b_M_keyed_3 C hl _ _ _ _ _ _ _ _ hw _ _ _ _ _ (lv_sub hv [1, 2, 3, 4, 5, 6, 0] rfl) F
theorem hm_M_keyed : fx_hd y_M_keyed prog_15_method_13_code 7 (none) [] ∈ tables_1 := (fx_m7 (List.mem_of_getElem? (i := 129) rfl))
theorem hi_M_keyed : Cond.initialized y_M_keyed.cls ∈ tables_1 := (fx_m1 (List.mem_of_getElem? (i := 15) rfl))
theorem c_M_keyed {l : Launch} (hl : l.flags = flags0) {D : DD} {Q : AH → Prop} {r0 : Nat} {r1 : Nat} {x2 : Int32} {r3 : Nat} {x4 : Int32} {x5 : Int32} {h : AH} (hw : m_M_keyed Q r0 r1 x2 r3 x4 x5 h) : fx_Mt l D y_M_keyed (fx_hd y_M_keyed prog_15_method_13_code 7 (none) []) 3 58 [.ref r0, .ref r1, .int x2, .ref r3, .int x4, .int x5] h (fx_oV Q fx_no) := by
  refine fx_ofW (plainFor_of_name (by decide)) (fun p e s m below meth c C F => ?_)
  have hv := lv_entry ([.ref r0, .ref r1, .int x2, .ref r3, .int x4, .int x5]) (n := 7) (Nat.le_of_ble_eq_true rfl)
  rw [lg_entry_eq]
  generalize (lg_sl ([.ref r0, .ref r1, .int x2, .ref r3, .int x4, .int x5]) ++ List.replicate (7 - (lg_sl ([.ref r0, .ref r1, .int x2, .ref r3, .int x4, .int x5])).length) Slot.unset).toArray = ls at hv ⊢
  have hv : lv_has ls 7 [(0, .ref r0), (1, .ref r1), (2, .int x2), (3, .ref r3), (4, .int x4), (5, .int x5)] := hv
  exact b_M_keyed_0 C hl _ _ _ _ _ _ _ hw _ _ _ _ _ hv F
/-! ChainJudgeModel.full(I)Z: frames 0, words 0 -/
abbrev y_M_full : MethodName := ⟨"ChainJudgeModel", "full", "(I)Z"⟩
def dl_M_full : List (Nat × Instr × Nat) := [(0, .aload_n 0, 1), (1, .getfield 350, 3), (4, .sipush 1000, 3), (7, .if_icmp .eq 19, 3), (10, .aload_n 0, 1), (11, .getfield 24, 3), (14, .aload_n 0, 1), (15, .getfield 350, 3), (18, .iaload, 1), (19, .iload_n 1, 1), (20, .iadd, 1), (21, .ldc 20, 2), (23, .if_icmp .le 7, 3), (26, .iconst 1, 1), (27, .goto 4, 3), (30, .iconst 0, 1), (31, .ireturn, 1)]
theorem dk_M_full : fx_dec prog_15_method_49_code dl_M_full = true := by decide +kernel
theorem d_M_full_0 : decode prog_15_method_49_code 0 = .ok (.aload_n 0, 1) := fx_dat dk_M_full 0 rfl
theorem d_M_full_1 : decode prog_15_method_49_code 1 = .ok (.getfield 350, 3) := fx_dat dk_M_full 1 rfl
theorem d_M_full_4 : decode prog_15_method_49_code 4 = .ok (.sipush 1000, 3) := fx_dat dk_M_full 2 rfl
theorem d_M_full_7 : decode prog_15_method_49_code 7 = .ok (.if_icmp .eq 19, 3) := fx_dat dk_M_full 3 rfl
theorem d_M_full_10 : decode prog_15_method_49_code 10 = .ok (.aload_n 0, 1) := fx_dat dk_M_full 4 rfl
theorem d_M_full_11 : decode prog_15_method_49_code 11 = .ok (.getfield 24, 3) := fx_dat dk_M_full 5 rfl
theorem d_M_full_14 : decode prog_15_method_49_code 14 = .ok (.aload_n 0, 1) := fx_dat dk_M_full 6 rfl
theorem d_M_full_15 : decode prog_15_method_49_code 15 = .ok (.getfield 350, 3) := fx_dat dk_M_full 7 rfl
theorem d_M_full_18 : decode prog_15_method_49_code 18 = .ok (.iaload, 1) := fx_dat dk_M_full 8 rfl
theorem d_M_full_19 : decode prog_15_method_49_code 19 = .ok (.iload_n 1, 1) := fx_dat dk_M_full 9 rfl
theorem d_M_full_20 : decode prog_15_method_49_code 20 = .ok (.iadd, 1) := fx_dat dk_M_full 10 rfl
theorem d_M_full_21 : decode prog_15_method_49_code 21 = .ok (.ldc 20, 2) := fx_dat dk_M_full 11 rfl
theorem d_M_full_23 : decode prog_15_method_49_code 23 = .ok (.if_icmp .le 7, 3) := fx_dat dk_M_full 12 rfl
theorem d_M_full_26 : decode prog_15_method_49_code 26 = .ok (.iconst 1, 1) := fx_dat dk_M_full 13 rfl
theorem d_M_full_27 : decode prog_15_method_49_code 27 = .ok (.goto 4, 3) := fx_dat dk_M_full 14 rfl
theorem d_M_full_30 : decode prog_15_method_49_code 30 = .ok (.iconst 0, 1) := fx_dat dk_M_full 15 rfl
theorem d_M_full_31 : decode prog_15_method_49_code 31 = .ok (.ireturn, 1) := fx_dat dk_M_full 16 rfl
def m_M_full_31 (Q : Int32 → AH → Prop) (sx0 : Int32) (h : AH) : Prop := zb sx0 ∧ Q sx0 h
def m_M_full_26 (Q : Int32 → AH → Prop) (h : AH) : Prop := m_M_full_31 Q (1 : Int32) h
def m_M_full (Q : Int32 → AH → Prop) (r0 : Nat) (x1 : Int32) (h : AH) : Prop := hp_k h r0 = 13 ∧ ((hp_I h r0 10) = (1000 : Int32) → m_M_full_26 Q h) ∧ (¬ (hp_I h r0 10) = (1000 : Int32) → ∃ b1, hp_R h r0 8 = some b1 ∧ ik (hp_k h b1) ∧ vp_in (hp_I h r0 10) (hp_n h b1) ∧ (((hp_I h b1 ((hp_I h r0 10)).toNatClampNeg) + x1) ≤ (262144 : Int32) → m_M_full_31 Q (0 : Int32) h) ∧ (¬ ((hp_I h b1 ((hp_I h r0 10)).toNatClampNeg) + x1) ≤ (262144 : Int32) → m_M_full_26 Q h))
theorem b_M_full_31 {p : Program} {l : Launch} {e : Env} {R : Room} {s : State} {m : MethodId} {args : Array Value} {below : List Frame} {meth : Method} {c : Code} {D : DD} {h0 : AH} {Q : Int32 → AH → Prop} (C : fx_CX D y_M_full prog_15_method_49_code 2 0 0 (Option.some FieldType.boolean) [] h0 p R s m meth c) (hl : l.flags = flags0) (sx0 : Int32) (h : AH) (hw : m_M_full_31 Q sx0 h) : ∀ (ls : Array Slot) (H : Heap) (locs : List Loc) (cells slots : Nat), lv_has ls 2 [] → fx_F D h0 h H locs cells slots → W p l e R s m args below meth c H locs cells slots (fx_Z D below s h0 (fx_oZ Q fx_no)) (F0 m 31 ls [.int sx0]) := by
  unfold m_M_full_31 at hw
  intro ls H locs cells slots hv F
  exact fx_zret C F d_M_full_31 hw.1 (Or.inl ⟨_, rfl, hw.1, hw.2⟩)
theorem b_M_full_26 {p : Program} {l : Launch} {e : Env} {R : Room} {s : State} {m : MethodId} {args : Array Value} {below : List Frame} {meth : Method} {c : Code} {D : DD} {h0 : AH} {Q : Int32 → AH → Prop} (C : fx_CX D y_M_full prog_15_method_49_code 2 0 0 (Option.some FieldType.boolean) [] h0 p R s m meth c) (hl : l.flags = flags0) (h : AH) (hw : m_M_full_26 Q h) : ∀ (ls : Array Slot) (H : Heap) (locs : List Loc) (cells slots : Nat), lv_has ls 2 [] → fx_F D h0 h H locs cells slots → W p l e R s m args below meth c H locs cells slots (fx_Z D below s h0 (fx_oZ Q fx_no)) (F0 m 26 ls []) := by
  unfold m_M_full_26 at hw
  intro ls H locs cells slots hv F
  refine lv_iconst (v := (1 : Int32)) C.ex C.by d_M_full_26 (by decide) ?_
  refine lv_goto C.ex C.by d_M_full_27 rfl ?_
  exact b_M_full_31 C hl _ _ hw _ _ _ _ _ hv F
theorem b_M_full_0 {p : Program} {l : Launch} {e : Env} {R : Room} {s : State} {m : MethodId} {args : Array Value} {below : List Frame} {meth : Method} {c : Code} {D : DD} {h0 : AH} {Q : Int32 → AH → Prop} (C : fx_CX D y_M_full prog_15_method_49_code 2 0 0 (Option.some FieldType.boolean) [] h0 p R s m meth c) (hl : l.flags = flags0) (r0 : Nat) (x1 : Int32) (h : AH) (hw : m_M_full Q r0 x1 h) : ∀ (ls : Array Slot) (H : Heap) (locs : List Loc) (cells slots : Nat), lv_has ls 2 [(0, .ref r0), (1, .int x1)] → fx_F D h0 h H locs cells slots → W p l e R s m args below meth c H locs cells slots (fx_Z D below s h0 (fx_oZ Q fx_no)) (F0 m 0 ls []) := by
  unfold m_M_full at hw
  intro ls H locs cells slots hv F
  refine lv_aload_n C.ex C.by d_M_full_0 rfl (lv_at hv 0 rfl) ?_
  obtain ⟨hk1, hw⟩ := hw
  refine fx_getI C F lf_M_350 hk1 rfl d_M_full_1 ?_
  refine lv_sipush (v := (1000 : Int32)) C.ex C.by d_M_full_4 (by decide) ?_
  refine lv_icmp_eq C.ex C.by d_M_full_7 rfl (fun hc => ?_) (fun hc => ?_)
  · replace hw := hw.1 hc
    exact b_M_full_26 C hl _ hw _ _ _ _ _ (lv_sub hv [] rfl) F
  · replace hw := hw.2 hc
    refine lv_aload_n C.ex C.by d_M_full_10 rfl (lv_at hv 0 rfl) ?_
    obtain ⟨b1, hb1, hw⟩ := hw
    refine fx_getR C F lf_M_24 hk1 rfl hb1 d_M_full_11 ?_
    refine lv_aload_n C.ex C.by d_M_full_14 rfl (lv_at hv 0 rfl) ?_
    refine fx_getI C F lf_M_350 hk1 rfl d_M_full_15 ?_
    obtain ⟨hk2, hw⟩ := hw
    obtain ⟨hi1, hw⟩ := hw
    refine fx_iald C F hk2 hi1 d_M_full_18 ?_
    refine lv_iload_n C.ex C.by d_M_full_19 rfl (lv_at hv 1 rfl) ?_
    refine lv_iadd C.ex C.by d_M_full_20 ?_
    refine lv_ldc (v := (262144 : Int32)) C.ex C.by C.ow (C.tw.at (fx_m5 (List.mem_of_getElem? (i := 223) rfl)) rfl rfl) d_M_full_21 ?_
    refine lv_icmp_le C.ex C.by d_M_full_23 rfl (fun hc => ?_) (fun hc => ?_)
    · replace hw := hw.1 hc
      refine lv_iconst (v := (0 : Int32)) C.ex C.by d_M_full_30 (by decide) ?_
      exact b_M_full_31 C hl _ _ hw _ _ _ _ _ (lv_sub hv [] rfl) F
    · replace hw := hw.2 hc
      exact b_M_full_26 C hl _ hw _ _ _ _ _ (lv_sub hv [] rfl) F
theorem hm_M_full : fx_hd y_M_full prog_15_method_49_code 2 (Option.some FieldType.boolean) [] ∈ tables_1 := (fx_m7 (List.mem_of_getElem? (i := 148) rfl))
theorem hi_M_full : Cond.initialized y_M_full.cls ∈ tables_1 := (fx_m1 (List.mem_of_getElem? (i := 15) rfl))
theorem c_M_full {l : Launch} (hl : l.flags = flags0) {D : DD} {Q : Int32 → AH → Prop} {r0 : Nat} {x1 : Int32} {h : AH} (hw : m_M_full Q r0 x1 h) : fx_Mt l D y_M_full (fx_hd y_M_full prog_15_method_49_code 2 (Option.some FieldType.boolean) []) 0 0 [.ref r0, .int x1] h (fx_oZ Q fx_no) := by
  refine fx_ofW (plainFor_of_name (by decide)) (fun p e s m below meth c C F => ?_)
  have hv := lv_entry ([.ref r0, .int x1]) (n := 2) (Nat.le_of_ble_eq_true rfl)
  rw [lg_entry_eq]
  generalize (lg_sl ([.ref r0, .int x1]) ++ List.replicate (2 - (lg_sl ([.ref r0, .int x1])).length) Slot.unset).toArray = ls at hv ⊢
  have hv : lv_has ls 2 [(0, .ref r0), (1, .int x1)] := hv
  exact b_M_full_0 C hl _ _ _ hw _ _ _ _ _ hv F
/-! ChainJudgeModel.added(II)I: frames 0, words 0 -/
abbrev y_M_added : MethodName := ⟨"ChainJudgeModel", "added", "(II)I"⟩
def dl_M_added : List (Nat × Instr × Nat) := [(0, .aload_n 0, 1), (1, .getfield 24, 3), (4, .aload_n 0, 1), (5, .getfield 350, 3), (8, .iconst 1, 1), (9, .iadd, 1), (10, .aload_n 0, 1), (11, .getfield 24, 3), (14, .aload_n 0, 1), (15, .getfield 350, 3), (18, .iaload, 1), (19, .iload_n 1, 1), (20, .iadd, 1), (21, .iastore, 1), (22, .aload_n 0, 1), (23, .getfield 28, 3), (26, .aload_n 0, 1), (27, .getfield 350, 3), (30, .iload_n 2, 1), (31, .iastore, 1), (32, .aload_n 0, 1), (33, .dup, 1), (34, .getfield 350, 3), (37, .iconst 1, 1), (38, .iadd, 1), (39, .putfield 350, 3), (42, .aload_n 0, 1), (43, .getfield 350, 3), (46, .iconst 1, 1), (47, .isub, 1), (48, .ireturn, 1)]
theorem dk_M_added : fx_dec prog_15_method_50_code dl_M_added = true := by decide +kernel
theorem d_M_added_0 : decode prog_15_method_50_code 0 = .ok (.aload_n 0, 1) := fx_dat dk_M_added 0 rfl
theorem d_M_added_1 : decode prog_15_method_50_code 1 = .ok (.getfield 24, 3) := fx_dat dk_M_added 1 rfl
theorem d_M_added_4 : decode prog_15_method_50_code 4 = .ok (.aload_n 0, 1) := fx_dat dk_M_added 2 rfl
theorem d_M_added_5 : decode prog_15_method_50_code 5 = .ok (.getfield 350, 3) := fx_dat dk_M_added 3 rfl
theorem d_M_added_8 : decode prog_15_method_50_code 8 = .ok (.iconst 1, 1) := fx_dat dk_M_added 4 rfl
theorem d_M_added_9 : decode prog_15_method_50_code 9 = .ok (.iadd, 1) := fx_dat dk_M_added 5 rfl
theorem d_M_added_10 : decode prog_15_method_50_code 10 = .ok (.aload_n 0, 1) := fx_dat dk_M_added 6 rfl
theorem d_M_added_11 : decode prog_15_method_50_code 11 = .ok (.getfield 24, 3) := fx_dat dk_M_added 7 rfl
theorem d_M_added_14 : decode prog_15_method_50_code 14 = .ok (.aload_n 0, 1) := fx_dat dk_M_added 8 rfl
theorem d_M_added_15 : decode prog_15_method_50_code 15 = .ok (.getfield 350, 3) := fx_dat dk_M_added 9 rfl
theorem d_M_added_18 : decode prog_15_method_50_code 18 = .ok (.iaload, 1) := fx_dat dk_M_added 10 rfl
theorem d_M_added_19 : decode prog_15_method_50_code 19 = .ok (.iload_n 1, 1) := fx_dat dk_M_added 11 rfl
theorem d_M_added_20 : decode prog_15_method_50_code 20 = .ok (.iadd, 1) := fx_dat dk_M_added 12 rfl
theorem d_M_added_21 : decode prog_15_method_50_code 21 = .ok (.iastore, 1) := fx_dat dk_M_added 13 rfl
theorem d_M_added_22 : decode prog_15_method_50_code 22 = .ok (.aload_n 0, 1) := fx_dat dk_M_added 14 rfl
theorem d_M_added_23 : decode prog_15_method_50_code 23 = .ok (.getfield 28, 3) := fx_dat dk_M_added 15 rfl
theorem d_M_added_26 : decode prog_15_method_50_code 26 = .ok (.aload_n 0, 1) := fx_dat dk_M_added 16 rfl
theorem d_M_added_27 : decode prog_15_method_50_code 27 = .ok (.getfield 350, 3) := fx_dat dk_M_added 17 rfl
theorem d_M_added_30 : decode prog_15_method_50_code 30 = .ok (.iload_n 2, 1) := fx_dat dk_M_added 18 rfl
theorem d_M_added_31 : decode prog_15_method_50_code 31 = .ok (.iastore, 1) := fx_dat dk_M_added 19 rfl
theorem d_M_added_32 : decode prog_15_method_50_code 32 = .ok (.aload_n 0, 1) := fx_dat dk_M_added 20 rfl
theorem d_M_added_33 : decode prog_15_method_50_code 33 = .ok (.dup, 1) := fx_dat dk_M_added 21 rfl
theorem d_M_added_34 : decode prog_15_method_50_code 34 = .ok (.getfield 350, 3) := fx_dat dk_M_added 22 rfl
theorem d_M_added_37 : decode prog_15_method_50_code 37 = .ok (.iconst 1, 1) := fx_dat dk_M_added 23 rfl
theorem d_M_added_38 : decode prog_15_method_50_code 38 = .ok (.iadd, 1) := fx_dat dk_M_added 24 rfl
theorem d_M_added_39 : decode prog_15_method_50_code 39 = .ok (.putfield 350, 3) := fx_dat dk_M_added 25 rfl
theorem d_M_added_42 : decode prog_15_method_50_code 42 = .ok (.aload_n 0, 1) := fx_dat dk_M_added 26 rfl
theorem d_M_added_43 : decode prog_15_method_50_code 43 = .ok (.getfield 350, 3) := fx_dat dk_M_added 27 rfl
theorem d_M_added_46 : decode prog_15_method_50_code 46 = .ok (.iconst 1, 1) := fx_dat dk_M_added 28 rfl
theorem d_M_added_47 : decode prog_15_method_50_code 47 = .ok (.isub, 1) := fx_dat dk_M_added 29 rfl
theorem d_M_added_48 : decode prog_15_method_50_code 48 = .ok (.ireturn, 1) := fx_dat dk_M_added 30 rfl
def m_M_added (Q : Int32 → AH → Prop) (r0 : Nat) (x1 : Int32) (x2 : Int32) (h : AH) : Prop := hp_k h r0 = 13 ∧ ∃ b1, hp_R h r0 8 = some b1 ∧ ik (hp_k h b1) ∧ vp_in (hp_I h r0 10) (hp_n h b1) ∧ hp_k h b1 = 102 ∧ vp_in ((hp_I h r0 10) + (1 : Int32)) (hp_n h b1) ∧ ∀ h1 : AH, h1 = up_I h b1 (((hp_I h r0 10) + (1 : Int32))).toNatClampNeg ((hp_I h b1 ((hp_I h r0 10)).toNatClampNeg) + x1) → ∃ b2, hp_R h1 r0 9 = some b2 ∧ hp_k h1 b2 = 102 ∧ vp_in (hp_I h1 r0 10) (hp_n h1 b2) ∧ ∀ h2 : AH, h2 = up_I h1 b2 ((hp_I h1 r0 10)).toNatClampNeg x2 → ∀ h3 : AH, h3 = up_I h2 r0 10 ((hp_I h2 r0 10) + (1 : Int32)) → Q ((hp_I h3 r0 10) - (1 : Int32)) h3
theorem b_M_added_0 {p : Program} {l : Launch} {e : Env} {R : Room} {s : State} {m : MethodId} {args : Array Value} {below : List Frame} {meth : Method} {c : Code} {D : DD} {h0 : AH} {Q : Int32 → AH → Prop} (C : fx_CX D y_M_added prog_15_method_50_code 3 0 0 (Option.some FieldType.int) [] h0 p R s m meth c) (hl : l.flags = flags0) (r0 : Nat) (x1 : Int32) (x2 : Int32) (h : AH) (hw : m_M_added Q r0 x1 x2 h) : ∀ (ls : Array Slot) (H : Heap) (locs : List Loc) (cells slots : Nat), lv_has ls 3 [(0, .ref r0), (1, .int x1), (2, .int x2)] → fx_F D h0 h H locs cells slots → W p l e R s m args below meth c H locs cells slots (fx_Z D below s h0 (fx_oI Q fx_no)) (F0 m 0 ls []) := by
  unfold m_M_added at hw
  intro ls H locs cells slots hv F
  refine lv_aload_n C.ex C.by d_M_added_0 rfl (lv_at hv 0 rfl) ?_
  obtain ⟨hk1, hw⟩ := hw
  obtain ⟨b1, hb1, hw⟩ := hw
  refine fx_getR C F lf_M_24 hk1 rfl hb1 d_M_added_1 ?_
  refine lv_aload_n C.ex C.by d_M_added_4 rfl (lv_at hv 0 rfl) ?_
  refine fx_getI C F lf_M_350 hk1 rfl d_M_added_5 ?_
  refine lv_iconst (v := (1 : Int32)) C.ex C.by d_M_added_8 (by decide) ?_
  refine lv_iadd C.ex C.by d_M_added_9 ?_
  refine lv_aload_n C.ex C.by d_M_added_10 rfl (lv_at hv 0 rfl) ?_
  refine fx_getR C F lf_M_24 hk1 rfl hb1 d_M_added_11 ?_
  refine lv_aload_n C.ex C.by d_M_added_14 rfl (lv_at hv 0 rfl) ?_
  refine fx_getI C F lf_M_350 hk1 rfl d_M_added_15 ?_
  obtain ⟨hk2, hw⟩ := hw
  obtain ⟨hi1, hw⟩ := hw
  refine fx_iald C F hk2 hi1 d_M_added_18 ?_
  refine lv_iload_n C.ex C.by d_M_added_19 rfl (lv_at hv 1 rfl) ?_
  refine lv_iadd C.ex C.by d_M_added_20 ?_
  obtain ⟨hk3, hw⟩ := hw
  obtain ⟨hi2, hw⟩ := hw
  let h1 : AH := up_I h b1 (((hp_I h r0 10) + (1 : Int32))).toNatClampNeg ((hp_I h b1 ((hp_I h r0 10)).toNatClampNeg) + x1)
  replace hw := hw h1 rfl
  refine fx_iast C F hk3 hi2 d_M_added_21 (fun H locs (F : fx_F D h0 h1 H locs _ _) => ?_)
  refine lv_aload_n C.ex C.by d_M_added_22 rfl (lv_at hv 0 rfl) ?_
  obtain ⟨b2, hb2, hw⟩ := hw
  refine fx_getR C F lf_M_28 hk1 rfl hb2 d_M_added_23 ?_
  refine lv_aload_n C.ex C.by d_M_added_26 rfl (lv_at hv 0 rfl) ?_
  refine fx_getI C F lf_M_350 hk1 rfl d_M_added_27 ?_
  refine lv_iload_n C.ex C.by d_M_added_30 rfl (lv_at hv 2 rfl) ?_
  obtain ⟨hk4, hw⟩ := hw
  obtain ⟨hi3, hw⟩ := hw
  let h2 : AH := up_I h1 b2 ((hp_I h1 r0 10)).toNatClampNeg x2
  replace hw := hw h2 rfl
  refine fx_iast C F hk4 hi3 d_M_added_31 (fun H locs (F : fx_F D h0 h2 H locs _ _) => ?_)
  refine lv_aload_n C.ex C.by d_M_added_32 rfl (lv_at hv 0 rfl) ?_
  refine lv_dup C.ex C.by d_M_added_33 rfl ?_
  refine fx_getI C F lf_M_350 hk1 rfl d_M_added_34 ?_
  refine lv_iconst (v := (1 : Int32)) C.ex C.by d_M_added_37 (by decide) ?_
  refine lv_iadd C.ex C.by d_M_added_38 ?_
  let h3 : AH := up_I h2 r0 10 ((hp_I h2 r0 10) + (1 : Int32))
  replace hw := hw h3 rfl
  refine fx_putI C F lf_M_350 hk1 rfl rfl (fx_mayF.no rfl rfl) d_M_added_39 (fun H locs (F : fx_F D h0 h3 H locs _ _) => ?_)
  refine lv_aload_n C.ex C.by d_M_added_42 rfl (lv_at hv 0 rfl) ?_
  refine fx_getI C F lf_M_350 hk1 rfl d_M_added_43 ?_
  refine lv_iconst (v := (1 : Int32)) C.ex C.by d_M_added_46 (by decide) ?_
  refine lv_isub C.ex C.by d_M_added_47 ?_
  exact fx_iret C F d_M_added_48 (Or.inl ⟨_, rfl, hw⟩)
theorem hm_M_added : fx_hd y_M_added prog_15_method_50_code 3 (Option.some FieldType.int) [] ∈ tables_1 := (fx_m7 (List.mem_of_getElem? (i := 152) rfl))
theorem hi_M_added : Cond.initialized y_M_added.cls ∈ tables_1 := (fx_m1 (List.mem_of_getElem? (i := 15) rfl))
theorem c_M_added {l : Launch} (hl : l.flags = flags0) {D : DD} {Q : Int32 → AH → Prop} {r0 : Nat} {x1 : Int32} {x2 : Int32} {h : AH} (hw : m_M_added Q r0 x1 x2 h) : fx_Mt l D y_M_added (fx_hd y_M_added prog_15_method_50_code 3 (Option.some FieldType.int) []) 0 0 [.ref r0, .int x1, .int x2] h (fx_oI Q fx_no) := by
  refine fx_ofW (plainFor_of_name (by decide)) (fun p e s m below meth c C F => ?_)
  have hv := lv_entry ([.ref r0, .int x1, .int x2]) (n := 3) (Nat.le_of_ble_eq_true rfl)
  rw [lg_entry_eq]
  generalize (lg_sl ([.ref r0, .int x1, .int x2]) ++ List.replicate (3 - (lg_sl ([.ref r0, .int x1, .int x2])).length) Slot.unset).toArray = ls at hv ⊢
  have hv : lv_has ls 3 [(0, .ref r0), (1, .int x1), (2, .int x2)] := hv
  exact b_M_added_0 C hl _ _ _ _ hw _ _ _ _ _ hv F
