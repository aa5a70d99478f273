set_option maxRecDepth 10000
/-! ChainJudge$Issuer.time(J)V: frames 4, words 63 -/
abbrev y_Iss_time : MethodName := ⟨"ChainJudge$Issuer", "time", "(J)V"⟩
theorem lm_Iss_22 : Cond.methodLink "ChainJudge$Issuer" 22 y_J_days ∈ tables_1 ∨ ∃ host, Cond.methodLinkNest "ChainJudge$Issuer" 22 y_J_days host ∈ tables_1 := Or.inr ⟨_, (fx_m4 (List.mem_of_getElem? (i := 126) rfl))⟩
theorem lm_Iss_38 : Cond.methodLink "ChainJudge$Issuer" 38 y_Iss_two ∈ tables_1 ∨ ∃ host, Cond.methodLinkNest "ChainJudge$Issuer" 38 y_Iss_two host ∈ tables_1 := Or.inl (fx_m4 (List.mem_of_getElem? (i := 128) rfl))
section
variable {p : Program} {l : Launch} {e : Env} {R : Room} {s : State} {m : MethodId} {args : Array Value} {below : List Frame} {meth : Method} {c : Code} {H : Heap} {locs : List Loc} {cells slots : Nat}
variable {D : DD} {y : MethodName} {cc : ByteArray} {nL kf kw : Nat} {ret : Option FieldType} {hh : List (Nat × Nat × Nat × Nat)} {h0 h : AH} {pc : Nat} {ls : Array Slot} {rest : List Value} {b idx : Nat}
theorem iv_Iss_two {x1 : Int32} (C : fx_CX D y cc nL kf kw ret hh h0 p R s m meth c) (F : fx_F D h0 h H locs cells slots) (hw1 : Cond.methodLink y.cls idx y_Iss_two ∈ tables_1 ∨ ∃ host, Cond.methodLinkNest y.cls idx y_Iss_two host ∈ tables_1) (hk : hp_k h b = 10) (hd : decode cc pc = .ok (.invokevirtual idx, 3)) : fx_IV p l e R s m args below meth c H locs cells slots (F0 m pc ls (.int x1 :: .ref b :: rest)) rest y_Iss_two [.ref b, .int x1] 3 := fun T hT X => fx_invV (As := [.int x1]) (Cn := "ChainJudge$Issuer") C X hw1 (fx_m4 (List.mem_of_getElem? (i := 130) rfl)) (fx_selP C ⟨by decide, by decide⟩ (fx_m2 (List.mem_of_getElem? (i := 85) rfl)) (fx_m4 (List.mem_of_getElem? (i := 129) rfl)) (fx_m4 (List.mem_of_getElem? (i := 130) rfl))) hm_Iss_two ⟨by decide, by decide⟩ (by rw [hT]; exact fx_clsO (ci := 9) (r := ("ChainJudge$Issuer", fx_T9, 2)) C F rfl (by decide) hk) rfl (n := 1) (by decide +kernel) rfl rfl hd
end
def dl_Iss_time : List (Nat × Instr × Nat) := [(0, .lload_n 1, 1), (1, .ldc2_w 20, 3), (4, .ldiv, 1), (5, .lstore_n 3, 1), (6, .sipush 1970, 3), (9, .istore 5, 2), (11, .lload_n 3, 1), (12, .iload 5, 2), (14, .iconst 1, 1), (15, .iadd, 1), (16, .iconst 1, 1), (17, .iconst 1, 1), (18, .invokestatic 22, 3), (21, .lcmp, 1), (22, .ifCond .lt 9, 3), (25, .iinc 5 1, 3), (28, .goto (-17), 3), (31, .iconst 1, 1), (32, .istore 6, 2), (34, .iload 6, 2), (36, .bipush 12, 2), (38, .if_icmp .ge 24, 3), (41, .lload_n 3, 1), (42, .iload 5, 2), (44, .iload 6, 2), (46, .iconst 1, 1), (47, .iadd, 1), (48, .iconst 1, 1), (49, .invokestatic 22, 3), (52, .lcmp, 1), (53, .ifCond .lt 9, 3), (56, .iinc 6 1, 3), (59, .goto (-25), 3), (62, .lload_n 3, 1), (63, .iload 5, 2), (65, .iload 6, 2), (67, .iconst 1, 1), (68, .invokestatic 22, 3), (71, .lsub, 1), (72, .l2i, 1), (73, .iconst 1, 1), (74, .iadd, 1), (75, .istore 7, 2), (77, .lload_n 1, 1), (78, .ldc2_w 20, 3), (81, .lrem, 1), (82, .ldc2_w 28, 3), (85, .ldiv, 1), (86, .l2i, 1), (87, .istore 8, 2), (89, .lload_n 1, 1), (90, .ldc2_w 28, 3), (93, .lrem, 1), (94, .l2i, 1), (95, .istore 9, 2), (97, .aload_n 0, 1), (98, .getfield 10, 3), (101, .invokevirtual 30, 3), (104, .istore 10, 2), (106, .aload_n 0, 1), (107, .getfield 10, 3), (110, .bipush 90, 2), (112, .invokevirtual 34, 3), (115, .aload_n 0, 1), (116, .iconst 0, 1), (117, .invokevirtual 38, 3), (120, .aload_n 0, 1), (121, .iload 9, 2), (123, .invokevirtual 38, 3), (126, .aload_n 0, 1), (127, .iload 8, 2), (129, .invokevirtual 38, 3), (132, .aload_n 0, 1), (133, .iload 7, 2), (135, .invokevirtual 38, 3), (138, .aload_n 0, 1), (139, .iload 6, 2), (141, .invokevirtual 38, 3), (144, .aload_n 0, 1), (145, .iload 5, 2), (147, .bipush 100, 2), (149, .irem, 1), (150, .invokevirtual 38, 3), (153, .iload 5, 2), (155, .sipush 2050, 3), (158, .if_icmp .lt 12, 3), (161, .aload_n 0, 1), (162, .iload 5, 2), (164, .bipush 100, 2), (166, .idiv, 1), (167, .invokevirtual 38, 3), (170, .aload_n 0, 1), (171, .getfield 10, 3), (174, .iload 5, 2), (176, .sipush 2050, 3), (179, .if_icmp .lt 8, 3), (182, .bipush 24, 2), (184, .goto 5, 3), (187, .bipush 23, 2), (189, .iload 10, 2), (191, .invokevirtual 41, 3), (194, .return_, 1)]
theorem dk_Iss_time : fx_dec prog_5_method_2_code dl_Iss_time = true := by decide +kernel
theorem d_Iss_time_0 : decode prog_5_method_2_code 0 = .ok (.lload_n 1, 1) := fx_dat dk_Iss_time 0 rfl
theorem d_Iss_time_1 : decode prog_5_method_2_code 1 = .ok (.ldc2_w 20, 3) := fx_dat dk_Iss_time 1 rfl
theorem d_Iss_time_4 : decode prog_5_method_2_code 4 = .ok (.ldiv, 1) := fx_dat dk_Iss_time 2 rfl
theorem d_Iss_time_5 : decode prog_5_method_2_code 5 = .ok (.lstore_n 3, 1) := fx_dat dk_Iss_time 3 rfl
theorem d_Iss_time_6 : decode prog_5_method_2_code 6 = .ok (.sipush 1970, 3) := fx_dat dk_Iss_time 4 rfl
theorem d_Iss_time_9 : decode prog_5_method_2_code 9 = .ok (.istore 5, 2) := fx_dat dk_Iss_time 5 rfl
theorem d_Iss_time_11 : decode prog_5_method_2_code 11 = .ok (.lload_n 3, 1) := fx_dat dk_Iss_time 6 rfl
theorem d_Iss_time_12 : decode prog_5_method_2_code 12 = .ok (.iload 5, 2) := fx_dat dk_Iss_time 7 rfl
theorem d_Iss_time_14 : decode prog_5_method_2_code 14 = .ok (.iconst 1, 1) := fx_dat dk_Iss_time 8 rfl
theorem d_Iss_time_15 : decode prog_5_method_2_code 15 = .ok (.iadd, 1) := fx_dat dk_Iss_time 9 rfl
theorem d_Iss_time_16 : decode prog_5_method_2_code 16 = .ok (.iconst 1, 1) := fx_dat dk_Iss_time 10 rfl
theorem d_Iss_time_17 : decode prog_5_method_2_code 17 = .ok (.iconst 1, 1) := fx_dat dk_Iss_time 11 rfl
theorem d_Iss_time_18 : decode prog_5_method_2_code 18 = .ok (.invokestatic 22, 3) := fx_dat dk_Iss_time 12 rfl
theorem d_Iss_time_21 : decode prog_5_method_2_code 21 = .ok (.lcmp, 1) := fx_dat dk_Iss_time 13 rfl
theorem d_Iss_time_22 : decode prog_5_method_2_code 22 = .ok (.ifCond .lt 9, 3) := fx_dat dk_Iss_time 14 rfl
theorem d_Iss_time_25 : decode prog_5_method_2_code 25 = .ok (.iinc 5 1, 3) := fx_dat dk_Iss_time 15 rfl
theorem d_Iss_time_28 : decode prog_5_method_2_code 28 = .ok (.goto (-17), 3) := fx_dat dk_Iss_time 16 rfl
theorem d_Iss_time_31 : decode prog_5_method_2_code 31 = .ok (.iconst 1, 1) := fx_dat dk_Iss_time 17 rfl
theorem d_Iss_time_32 : decode prog_5_method_2_code 32 = .ok (.istore 6, 2) := fx_dat dk_Iss_time 18 rfl
theorem d_Iss_time_34 : decode prog_5_method_2_code 34 = .ok (.iload 6, 2) := fx_dat dk_Iss_time 19 rfl
theorem d_Iss_time_36 : decode prog_5_method_2_code 36 = .ok (.bipush 12, 2) := fx_dat dk_Iss_time 20 rfl
theorem d_Iss_time_38 : decode prog_5_method_2_code 38 = .ok (.if_icmp .ge 24, 3) := fx_dat dk_Iss_time 21 rfl
theorem d_Iss_time_41 : decode prog_5_method_2_code 41 = .ok (.lload_n 3, 1) := fx_dat dk_Iss_time 22 rfl
theorem d_Iss_time_42 : decode prog_5_method_2_code 42 = .ok (.iload 5, 2) := fx_dat dk_Iss_time 23 rfl
theorem d_Iss_time_44 : decode prog_5_method_2_code 44 = .ok (.iload 6, 2) := fx_dat dk_Iss_time 24 rfl
theorem d_Iss_time_46 : decode prog_5_method_2_code 46 = .ok (.iconst 1, 1) := fx_dat dk_Iss_time 25 rfl
theorem d_Iss_time_47 : decode prog_5_method_2_code 47 = .ok (.iadd, 1) := fx_dat dk_Iss_time 26 rfl
theorem d_Iss_time_48 : decode prog_5_method_2_code 48 = .ok (.iconst 1, 1) := fx_dat dk_Iss_time 27 rfl
theorem d_Iss_time_49 : decode prog_5_method_2_code 49 = .ok (.invokestatic 22, 3) := fx_dat dk_Iss_time 28 rfl
theorem d_Iss_time_52 : decode prog_5_method_2_code 52 = .ok (.lcmp, 1) := fx_dat dk_Iss_time 29 rfl
theorem d_Iss_time_53 : decode prog_5_method_2_code 53 = .ok (.ifCond .lt 9, 3) := fx_dat dk_Iss_time 30 rfl
theorem d_Iss_time_56 : decode prog_5_method_2_code 56 = .ok (.iinc 6 1, 3) := fx_dat dk_Iss_time 31 rfl
theorem d_Iss_time_59 : decode prog_5_method_2_code 59 = .ok (.goto (-25), 3) := fx_dat dk_Iss_time 32 rfl
theorem d_Iss_time_62 : decode prog_5_method_2_code 62 = .ok (.lload_n 3, 1) := fx_dat dk_Iss_time 33 rfl
theorem d_Iss_time_63 : decode prog_5_method_2_code 63 = .ok (.iload 5, 2) := fx_dat dk_Iss_time 34 rfl
theorem d_Iss_time_65 : decode prog_5_method_2_code 65 = .ok (.iload 6, 2) := fx_dat dk_Iss_time 35 rfl
theorem d_Iss_time_67 : decode prog_5_method_2_code 67 = .ok (.iconst 1, 1) := fx_dat dk_Iss_time 36 rfl
theorem d_Iss_time_68 : decode prog_5_method_2_code 68 = .ok (.invokestatic 22, 3) := fx_dat dk_Iss_time 37 rfl
theorem d_Iss_time_71 : decode prog_5_method_2_code 71 = .ok (.lsub, 1) := fx_dat dk_Iss_time 38 rfl
theorem d_Iss_time_72 : decode prog_5_method_2_code 72 = .ok (.l2i, 1) := fx_dat dk_Iss_time 39 rfl
theorem d_Iss_time_73 : decode prog_5_method_2_code 73 = .ok (.iconst 1, 1) := fx_dat dk_Iss_time 40 rfl
theorem d_Iss_time_74 : decode prog_5_method_2_code 74 = .ok (.iadd, 1) := fx_dat dk_Iss_time 41 rfl
theorem d_Iss_time_75 : decode prog_5_method_2_code 75 = .ok (.istore 7, 2) := fx_dat dk_Iss_time 42 rfl
theorem d_Iss_time_77 : decode prog_5_method_2_code 77 = .ok (.lload_n 1, 1) := fx_dat dk_Iss_time 43 rfl
theorem d_Iss_time_78 : decode prog_5_method_2_code 78 = .ok (.ldc2_w 20, 3) := fx_dat dk_Iss_time 44 rfl
theorem d_Iss_time_81 : decode prog_5_method_2_code 81 = .ok (.lrem, 1) := fx_dat dk_Iss_time 45 rfl
theorem d_Iss_time_82 : decode prog_5_method_2_code 82 = .ok (.ldc2_w 28, 3) := fx_dat dk_Iss_time 46 rfl
theorem d_Iss_time_85 : decode prog_5_method_2_code 85 = .ok (.ldiv, 1) := fx_dat dk_Iss_time 47 rfl
theorem d_Iss_time_86 : decode prog_5_method_2_code 86 = .ok (.l2i, 1) := fx_dat dk_Iss_time 48 rfl
theorem d_Iss_time_87 : decode prog_5_method_2_code 87 = .ok (.istore 8, 2) := fx_dat dk_Iss_time 49 rfl
theorem d_Iss_time_89 : decode prog_5_method_2_code 89 = .ok (.lload_n 1, 1) := fx_dat dk_Iss_time 50 rfl
theorem d_Iss_time_90 : decode prog_5_method_2_code 90 = .ok (.ldc2_w 28, 3) := fx_dat dk_Iss_time 51 rfl
theorem d_Iss_time_93 : decode prog_5_method_2_code 93 = .ok (.lrem, 1) := fx_dat dk_Iss_time 52 rfl
theorem d_Iss_time_94 : decode prog_5_method_2_code 94 = .ok (.l2i, 1) := fx_dat dk_Iss_time 53 rfl
theorem d_Iss_time_95 : decode prog_5_method_2_code 95 = .ok (.istore 9, 2) := fx_dat dk_Iss_time 54 rfl
theorem d_Iss_time_97 : decode prog_5_method_2_code 97 = .ok (.aload_n 0, 1) := fx_dat dk_Iss_time 55 rfl
theorem d_Iss_time_98 : decode prog_5_method_2_code 98 = .ok (.getfield 10, 3) := fx_dat dk_Iss_time 56 rfl
theorem d_Iss_time_101 : decode prog_5_method_2_code 101 = .ok (.invokevirtual 30, 3) := fx_dat dk_Iss_time 57 rfl
theorem d_Iss_time_104 : decode prog_5_method_2_code 104 = .ok (.istore 10, 2) := fx_dat dk_Iss_time 58 rfl
theorem d_Iss_time_106 : decode prog_5_method_2_code 106 = .ok (.aload_n 0, 1) := fx_dat dk_Iss_time 59 rfl
theorem d_Iss_time_107 : decode prog_5_method_2_code 107 = .ok (.getfield 10, 3) := fx_dat dk_Iss_time 60 rfl
theorem d_Iss_time_110 : decode prog_5_method_2_code 110 = .ok (.bipush 90, 2) := fx_dat dk_Iss_time 61 rfl
theorem d_Iss_time_112 : decode prog_5_method_2_code 112 = .ok (.invokevirtual 34, 3) := fx_dat dk_Iss_time 62 rfl
theorem d_Iss_time_115 : decode prog_5_method_2_code 115 = .ok (.aload_n 0, 1) := fx_dat dk_Iss_time 63 rfl
theorem d_Iss_time_116 : decode prog_5_method_2_code 116 = .ok (.iconst 0, 1) := fx_dat dk_Iss_time 64 rfl
theorem d_Iss_time_117 : decode prog_5_method_2_code 117 = .ok (.invokevirtual 38, 3) := fx_dat dk_Iss_time 65 rfl
theorem d_Iss_time_120 : decode prog_5_method_2_code 120 = .ok (.aload_n 0, 1) := fx_dat dk_Iss_time 66 rfl
theorem d_Iss_time_121 : decode prog_5_method_2_code 121 = .ok (.iload 9, 2) := fx_dat dk_Iss_time 67 rfl
theorem d_Iss_time_123 : decode prog_5_method_2_code 123 = .ok (.invokevirtual 38, 3) := fx_dat dk_Iss_time 68 rfl
theorem d_Iss_time_126 : decode prog_5_method_2_code 126 = .ok (.aload_n 0, 1) := fx_dat dk_Iss_time 69 rfl
theorem d_Iss_time_127 : decode prog_5_method_2_code 127 = .ok (.iload 8, 2) := fx_dat dk_Iss_time 70 rfl
theorem d_Iss_time_129 : decode prog_5_method_2_code 129 = .ok (.invokevirtual 38, 3) := fx_dat dk_Iss_time 71 rfl
theorem d_Iss_time_132 : decode prog_5_method_2_code 132 = .ok (.aload_n 0, 1) := fx_dat dk_Iss_time 72 rfl
theorem d_Iss_time_133 : decode prog_5_method_2_code 133 = .ok (.iload 7, 2) := fx_dat dk_Iss_time 73 rfl
theorem d_Iss_time_135 : decode prog_5_method_2_code 135 = .ok (.invokevirtual 38, 3) := fx_dat dk_Iss_time 74 rfl
theorem d_Iss_time_138 : decode prog_5_method_2_code 138 = .ok (.aload_n 0, 1) := fx_dat dk_Iss_time 75 rfl
theorem d_Iss_time_139 : decode prog_5_method_2_code 139 = .ok (.iload 6, 2) := fx_dat dk_Iss_time 76 rfl
theorem d_Iss_time_141 : decode prog_5_method_2_code 141 = .ok (.invokevirtual 38, 3) := fx_dat dk_Iss_time 77 rfl
theorem d_Iss_time_144 : decode prog_5_method_2_code 144 = .ok (.aload_n 0, 1) := fx_dat dk_Iss_time 78 rfl
theorem d_Iss_time_145 : decode prog_5_method_2_code 145 = .ok (.iload 5, 2) := fx_dat dk_Iss_time 79 rfl
theorem d_Iss_time_147 : decode prog_5_method_2_code 147 = .ok (.bipush 100, 2) := fx_dat dk_Iss_time 80 rfl
theorem d_Iss_time_149 : decode prog_5_method_2_code 149 = .ok (.irem, 1) := fx_dat dk_Iss_time 81 rfl
theorem d_Iss_time_150 : decode prog_5_method_2_code 150 = .ok (.invokevirtual 38, 3) := fx_dat dk_Iss_time 82 rfl
theorem d_Iss_time_153 : decode prog_5_method_2_code 153 = .ok (.iload 5, 2) := fx_dat dk_Iss_time 83 rfl
theorem d_Iss_time_155 : decode prog_5_method_2_code 155 = .ok (.sipush 2050, 3) := fx_dat dk_Iss_time 84 rfl
theorem d_Iss_time_158 : decode prog_5_method_2_code 158 = .ok (.if_icmp .lt 12, 3) := fx_dat dk_Iss_time 85 rfl
theorem d_Iss_time_161 : decode prog_5_method_2_code 161 = .ok (.aload_n 0, 1) := fx_dat dk_Iss_time 86 rfl
theorem d_Iss_time_162 : decode prog_5_method_2_code 162 = .ok (.iload 5, 2) := fx_dat dk_Iss_time 87 rfl
theorem d_Iss_time_164 : decode prog_5_method_2_code 164 = .ok (.bipush 100, 2) := fx_dat dk_Iss_time 88 rfl
theorem d_Iss_time_166 : decode prog_5_method_2_code 166 = .ok (.idiv, 1) := fx_dat dk_Iss_time 89 rfl
theorem d_Iss_time_167 : decode prog_5_method_2_code 167 = .ok (.invokevirtual 38, 3) := fx_dat dk_Iss_time 90 rfl
theorem d_Iss_time_170 : decode prog_5_method_2_code 170 = .ok (.aload_n 0, 1) := fx_dat dk_Iss_time 91 rfl
theorem d_Iss_time_171 : decode prog_5_method_2_code 171 = .ok (.getfield 10, 3) := fx_dat dk_Iss_time 92 rfl
theorem d_Iss_time_174 : decode prog_5_method_2_code 174 = .ok (.iload 5, 2) := fx_dat dk_Iss_time 93 rfl
theorem d_Iss_time_176 : decode prog_5_method_2_code 176 = .ok (.sipush 2050, 3) := fx_dat dk_Iss_time 94 rfl
theorem d_Iss_time_179 : decode prog_5_method_2_code 179 = .ok (.if_icmp .lt 8, 3) := fx_dat dk_Iss_time 95 rfl
theorem d_Iss_time_182 : decode prog_5_method_2_code 182 = .ok (.bipush 24, 2) := fx_dat dk_Iss_time 96 rfl
theorem d_Iss_time_184 : decode prog_5_method_2_code 184 = .ok (.goto 5, 3) := fx_dat dk_Iss_time 97 rfl
theorem d_Iss_time_187 : decode prog_5_method_2_code 187 = .ok (.bipush 23, 2) := fx_dat dk_Iss_time 98 rfl
theorem d_Iss_time_189 : decode prog_5_method_2_code 189 = .ok (.iload 10, 2) := fx_dat dk_Iss_time 99 rfl
theorem d_Iss_time_191 : decode prog_5_method_2_code 191 = .ok (.invokevirtual 41, 3) := fx_dat dk_Iss_time 100 rfl
theorem d_Iss_time_194 : decode prog_5_method_2_code 194 = .ok (.return_, 1) := fx_dat dk_Iss_time 101 rfl
def m_Iss_time_189 (Q : AH → Prop) (x10 : Int32) (sr0 : Nat) (sx1 : Int32) (h : AH) : Prop := hp_k h sr0 = 11 ∧ m_Wr_wrap (fun h1 => fx_ext h h1 → Q h1) sr0 sx1 x10 h
def m_Iss_time_170 (Q : AH → Prop) (r0 : Nat) (x5 : Int32) (x10 : Int32) (h : AH) : Prop := hp_k h r0 = 10 ∧ ∃ b1, hp_R h r0 0 = some b1 ∧ (x5 < (2050 : Int32) → m_Iss_time_189 Q x10 b1 (23 : Int32) h) ∧ (¬ x5 < (2050 : Int32) → m_Iss_time_189 Q x10 b1 (24 : Int32) h)
def m_Iss_time_62 (Q : AH → Prop) (r0 : Nat) (w1 : Int64) (w3 : Int64) (x5 : Int32) (x6 : Int32) (h : AH) : Prop := m_J_days (fun u1 h1 => fx_ext h h1 → ∀ v1 : Int32, v1 = ((((w3 - u1)).toInt32) + (1 : Int32)) → ∀ v2 : Int32, v2 = ((((w1 - w1 / (1440 : Int64) * (1440 : Int64)) / (60 : Int64))).toInt32) → ∀ v3 : Int32, v3 = (((w1 - w1 / (60 : Int64) * (60 : Int64))).toInt32) → hp_k h1 r0 = 10 ∧ ∃ b1, hp_R h1 r0 0 = some b1 ∧ hp_k h1 b1 = 11 ∧ m_Wr_size (fun v4 h2 => fx_ext h1 h2 → ∃ b2, hp_R h2 r0 0 = some b2 ∧ hp_k h2 b2 = 11 ∧ m_Wr_one (fun h3 => fx_ext h2 h3 → m_Iss_two (fun h4 => fx_ext h3 h4 → m_Iss_two (fun h5 => fx_ext h4 h5 → m_Iss_two (fun h6 => fx_ext h5 h6 → m_Iss_two (fun h7 => fx_ext h6 h7 → m_Iss_two (fun h8 => fx_ext h7 h8 → m_Iss_two (fun h9 => fx_ext h8 h9 → (x5 < (2050 : Int32) → m_Iss_time_170 Q r0 x5 v4 h9) ∧ (¬ x5 < (2050 : Int32) → m_Iss_two (fun h10 => fx_ext h9 h10 → m_Iss_time_170 Q r0 x5 v4 h10) r0 (x5 / (100 : Int32)) h9)) r0 (x5 - x5 / (100 : Int32) * (100 : Int32)) h8) r0 x6 h7) r0 v1 h6) r0 v2 h5) r0 v3 h4) r0 (0 : Int32) h3) b2 (90 : Int32) h2) b1 h1) x5 x6 (1 : Int32) h
def m_Iss_time_34_b (Q : AH → Prop) (X34 : Int32 × AH → Prop) (r0 : Nat) (w1 : Int64) (w3 : Int64) (x5 : Int32) (x6 : Int32) (h : AH) : Prop := ((12 : Int32) ≤ x6 → m_Iss_time_62 Q r0 w1 w3 x5 x6 h) ∧ (¬ (12 : Int32) ≤ x6 → m_J_days (fun u1 h1 => fx_ext h h1 → ((lg_cmp w3 u1) < 0 → m_Iss_time_62 Q r0 w1 w3 x5 x6 h1) ∧ (¬ (lg_cmp w3 u1) < 0 → ∀ v1 : Int32, v1 = (x6 + (1 : Int32)) → X34 (v1, h1))) x5 (x6 + (1 : Int32)) (1 : Int32) h)
def m_Iss_time_34 (Q : AH → Prop) (r0 : Nat) (w1 : Int64) (w3 : Int64) (x5 : Int32) (x6 : Int32) (h : AH) : Prop := fx_loop (fun (X34 : Int32 × AH → Prop) (st : Int32 × AH) => m_Iss_time_34_b Q X34 r0 w1 w3 x5 st.1 st.2) (x6, h)
def m_Iss_time_11_b (Q : AH → Prop) (X11 : Int32 × AH → Prop) (r0 : Nat) (w1 : Int64) (w3 : Int64) (x5 : Int32) (h : AH) : Prop := m_J_days (fun u1 h1 => fx_ext h h1 → ((lg_cmp w3 u1) < 0 → m_Iss_time_34 Q r0 w1 w3 x5 (1 : Int32) h1) ∧ (¬ (lg_cmp w3 u1) < 0 → ∀ v1 : Int32, v1 = (x5 + (1 : Int32)) → X11 (v1, h1))) (x5 + (1 : Int32)) (1 : Int32) (1 : Int32) h
def m_Iss_time_11 (Q : AH → Prop) (r0 : Nat) (w1 : Int64) (w3 : Int64) (x5 : Int32) (h : AH) : Prop := fx_loop (fun (X11 : Int32 × AH → Prop) (st : Int32 × AH) => m_Iss_time_11_b Q X11 r0 w1 w3 st.1 st.2) (x5, h)
def m_Iss_time (Q : AH → Prop) (r0 : Nat) (w1 : Int64) (h : AH) : Prop := ∀ u1 : Int64, u1 = (w1 / (1440 : Int64)) → m_Iss_time_11 Q r0 w1 u1 (1970 : Int32) h
theorem b_Iss_time_189 {p : Program} {l : Launch} {e : Env} {R : Room} {s : State} {m : MethodId} {args : Array Value} {below : List Frame} {meth : Method} {c : Code} {D : DD} {h0 : AH} {Q : AH → Prop} (C : fx_CX D y_Iss_time prog_5_method_2_code 11 4 63 (none) [] h0 p R s m meth c) (hl : l.flags = flags0) (x10 : Int32) (sr0 : Nat) (sx1 : Int32) (h : AH) (hw : m_Iss_time_189 Q x10 sr0 sx1 h) : ∀ (ls : Array Slot) (H : Heap) (locs : List Loc) (cells slots : Nat), lv_has ls 11 [(10, .int x10)] → fx_F D h0 h H locs cells slots → W p l e R s m args below meth c H locs cells slots (fx_Z D below s h0 (fx_oV Q fx_no)) (F0 m 189 ls [.int sx1, .ref sr0]) := by
  unfold m_Iss_time_189 at hw
  intro ls H locs cells slots hv F
  refine lv_iload C.ex C.by d_Iss_time_189 (lv_at hv 0 rfl) ?_
  obtain ⟨hk1, hw⟩ := hw
  refine fx_callV C F (c_Wr_wrap hl hw) hm_Wr_wrap hi_Wr_wrap hv.1 (by decide) (Nat.le_of_ble_eq_true rfl) (iv_Wr_wrap C F lm_Iss_41 hk1 d_Iss_time_191) (fx_out0 _) fx_eno (fun h1 H locs cells slots hw hx1 F => ?_)
  replace hw := hw hx1
  have hk1 := (hx1).k hk1
  exact fx_vret C F d_Iss_time_194 (Or.inl ⟨rfl, hw⟩)
theorem b_Iss_time_170 {p : Program} {l : Launch} {e : Env} {R : Room} {s : State} {m : MethodId} {args : Array Value} {below : List Frame} {meth : Method} {c : Code} {D : DD} {h0 : AH} {Q : AH → Prop} (C : fx_CX D y_Iss_time prog_5_method_2_code 11 4 63 (none) [] h0 p R s m meth c) (hl : l.flags = flags0) (r0 : Nat) (x5 : Int32) (x10 : Int32) (h : AH) (hw : m_Iss_time_170 Q r0 x5 x10 h) : ∀ (ls : Array Slot) (H : Heap) (locs : List Loc) (cells slots : Nat), lv_has ls 11 [(0, .ref r0), (5, .int x5), (10, .int x10)] → fx_F D h0 h H locs cells slots → W p l e R s m args below meth c H locs cells slots (fx_Z D below s h0 (fx_oV Q fx_no)) (F0 m 170 ls []) := by
  unfold m_Iss_time_170 at hw
  intro ls H locs cells slots hv F
  refine lv_aload_n C.ex C.by d_Iss_time_170 rfl (lv_at hv 0 rfl) ?_
  obtain ⟨hk1, hw⟩ := hw
  obtain ⟨b1, hb1, hw⟩ := hw
  refine fx_getR C F lf_Iss_10 hk1 rfl hb1 d_Iss_time_171 ?_
  refine lv_iload C.ex C.by d_Iss_time_174 (lv_at hv 1 rfl) ?_
  refine lv_sipush (v := (2050 : Int32)) C.ex C.by d_Iss_time_176 (by decide) ?_
  refine lv_icmp_lt C.ex C.by d_Iss_time_179 rfl (fun hc => ?_) (fun hc => ?_)
  · replace hw := hw.1 hc
    refine lv_bipush (v := (23 : Int32)) C.ex C.by d_Iss_time_187 (by decide) ?_
    exact b_Iss_time_189 C hl _ _ _ _ hw _ _ _ _ _ (lv_sub hv [2] rfl) F
  · replace hw := hw.2 hc
    refine lv_bipush (v := (24 : Int32)) C.ex C.by d_Iss_time_182 (by decide) ?_
    refine lv_goto C.ex C.by d_Iss_time_184 rfl ?_
    exact b_Iss_time_189 C hl _ _ _ _ hw _ _ _ _ _ (lv_sub hv [2] rfl) F
theorem b_Iss_time_62 {p : Program} {l : Launch} {e : Env} {R : Room} {s : State} {m : MethodId} {args : Array Value} {below : List Frame} {meth : Method} {c : Code} {D : DD} {h0 : AH} {Q : AH → Prop} (C : fx_CX D y_Iss_time prog_5_method_2_code 11 4 63 (none) [] h0 p R s m meth c) (hl : l.flags = flags0) (r0 : Nat) (w1 : Int64) (w3 : Int64) (x5 : Int32) (x6 : Int32) (h : AH) (hw : m_Iss_time_62 Q r0 w1 w3 x5 x6 h) : ∀ (ls : Array Slot) (H : Heap) (locs : List Loc) (cells slots : Nat), lv_has ls 11 [(0, .ref r0), (1, .long w1), (3, .long w3), (5, .int x5), (6, .int x6)] → fx_F D h0 h H locs cells slots → W p l e R s m args below meth c H locs cells slots (fx_Z D below s h0 (fx_oV Q fx_no)) (F0 m 62 ls []) := by
  unfold m_Iss_time_62 at hw
  intro ls H locs cells slots hv F
  refine lv_lload_n C.ex C.by d_Iss_time_62 rfl (lv_at hv 2 rfl) ?_
  refine lv_iload C.ex C.by d_Iss_time_63 (lv_at hv 3 rfl) ?_
  refine lv_iload C.ex C.by d_Iss_time_65 (lv_at hv 4 rfl) ?_
  refine lv_iconst (v := (1 : Int32)) C.ex C.by d_Iss_time_67 (by decide) ?_
  refine fx_callL C F (c_J_days hl hw) hm_J_days hi_J_days hv.1 (by decide) (Nat.le_of_ble_eq_true rfl) (iv_J_days C F lm_Iss_22 d_Iss_time_68) (fx_out0 _) fx_eno (fun u1 h1 H locs cells slots hw hx1 F => ?_)
  replace hw := hw hx1
  refine lv_lsub C.ex C.by d_Iss_time_71 ?_
  refine lv_l2i (v := (((w3 - u1)).toInt32)) C.ex C.by d_Iss_time_72 rfl ?_
  refine lv_iconst (v := (1 : Int32)) C.ex C.by d_Iss_time_73 (by decide) ?_
  refine lv_iadd C.ex C.by d_Iss_time_74 ?_
  let v1 : Int32 := ((((w3 - u1)).toInt32) + (1 : Int32))
  replace hw := hw v1 rfl
  refine lv_istore (lv' := [(7, .int v1), (0, .ref r0), (1, .long w1), (3, .long w3), (5, .int x5), (6, .int x6)]) C.ex C.by d_Iss_time_75 hv (by decide) rfl (fun ls hv => ?_)
  refine lv_lload_n C.ex C.by d_Iss_time_77 rfl (lv_at hv 2 rfl) ?_
  refine lv_ldc2 (v := (1440 : Int64)) C.ex C.by C.ow (C.tw.at (fx_m4 (List.mem_of_getElem? (i := 125) rfl)) rfl rfl) d_Iss_time_78 ?_
  refine lv_lrem C.ex C.by d_Iss_time_81 (by decide) ?_
  refine lv_ldc2 (v := (60 : Int64)) C.ex C.by C.ow (C.tw.at (fx_m4 (List.mem_of_getElem? (i := 127) rfl)) rfl rfl) d_Iss_time_82 ?_
  refine lv_ldiv C.ex C.by d_Iss_time_85 (by decide) ?_
  refine lv_l2i (v := ((((w1 - w1 / (1440 : Int64) * (1440 : Int64)) / (60 : Int64))).toInt32)) C.ex C.by d_Iss_time_86 rfl ?_
  let v2 : Int32 := ((((w1 - w1 / (1440 : Int64) * (1440 : Int64)) / (60 : Int64))).toInt32)
  replace hw := hw v2 rfl
  refine lv_istore (lv' := [(8, .int v2), (7, .int v1), (0, .ref r0), (1, .long w1), (3, .long w3), (5, .int x5), (6, .int x6)]) C.ex C.by d_Iss_time_87 hv (by decide) rfl (fun ls hv => ?_)
  refine lv_lload_n C.ex C.by d_Iss_time_89 rfl (lv_at hv 3 rfl) ?_
  refine lv_ldc2 (v := (60 : Int64)) C.ex C.by C.ow (C.tw.at (fx_m4 (List.mem_of_getElem? (i := 127) rfl)) rfl rfl) d_Iss_time_90 ?_
  refine lv_lrem C.ex C.by d_Iss_time_93 (by decide) ?_
  refine lv_l2i (v := (((w1 - w1 / (60 : Int64) * (60 : Int64))).toInt32)) C.ex C.by d_Iss_time_94 rfl ?_
  let v3 : Int32 := (((w1 - w1 / (60 : Int64) * (60 : Int64))).toInt32)
  replace hw := hw v3 rfl
  refine lv_istore (lv' := [(9, .int v3), (8, .int v2), (7, .int v1), (0, .ref r0), (1, .long w1), (3, .long w3), (5, .int x5), (6, .int x6)]) C.ex C.by d_Iss_time_95 hv (by decide) rfl (fun ls hv => ?_)
  refine lv_aload_n C.ex C.by d_Iss_time_97 rfl (lv_at hv 3 rfl) ?_
  obtain ⟨hk1, hw⟩ := hw
  obtain ⟨b1, hb1, hw⟩ := hw
  refine fx_getR C F lf_Iss_10 hk1 rfl hb1 d_Iss_time_98 ?_
  obtain ⟨hk2, hw⟩ := hw
  refine fx_callI C F (c_Wr_size hl hw) hm_Wr_size hi_Wr_size hv.1 (by decide) (Nat.le_of_ble_eq_true rfl) (iv_Wr_size C F lm_Iss_30 hk2 d_Iss_time_101) (fx_out0 _) fx_eno (fun v4 h2 H locs cells slots hw hx2 F => ?_)
  replace hw := hw hx2
  have hk2 := (hx2).k hk2
  have hk1 := (hx2).k hk1
  refine lv_istore (lv' := [(10, .int v4), (9, .int v3), (8, .int v2), (7, .int v1), (0, .ref r0), (1, .long w1), (3, .long w3), (5, .int x5), (6, .int x6)]) C.ex C.by d_Iss_time_104 hv (by decide) rfl (fun ls hv => ?_)
  refine lv_aload_n C.ex C.by d_Iss_time_106 rfl (lv_at hv 4 rfl) ?_
  obtain ⟨b2, hb2, hw⟩ := hw
  refine fx_getR C F lf_Iss_10 hk1 rfl hb2 d_Iss_time_107 ?_
  refine lv_bipush (v := (90 : Int32)) C.ex C.by d_Iss_time_110 (by decide) ?_
  obtain ⟨hk3, hw⟩ := hw
  refine fx_callV C F (c_Wr_one hl hw) hm_Wr_one hi_Wr_one hv.1 (by decide) (Nat.le_of_ble_eq_true rfl) (iv_Wr_one C F lm_Iss_34 hk3 d_Iss_time_112) (fx_out0 _) fx_eno (fun h3 H locs cells slots hw hx3 F => ?_)
  replace hw := hw hx3
  have hk2 := (hx3).k hk2
  have hk3 := (hx3).k hk3
  have hk1 := (hx3).k hk1
  refine lv_aload_n C.ex C.by d_Iss_time_115 rfl (lv_at hv 4 rfl) ?_
  refine lv_iconst (v := (0 : Int32)) C.ex C.by d_Iss_time_116 (by decide) ?_
  refine fx_callV C F (c_Iss_two hl hw) hm_Iss_two hi_Iss_two hv.1 (by decide) (Nat.le_of_ble_eq_true rfl) (iv_Iss_two C F lm_Iss_38 hk1 d_Iss_time_117) (fx_out0 _) fx_eno (fun h4 H locs cells slots hw hx4 F => ?_)
  replace hw := hw hx4
  have hk2 := (hx4).k hk2
  have hk3 := (hx4).k hk3
  have hk1 := (hx4).k hk1
  refine lv_aload_n C.ex C.by d_Iss_time_120 rfl (lv_at hv 4 rfl) ?_
  refine lv_iload C.ex C.by d_Iss_time_121 (lv_at hv 1 rfl) ?_
  refine fx_callV C F (c_Iss_two hl hw) hm_Iss_two hi_Iss_two hv.1 (by decide) (Nat.le_of_ble_eq_true rfl) (iv_Iss_two C F lm_Iss_38 hk1 d_Iss_time_123) (fx_out0 _) fx_eno (fun h5 H locs cells slots hw hx5 F => ?_)
  replace hw := hw hx5
  have hk2 := (hx5).k hk2
  have hk3 := (hx5).k hk3
  have hk1 := (hx5).k hk1
  refine lv_aload_n C.ex C.by d_Iss_time_126 rfl (lv_at hv 4 rfl) ?_
  refine lv_iload C.ex C.by d_Iss_time_127 (lv_at hv 2 rfl) ?_
  refine fx_callV C F (c_Iss_two hl hw) hm_Iss_two hi_Iss_two hv.1 (by decide) (Nat.le_of_ble_eq_true rfl) (iv_Iss_two C F lm_Iss_38 hk1 d_Iss_time_129) (fx_out0 _) fx_eno (fun h6 H locs cells slots hw hx6 F => ?_)
  replace hw := hw hx6
  have hk2 := (hx6).k hk2
  have hk3 := (hx6).k hk3
  have hk1 := (hx6).k hk1
  refine lv_aload_n C.ex C.by d_Iss_time_132 rfl (lv_at hv 4 rfl) ?_
  refine lv_iload C.ex C.by d_Iss_time_133 (lv_at hv 3 rfl) ?_
  refine fx_callV C F (c_Iss_two hl hw) hm_Iss_two hi_Iss_two hv.1 (by decide) (Nat.le_of_ble_eq_true rfl) (iv_Iss_two C F lm_Iss_38 hk1 d_Iss_time_135) (fx_out0 _) fx_eno (fun h7 H locs cells slots hw hx7 F => ?_)
  replace hw := hw hx7
  have hk2 := (hx7).k hk2
  have hk3 := (hx7).k hk3
  have hk1 := (hx7).k hk1
  refine lv_aload_n C.ex C.by d_Iss_time_138 rfl (lv_at hv 4 rfl) ?_
  refine lv_iload C.ex C.by d_Iss_time_139 (lv_at hv 8 rfl) ?_
  refine fx_callV C F (c_Iss_two hl hw) hm_Iss_two hi_Iss_two hv.1 (by decide) (Nat.le_of_ble_eq_true rfl) (iv_Iss_two C F lm_Iss_38 hk1 d_Iss_time_141) (fx_out0 _) fx_eno (fun h8 H locs cells slots hw hx8 F => ?_)
  replace hw := hw hx8
  have hk2 := (hx8).k hk2
  have hk3 := (hx8).k hk3
  have hk1 := (hx8).k hk1
  refine lv_aload_n C.ex C.by d_Iss_time_144 rfl (lv_at hv 4 rfl) ?_
  refine lv_iload C.ex C.by d_Iss_time_145 (lv_at hv 7 rfl) ?_
  refine lv_bipush (v := (100 : Int32)) C.ex C.by d_Iss_time_147 (by decide) ?_
  refine lv_irem C.ex C.by d_Iss_time_149 (by decide) ?_
  refine fx_callV C F (c_Iss_two hl hw) hm_Iss_two hi_Iss_two hv.1 (by decide) (Nat.le_of_ble_eq_true rfl) (iv_Iss_two C F lm_Iss_38 hk1 d_Iss_time_150) (fx_out0 _) fx_eno (fun h9 H locs cells slots hw hx9 F => ?_)
  replace hw := hw hx9
  have hk2 := (hx9).k hk2
  have hk3 := (hx9).k hk3
  have hk1 := (hx9).k hk1
  refine lv_iload C.ex C.by d_Iss_time_153 (lv_at hv 7 rfl) ?_
  refine lv_sipush (v := (2050 : Int32)) C.ex C.by d_Iss_time_155 (by decide) ?_
  refine lv_icmp_lt C.ex C.by d_Iss_time_158 rfl (fun hc => ?_) (fun hc => ?_)
  · replace hw := hw.1 hc
    exact b_Iss_time_170 C hl _ _ _ _ hw _ _ _ _ _ (lv_sub hv [4, 7, 0] rfl) F
  · replace hw := hw.2 hc
    refine lv_aload_n C.ex C.by d_Iss_time_161 rfl (lv_at hv 4 rfl) ?_
    refine lv_iload C.ex C.by d_Iss_time_162 (lv_at hv 7 rfl) ?_
    refine lv_bipush (v := (100 : Int32)) C.ex C.by d_Iss_time_164 (by decide) ?_
    refine lv_idiv C.ex C.by d_Iss_time_166 (by decide) ?_
    refine fx_callV C F (c_Iss_two hl hw) hm_Iss_two hi_Iss_two hv.1 (by decide) (Nat.le_of_ble_eq_true rfl) (iv_Iss_two C F lm_Iss_38 hk1 d_Iss_time_167) (fx_out0 _) fx_eno (fun h10 H locs cells slots hw hx10 F => ?_)
    replace hw := hw hx10
    have hk2 := (hx10).k hk2
    have hk3 := (hx10).k hk3
    have hk1 := (hx10).k hk1
    exact b_Iss_time_170 C hl _ _ _ _ hw _ _ _ _ _ (lv_sub hv [4, 7, 0] rfl) F
theorem b_Iss_time_34 {p : Program} {l : Launch} {e : Env} {R : Room} {s : State} {m : MethodId} {args : Array Value} {below : List Frame} {meth : Method} {c : Code} {D : DD} {h0 : AH} {Q : AH → Prop} (C : fx_CX D y_Iss_time prog_5_method_2_code 11 4 63 (none) [] h0 p R s m meth c) (hl : l.flags = flags0) (r0 : Nat) (w1 : Int64) (w3 : Int64) (x5 : Int32) (x6 : Int32) (h : AH) (hw : m_Iss_time_34 Q r0 w1 w3 x5 x6 h) : ∀ (ls : Array Slot) (H : Heap) (locs : List Loc) (cells slots : Nat), lv_has ls 11 [(0, .ref r0), (1, .long w1), (3, .long w3), (5, .int x5), (6, .int x6)] → fx_F D h0 h H locs cells slots → W p l e R s m args below meth c H locs cells slots (fx_Z D below s h0 (fx_oV Q fx_no)) (F0 m 34 ls []) := by
  refine fx_loop.use hw (fun st => ∀ (ls : Array Slot) (H : Heap) (locs : List Loc) (cells slots : Nat), lv_has ls 11 [(0, .ref r0), (1, .long w1), (3, .long w3), (5, .int x5), (6, .int st.1)] → fx_F D h0 st.2 H locs cells slots → W p l e R s m args below meth c H locs cells slots (fx_Z D below s h0 (fx_oV Q fx_no)) (F0 m 34 ls [])) (fun X34 st hX34 hw => ?_)
  obtain ⟨x6, h⟩ := st
  replace hw : m_Iss_time_34_b Q X34 r0 w1 w3 x5 x6 h := hw
  unfold m_Iss_time_34_b at hw
  intro ls H locs cells slots hv F
  refine lv_iload C.ex C.by d_Iss_time_34 (lv_at hv 4 rfl) ?_
  refine lv_bipush (v := (12 : Int32)) C.ex C.by d_Iss_time_36 (by decide) ?_
  refine lv_icmp_ge C.ex C.by d_Iss_time_38 rfl (fun hc => ?_) (fun hc => ?_)
  · replace hw := hw.1 hc
    exact b_Iss_time_62 C hl _ _ _ _ _ _ hw _ _ _ _ _ hv F
  · replace hw := hw.2 hc
    refine lv_lload_n C.ex C.by d_Iss_time_41 rfl (lv_at hv 2 rfl) ?_
    refine lv_iload C.ex C.by d_Iss_time_42 (lv_at hv 3 rfl) ?_
    refine lv_iload C.ex C.by d_Iss_time_44 (lv_at hv 4 rfl) ?_
    refine lv_iconst (v := (1 : Int32)) C.ex C.by d_Iss_time_46 (by decide) ?_
    refine lv_iadd C.ex C.by d_Iss_time_47 ?_
    refine lv_iconst (v := (1 : Int32)) C.ex C.by d_Iss_time_48 (by decide) ?_
    refine fx_callL C F (c_J_days hl hw) hm_J_days hi_J_days hv.1 (by decide) (Nat.le_of_ble_eq_true rfl) (iv_J_days C F lm_Iss_22 d_Iss_time_49) (fx_out0 _) fx_eno (fun u1 h1 H locs cells slots hw hx1 F => ?_)
    replace hw := hw hx1
    refine W.lcmp C.ex C.by d_Iss_time_52 ?_
    refine lv_if_lt C.ex C.by d_Iss_time_53 rfl (fun hc => ?_) (fun hc => ?_)
    · replace hw := hw.1 hc
      exact b_Iss_time_62 C hl _ _ _ _ _ _ hw _ _ _ _ _ hv F
    · replace hw := hw.2 hc
      let v1 : Int32 := (x6 + (1 : Int32))
      replace hw := hw v1 rfl
      refine lv_iinc (v := v1) (k := 4) (lv' := [(6, .int v1), (0, .ref r0), (1, .long w1), (3, .long w3), (5, .int x5)]) C.ex C.by d_Iss_time_56 hv rfl (congrArg (fun z => x6 + z) (by decide)) (by decide) rfl (fun ls hv => ?_)
      refine lv_goto C.ex C.by d_Iss_time_59 rfl ?_
      exact hX34 _ hw _ _ _ _ _ (lv_sub hv [1, 2, 3, 4, 0] rfl) F
theorem b_Iss_time_11 {p : Program} {l : Launch} {e : Env} {R : Room} {s : State} {m : MethodId} {args : Array Value} {below : List Frame} {meth : Method} {c : Code} {D : DD} {h0 : AH} {Q : AH → Prop} (C : fx_CX D y_Iss_time prog_5_method_2_code 11 4 63 (none) [] h0 p R s m meth c) (hl : l.flags = flags0) (r0 : Nat) (w1 : Int64) (w3 : Int64) (x5 : Int32) (h : AH) (hw : m_Iss_time_11 Q r0 w1 w3 x5 h) : ∀ (ls : Array Slot) (H : Heap) (locs : List Loc) (cells slots : Nat), lv_has ls 11 [(0, .ref r0), (1, .long w1), (3, .long w3), (5, .int x5)] → fx_F D h0 h H locs cells slots → W p l e R s m args below meth c H locs cells slots (fx_Z D below s h0 (fx_oV Q fx_no)) (F0 m 11 ls []) := by
  refine fx_loop.use hw (fun st => ∀ (ls : Array Slot) (H : Heap) (locs : List Loc) (cells slots : Nat), lv_has ls 11 [(0, .ref r0), (1, .long w1), (3, .long w3), (5, .int st.1)] → fx_F D h0 st.2 H locs cells slots → W p l e R s m args below meth c H locs cells slots (fx_Z D below s h0 (fx_oV Q fx_no)) (F0 m 11 ls [])) (fun X11 st hX11 hw => ?_)
  obtain ⟨x5, h⟩ := st
  replace hw : m_Iss_time_11_b Q X11 r0 w1 w3 x5 h := hw
  unfold m_Iss_time_11_b at hw
  intro ls H locs cells slots hv F
  refine lv_lload_n C.ex C.by d_Iss_time_11 rfl (lv_at hv 2 rfl) ?_
  refine lv_iload C.ex C.by d_Iss_time_12 (lv_at hv 3 rfl) ?_
  refine lv_iconst (v := (1 : Int32)) C.ex C.by d_Iss_time_14 (by decide) ?_
  refine lv_iadd C.ex C.by d_Iss_time_15 ?_
  refine lv_iconst (v := (1 : Int32)) C.ex C.by d_Iss_time_16 (by decide) ?_
  refine lv_iconst (v := (1 : Int32)) C.ex C.by d_Iss_time_17 (by decide) ?_
  refine fx_callL C F (c_J_days hl hw) hm_J_days hi_J_days hv.1 (by decide) (Nat.le_of_ble_eq_true rfl) (iv_J_days C F lm_Iss_22 d_Iss_time_18) (fx_out0 _) fx_eno (fun u1 h1 H locs cells slots hw hx1 F => ?_)
  replace hw := hw hx1
  refine W.lcmp C.ex C.by d_Iss_time_21 ?_
  refine lv_if_lt C.ex C.by d_Iss_time_22 rfl (fun hc => ?_) (fun hc => ?_)
  · replace hw := hw.1 hc
    refine lv_iconst (v := (1 : Int32)) C.ex C.by d_Iss_time_31 (by decide) ?_
    refine lv_istore (lv' := [(6, .int (1 : Int32)), (0, .ref r0), (1, .long w1), (3, .long w3), (5, .int x5)]) C.ex C.by d_Iss_time_32 hv (by decide) rfl (fun ls hv => ?_)
    exact b_Iss_time_34 C hl _ _ _ _ _ _ hw _ _ _ _ _ (lv_sub hv [1, 2, 3, 4, 0] rfl) F
  · replace hw := hw.2 hc
    let v1 : Int32 := (x5 + (1 : Int32))
    replace hw := hw v1 rfl
    refine lv_iinc (v := v1) (k := 3) (lv' := [(5, .int v1), (0, .ref r0), (1, .long w1), (3, .long w3)]) C.ex C.by d_Iss_time_25 hv rfl (congrArg (fun z => x5 + z) (by decide)) (by decide) rfl (fun ls hv => ?_)
    refine lv_goto C.ex C.by d_Iss_time_28 rfl ?_
    exact hX11 _ hw _ _ _ _ _ (lv_sub hv [1, 2, 3, 0] rfl) F
theorem b_Iss_time_0 {p : Program} {l : Launch} {e : Env} {R : Room} {s : State} {m : MethodId} {args : Array Value} {below : List Frame} {meth : Method} {c : Code} {D : DD} {h0 : AH} {Q : AH → Prop} (C : fx_CX D y_Iss_time prog_5_method_2_code 11 4 63 (none) [] h0 p R s m meth c) (hl : l.flags = flags0) (r0 : Nat) (w1 : Int64) (h : AH) (hw : m_Iss_time Q r0 w1 h) : ∀ (ls : Array Slot) (H : Heap) (locs : List Loc) (cells slots : Nat), lv_has ls 11 [(0, .ref r0), (1, .long w1)] → fx_F D h0 h H locs cells slots → W p l e R s m args below meth c H locs cells slots (fx_Z D below s h0 (fx_oV Q fx_no)) (F0 m 0 ls []) := by
  unfold m_Iss_time at hw
  intro ls H locs cells slots hv F
  refine lv_lload_n C.ex C.by d_Iss_time_0 rfl (lv_at hv 1 rfl) ?_
  refine lv_ldc2 (v := (1440 : Int64)) C.ex C.by C.ow (C.tw.at (fx_m4 (List.mem_of_getElem? (i := 125) rfl)) rfl rfl) d_Iss_time_1 ?_
  refine lv_ldiv C.ex C.by d_Iss_time_4 (by decide) ?_
  let u1 : Int64 := (w1 / (1440 : Int64))
  replace hw := hw u1 rfl
  refine lv_lstore_n (lv' := [(3, .long u1), (0, .ref r0), (1, .long w1)]) C.ex C.by d_Iss_time_5 rfl hv (by decide) rfl (fun ls hv => ?_)
  refine lv_sipush (v := (1970 : Int32)) C.ex C.by d_Iss_time_6 (by decide) ?_
  refine lv_istore (lv' := [(5, .int (1970 : Int32)), (3, .long u1), (0, .ref r0), (1, .long w1)]) C.ex C.by d_Iss_time_9 hv (by decide) rfl (fun ls hv => ?_)
  exact b_Iss_time_11 C hl _ _ _ _ _ hw _ _ _ _ _ (lv_sub hv [2, 3, 1, 0] rfl) F
theorem hm_Iss_time : fx_hd y_Iss_time prog_5_method_2_code 11 (none) [] ∈ tables_1 := (fx_m4 (List.mem_of_getElem? (i := 124) rfl))
theorem hi_Iss_time : Cond.initialized y_Iss_time.cls ∈ tables_1 := (fx_m1 (List.mem_of_getElem? (i := 13) rfl))
theorem c_Iss_time {l : Launch} (hl : l.flags = flags0) {D : DD} {Q : AH → Prop} {r0 : Nat} {w1 : Int64} {h : AH} (hw : m_Iss_time Q r0 w1 h) : fx_Mt l D y_Iss_time (fx_hd y_Iss_time prog_5_method_2_code 11 (none) []) 4 63 [.ref r0, .long w1] h (fx_oV Q fx_no) := by
  refine fx_ofW (plainFor_of_name (by decide)) (fun p e s m below meth c C F => ?_)
  have hv := lv_entry ([.ref r0, .long w1]) (n := 11) (Nat.le_of_ble_eq_true rfl)
  rw [lg_entry_eq]
  generalize (lg_sl ([.ref r0, .long w1]) ++ List.replicate (11 - (lg_sl ([.ref r0, .long w1])).length) Slot.unset).toArray = ls at hv ⊢
  have hv : lv_has ls 11 [(0, .ref r0), (1, .long w1)] := hv
  exact b_Iss_time_0 C hl _ _ _ hw _ _ _ _ _ hv F
/-! ChainJudge$Issuer.times(JJ)V: frames 5, words 85 -/
abbrev y_Iss_times : MethodName := ⟨"ChainJudge$Issuer", "times", "(JJ)V"⟩
theorem lm_Iss_84 : Cond.methodLink "ChainJudge$Issuer" 84 y_Iss_time ∈ tables_1 ∨ ∃ host, Cond.methodLinkNest "ChainJudge$Issuer" 84 y_Iss_time host ∈ tables_1 := Or.inl (fx_m4 (List.mem_of_getElem? (i := 121) rfl))
section
variable {p : Program} {l : Launch} {e : Env} {R : Room} {s : State} {m : MethodId} {args : Array Value} {below : List Frame} {meth : Method} {c : Code} {H : Heap} {locs : List Loc} {cells slots : Nat}
variable {D : DD} {y : MethodName} {cc : ByteArray} {nL kf kw : Nat} {ret : Option FieldType} {hh : List (Nat × Nat × Nat × Nat)} {h0 h : AH} {pc : Nat} {ls : Array Slot} {rest : List Value} {b idx : Nat}
theorem iv_Iss_time {w1 : Int64} (C : fx_CX D y cc nL kf kw ret hh h0 p R s m meth c) (F : fx_F D h0 h H locs cells slots) (hw1 : Cond.methodLink y.cls idx y_Iss_time ∈ tables_1 ∨ ∃ host, Cond.methodLinkNest y.cls idx y_Iss_time host ∈ tables_1) (hk : hp_k h b = 10) (hd : decode cc pc = .ok (.invokevirtual idx, 3)) : fx_IV p l e R s m args below meth c H locs cells slots (F0 m pc ls (.long w1 :: .ref b :: rest)) rest y_Iss_time [.ref b, .long w1] 3 := fun T hT X => fx_invV (As := [.long w1]) (Cn := "ChainJudge$Issuer") C X hw1 (fx_m4 (List.mem_of_getElem? (i := 123) rfl)) (fx_selP C ⟨by decide, by decide⟩ (fx_m2 (List.mem_of_getElem? (i := 85) rfl)) (fx_m4 (List.mem_of_getElem? (i := 122) rfl)) (fx_m4 (List.mem_of_getElem? (i := 123) rfl))) hm_Iss_time ⟨by decide, by decide⟩ (by rw [hT]; exact fx_clsO (ci := 9) (r := ("ChainJudge$Issuer", fx_T9, 2)) C F rfl (by decide) hk) rfl (n := 1) (by decide +kernel) rfl rfl hd
end
def dl_Iss_times : List (Nat × Instr × Nat) := [(0, .aload_n 0, 1), (1, .getfield 10, 3), (4, .invokevirtual 30, 3), (7, .istore 5, 2), (9, .aload_n 0, 1), (10, .lload_n 3, 1), (11, .invokevirtual 84, 3), (14, .aload_n 0, 1), (15, .lload_n 1, 1), (16, .invokevirtual 84, 3), (19, .aload_n 0, 1), (20, .getfield 10, 3), (23, .bipush 48, 2), (25, .iload 5, 2), (27, .invokevirtual 41, 3), (30, .return_, 1)]
theorem dk_Iss_times : fx_dec prog_5_method_8_code dl_Iss_times = true := by decide +kernel
theorem d_Iss_times_0 : decode prog_5_method_8_code 0 = .ok (.aload_n 0, 1) := fx_dat dk_Iss_times 0 rfl
theorem d_Iss_times_1 : decode prog_5_method_8_code 1 = .ok (.getfield 10, 3) := fx_dat dk_Iss_times 1 rfl
theorem d_Iss_times_4 : decode prog_5_method_8_code 4 = .ok (.invokevirtual 30, 3) := fx_dat dk_Iss_times 2 rfl
theorem d_Iss_times_7 : decode prog_5_method_8_code 7 = .ok (.istore 5, 2) := fx_dat dk_Iss_times 3 rfl
theorem d_Iss_times_9 : decode prog_5_method_8_code 9 = .ok (.aload_n 0, 1) := fx_dat dk_Iss_times 4 rfl
theorem d_Iss_times_10 : decode prog_5_method_8_code 10 = .ok (.lload_n 3, 1) := fx_dat dk_Iss_times 5 rfl
theorem d_Iss_times_11 : decode prog_5_method_8_code 11 = .ok (.invokevirtual 84, 3) := fx_dat dk_Iss_times 6 rfl
theorem d_Iss_times_14 : decode prog_5_method_8_code 14 = .ok (.aload_n 0, 1) := fx_dat dk_Iss_times 7 rfl
theorem d_Iss_times_15 : decode prog_5_method_8_code 15 = .ok (.lload_n 1, 1) := fx_dat dk_Iss_times 8 rfl
theorem d_Iss_times_16 : decode prog_5_method_8_code 16 = .ok (.invokevirtual 84, 3) := fx_dat dk_Iss_times 9 rfl
theorem d_Iss_times_19 : decode prog_5_method_8_code 19 = .ok (.aload_n 0, 1) := fx_dat dk_Iss_times 10 rfl
theorem d_Iss_times_20 : decode prog_5_method_8_code 20 = .ok (.getfield 10, 3) := fx_dat dk_Iss_times 11 rfl
theorem d_Iss_times_23 : decode prog_5_method_8_code 23 = .ok (.bipush 48, 2) := fx_dat dk_Iss_times 12 rfl
theorem d_Iss_times_25 : decode prog_5_method_8_code 25 = .ok (.iload 5, 2) := fx_dat dk_Iss_times 13 rfl
theorem d_Iss_times_27 : decode prog_5_method_8_code 27 = .ok (.invokevirtual 41, 3) := fx_dat dk_Iss_times 14 rfl
theorem d_Iss_times_30 : decode prog_5_method_8_code 30 = .ok (.return_, 1) := fx_dat dk_Iss_times 15 rfl
def m_Iss_times (Q : AH → Prop) (r0 : Nat) (w1 : Int64) (w3 : Int64) (h : AH) : Prop := hp_k h r0 = 10 ∧ ∃ b1, hp_R h r0 0 = some b1 ∧ hp_k h b1 = 11 ∧ m_Wr_size (fun v1 h1 => fx_ext h h1 → m_Iss_time (fun h2 => fx_ext h1 h2 → m_Iss_time (fun h3 => fx_ext h2 h3 → ∃ b2, hp_R h3 r0 0 = some b2 ∧ hp_k h3 b2 = 11 ∧ m_Wr_wrap (fun h4 => fx_ext h3 h4 → Q h4) b2 (48 : Int32) v1 h3) r0 w1 h2) r0 w3 h1) b1 h
theorem b_Iss_times_0 {p : Program} {l : Launch} {e : Env} {R : Room} {s : State} {m : MethodId} {args : Array Value} {below : List Frame} {meth : Method} {c : Code} {D : DD} {h0 : AH} {Q : AH → Prop} (C : fx_CX D y_Iss_times prog_5_method_8_code 6 5 85 (none) [] h0 p R s m meth c) (hl : l.flags = flags0) (r0 : Nat) (w1 : Int64) (w3 : Int64) (h : AH) (hw : m_Iss_times Q r0 w1 w3 h) : ∀ (ls : Array Slot) (H : Heap) (locs : List Loc) (cells slots : Nat), lv_has ls 6 [(0, .ref r0), (1, .long w1), (3, .long w3)] → fx_F D h0 h H locs cells slots → W p l e R s m args below meth c H locs cells slots (fx_Z D below s h0 (fx_oV Q fx_no)) (F0 m 0 ls []) := by
  unfold m_Iss_times at hw
  intro ls H locs cells slots hv F
  refine lv_aload_n C.ex C.by d_Iss_times_0 rfl (lv_at hv 0 rfl) ?_
  obtain ⟨hk1, hw⟩ := hw
  obtain ⟨b1, hb1, hw⟩ := hw
  refine fx_getR C F lf_Iss_10 hk1 rfl hb1 d_Iss_times_1 ?_
  obtain ⟨hk2, hw⟩ := hw
  refine fx_callI C F (c_Wr_size hl hw) hm_Wr_size hi_Wr_size hv.1 (by decide) (Nat.le_of_ble_eq_true rfl) (iv_Wr_size C F lm_Iss_30 hk2 d_Iss_times_4) (fx_out0 _) fx_eno (fun v1 h1 H locs cells slots hw hx1 F => ?_)
  replace hw := hw hx1
  have hk2 := (hx1).k hk2
  have hk1 := (hx1).k hk1
  refine lv_istore (lv' := [(5, .int v1), (0, .ref r0), (1, .long w1), (3, .long w3)]) C.ex C.by d_Iss_times_7 hv (by decide) rfl (fun ls hv => ?_)
  refine lv_aload_n C.ex C.by d_Iss_times_9 rfl (lv_at hv 1 rfl) ?_
  refine lv_lload_n C.ex C.by d_Iss_times_10 rfl (lv_at hv 3 rfl) ?_
  refine fx_callV C F (c_Iss_time hl hw) hm_Iss_time hi_Iss_time hv.1 (by decide) (Nat.le_of_ble_eq_true rfl) (iv_Iss_time C F lm_Iss_84 hk1 d_Iss_times_11) (fx_out0 _) fx_eno (fun h2 H locs cells slots hw hx2 F => ?_)
  replace hw := hw hx2
  have hk2 := (hx2).k hk2
  have hk1 := (hx2).k hk1
  refine lv_aload_n C.ex C.by d_Iss_times_14 rfl (lv_at hv 1 rfl) ?_
  refine lv_lload_n C.ex C.by d_Iss_times_15 rfl (lv_at hv 2 rfl) ?_
  refine fx_callV C F (c_Iss_time hl hw) hm_Iss_time hi_Iss_time hv.1 (by decide) (Nat.le_of_ble_eq_true rfl) (iv_Iss_time C F lm_Iss_84 hk1 d_Iss_times_16) (fx_out0 _) fx_eno (fun h3 H locs cells slots hw hx3 F => ?_)
  replace hw := hw hx3
  have hk2 := (hx3).k hk2
  have hk1 := (hx3).k hk1
  refine lv_aload_n C.ex C.by d_Iss_times_19 rfl (lv_at hv 1 rfl) ?_
  obtain ⟨b2, hb2, hw⟩ := hw
  refine fx_getR C F lf_Iss_10 hk1 rfl hb2 d_Iss_times_20 ?_
  refine lv_bipush (v := (48 : Int32)) C.ex C.by d_Iss_times_23 (by decide) ?_
  refine lv_iload C.ex C.by d_Iss_times_25 (lv_at hv 0 rfl) ?_
  obtain ⟨hk3, hw⟩ := hw
  refine fx_callV C F (c_Wr_wrap hl hw) hm_Wr_wrap hi_Wr_wrap hv.1 (by decide) (Nat.le_of_ble_eq_true rfl) (iv_Wr_wrap C F lm_Iss_41 hk3 d_Iss_times_27) (fx_out0 _) fx_eno (fun h4 H locs cells slots hw hx4 F => ?_)
  replace hw := hw hx4
  have hk2 := (hx4).k hk2
  have hk3 := (hx4).k hk3
  have hk1 := (hx4).k hk1
  exact fx_vret C F d_Iss_times_30 (Or.inl ⟨rfl, hw⟩)
theorem hm_Iss_times : fx_hd y_Iss_times prog_5_method_8_code 6 (none) [] ∈ tables_1 := (fx_m4 (List.mem_of_getElem? (i := 120) rfl))
theorem hi_Iss_times : Cond.initialized y_Iss_times.cls ∈ tables_1 := (fx_m1 (List.mem_of_getElem? (i := 13) rfl))
theorem c_Iss_times {l : Launch} (hl : l.flags = flags0) {D : DD} {Q : AH → Prop} {r0 : Nat} {w1 : Int64} {w3 : Int64} {h : AH} (hw : m_Iss_times Q r0 w1 w3 h) : fx_Mt l D y_Iss_times (fx_hd y_Iss_times prog_5_method_8_code 6 (none) []) 5 85 [.ref r0, .long w1, .long w3] h (fx_oV Q fx_no) := by
  refine fx_ofW (plainFor_of_name (by decide)) (fun p e s m below meth c C F => ?_)
  have hv := lv_entry ([.ref r0, .long w1, .long w3]) (n := 6) (Nat.le_of_ble_eq_true rfl)
  rw [lg_entry_eq]
  generalize (lg_sl ([.ref r0, .long w1, .long w3]) ++ List.replicate (6 - (lg_sl ([.ref r0, .long w1, .long w3])).length) Slot.unset).toArray = ls at hv ⊢
  have hv : lv_has ls 6 [(0, .ref r0), (1, .long w1), (3, .long w3)] := hv
  exact b_Iss_times_0 C hl _ _ _ _ hw _ _ _ _ _ hv F
/-! ChainJudge$Issuer.head(I)V: frames 5, words 78 -/
abbrev y_Iss_head : MethodName := ⟨"ChainJudge$Issuer", "head", "(I)V"⟩
def dl_Iss_head : List (Nat × Instr × Nat) := [(0, .aload_n 0, 1), (1, .getfield 10, 3), (4, .iload_n 1, 1), (5, .invokevirtual 75, 3), (8, .aload_n 0, 1), (9, .getfield 10, 3), (12, .iconst 2, 1), (13, .invokevirtual 34, 3), (16, .aload_n 0, 1), (17, .getfield 10, 3), (20, .iconst 1, 1), (21, .invokevirtual 34, 3), (24, .aload_n 0, 1), (25, .getfield 10, 3), (28, .iconst 2, 1), (29, .invokevirtual 34, 3), (32, .aload_n 0, 1), (33, .getfield 10, 3), (36, .iconst 3, 1), (37, .invokevirtual 34, 3), (40, .aload_n 0, 1), (41, .getfield 10, 3), (44, .sipush 160, 3), (47, .invokevirtual 34, 3), (50, .return_, 1)]
theorem dk_Iss_head : fx_dec prog_5_method_9_code dl_Iss_head = true := by decide +kernel
theorem d_Iss_head_0 : decode prog_5_method_9_code 0 = .ok (.aload_n 0, 1) := fx_dat dk_Iss_head 0 rfl
theorem d_Iss_head_1 : decode prog_5_method_9_code 1 = .ok (.getfield 10, 3) := fx_dat dk_Iss_head 1 rfl
theorem d_Iss_head_4 : decode prog_5_method_9_code 4 = .ok (.iload_n 1, 1) := fx_dat dk_Iss_head 2 rfl
theorem d_Iss_head_5 : decode prog_5_method_9_code 5 = .ok (.invokevirtual 75, 3) := fx_dat dk_Iss_head 3 rfl
theorem d_Iss_head_8 : decode prog_5_method_9_code 8 = .ok (.aload_n 0, 1) := fx_dat dk_Iss_head 4 rfl
theorem d_Iss_head_9 : decode prog_5_method_9_code 9 = .ok (.getfield 10, 3) := fx_dat dk_Iss_head 5 rfl
theorem d_Iss_head_12 : decode prog_5_method_9_code 12 = .ok (.iconst 2, 1) := fx_dat dk_Iss_head 6 rfl
theorem d_Iss_head_13 : decode prog_5_method_9_code 13 = .ok (.invokevirtual 34, 3) := fx_dat dk_Iss_head 7 rfl
theorem d_Iss_head_16 : decode prog_5_method_9_code 16 = .ok (.aload_n 0, 1) := fx_dat dk_Iss_head 8 rfl
theorem d_Iss_head_17 : decode prog_5_method_9_code 17 = .ok (.getfield 10, 3) := fx_dat dk_Iss_head 9 rfl
theorem d_Iss_head_20 : decode prog_5_method_9_code 20 = .ok (.iconst 1, 1) := fx_dat dk_Iss_head 10 rfl
theorem d_Iss_head_21 : decode prog_5_method_9_code 21 = .ok (.invokevirtual 34, 3) := fx_dat dk_Iss_head 11 rfl
theorem d_Iss_head_24 : decode prog_5_method_9_code 24 = .ok (.aload_n 0, 1) := fx_dat dk_Iss_head 12 rfl
theorem d_Iss_head_25 : decode prog_5_method_9_code 25 = .ok (.getfield 10, 3) := fx_dat dk_Iss_head 13 rfl
theorem d_Iss_head_28 : decode prog_5_method_9_code 28 = .ok (.iconst 2, 1) := fx_dat dk_Iss_head 14 rfl
theorem d_Iss_head_29 : decode prog_5_method_9_code 29 = .ok (.invokevirtual 34, 3) := fx_dat dk_Iss_head 15 rfl
theorem d_Iss_head_32 : decode prog_5_method_9_code 32 = .ok (.aload_n 0, 1) := fx_dat dk_Iss_head 16 rfl
theorem d_Iss_head_33 : decode prog_5_method_9_code 33 = .ok (.getfield 10, 3) := fx_dat dk_Iss_head 17 rfl
theorem d_Iss_head_36 : decode prog_5_method_9_code 36 = .ok (.iconst 3, 1) := fx_dat dk_Iss_head 18 rfl
theorem d_Iss_head_37 : decode prog_5_method_9_code 37 = .ok (.invokevirtual 34, 3) := fx_dat dk_Iss_head 19 rfl
theorem d_Iss_head_40 : decode prog_5_method_9_code 40 = .ok (.aload_n 0, 1) := fx_dat dk_Iss_head 20 rfl
theorem d_Iss_head_41 : decode prog_5_method_9_code 41 = .ok (.getfield 10, 3) := fx_dat dk_Iss_head 21 rfl
theorem d_Iss_head_44 : decode prog_5_method_9_code 44 = .ok (.sipush 160, 3) := fx_dat dk_Iss_head 22 rfl
theorem d_Iss_head_47 : decode prog_5_method_9_code 47 = .ok (.invokevirtual 34, 3) := fx_dat dk_Iss_head 23 rfl
theorem d_Iss_head_50 : decode prog_5_method_9_code 50 = .ok (.return_, 1) := fx_dat dk_Iss_head 24 rfl
def m_Iss_head (Q : AH → Prop) (r0 : Nat) (x1 : Int32) (h : AH) : Prop := hp_k h r0 = 10 ∧ ∃ b1, hp_R h r0 0 = some b1 ∧ hp_k h b1 = 11 ∧ m_Wr_number (fun h1 => fx_ext h h1 → ∃ b2, hp_R h1 r0 0 = some b2 ∧ hp_k h1 b2 = 11 ∧ m_Wr_one (fun h2 => fx_ext h1 h2 → ∃ b3, hp_R h2 r0 0 = some b3 ∧ hp_k h2 b3 = 11 ∧ m_Wr_one (fun h3 => fx_ext h2 h3 → ∃ b4, hp_R h3 r0 0 = some b4 ∧ hp_k h3 b4 = 11 ∧ m_Wr_one (fun h4 => fx_ext h3 h4 → ∃ b5, hp_R h4 r0 0 = some b5 ∧ hp_k h4 b5 = 11 ∧ m_Wr_one (fun h5 => fx_ext h4 h5 → ∃ b6, hp_R h5 r0 0 = some b6 ∧ hp_k h5 b6 = 11 ∧ m_Wr_one (fun h6 => fx_ext h5 h6 → Q h6) b6 (160 : Int32) h5) b5 (3 : Int32) h4) b4 (2 : Int32) h3) b3 (1 : Int32) h2) b2 (2 : Int32) h1) b1 x1 h
theorem b_Iss_head_0 {p : Program} {l : Launch} {e : Env} {R : Room} {s : State} {m : MethodId} {args : Array Value} {below : List Frame} {meth : Method} {c : Code} {D : DD} {h0 : AH} {Q : AH → Prop} (C : fx_CX D y_Iss_head prog_5_method_9_code 2 5 78 (none) [] h0 p R s m meth c) (hl : l.flags = flags0) (r0 : Nat) (x1 : Int32) (h : AH) (hw : m_Iss_head Q r0 x1 h) : ∀ (ls : Array Slot) (H : Heap) (locs : List Loc) (cells slots : Nat), lv_has ls 2 [(0, .ref r0), (1, .int x1)] → fx_F D h0 h H locs cells slots → W p l e R s m args below meth c H locs cells slots (fx_Z D below s h0 (fx_oV Q fx_no)) (F0 m 0 ls []) := by
  unfold m_Iss_head at hw
  intro ls H locs cells slots hv F
  refine lv_aload_n C.ex C.by d_Iss_head_0 rfl (lv_at hv 0 rfl) ?_
  obtain ⟨hk1, hw⟩ := hw
  obtain ⟨b1, hb1, hw⟩ := hw
  refine fx_getR C F lf_Iss_10 hk1 rfl hb1 d_Iss_head_1 ?_
  refine lv_iload_n C.ex C.by d_Iss_head_4 rfl (lv_at hv 1 rfl) ?_
  obtain ⟨hk2, hw⟩ := hw
  refine fx_callV C F (c_Wr_number hl hw) hm_Wr_number hi_Wr_number hv.1 (by decide) (Nat.le_of_ble_eq_true rfl) (iv_Wr_number C F lm_Iss_75 hk2 d_Iss_head_5) (fx_out0 _) fx_eno (fun h1 H locs cells slots hw hx1 F => ?_)
  replace hw := hw hx1
  have hk2 := (hx1).k hk2
  have hk1 := (hx1).k hk1
  refine lv_aload_n C.ex C.by d_Iss_head_8 rfl (lv_at hv 0 rfl) ?_
  obtain ⟨b2, hb2, hw⟩ := hw
  refine fx_getR C F lf_Iss_10 hk1 rfl hb2 d_Iss_head_9 ?_
  refine lv_iconst (v := (2 : Int32)) C.ex C.by d_Iss_head_12 (by decide) ?_
  obtain ⟨hk3, hw⟩ := hw
  refine fx_callV C F (c_Wr_one hl hw) hm_Wr_one hi_Wr_one hv.1 (by decide) (Nat.le_of_ble_eq_true rfl) (iv_Wr_one C F lm_Iss_34 hk3 d_Iss_head_13) (fx_out0 _) fx_eno (fun h2 H locs cells slots hw hx2 F => ?_)
  replace hw := hw hx2
  have hk2 := (hx2).k hk2
  have hk3 := (hx2).k hk3
  have hk1 := (hx2).k hk1
  refine lv_aload_n C.ex C.by d_Iss_head_16 rfl (lv_at hv 0 rfl) ?_
  obtain ⟨b3, hb3, hw⟩ := hw
  refine fx_getR C F lf_Iss_10 hk1 rfl hb3 d_Iss_head_17 ?_
  refine lv_iconst (v := (1 : Int32)) C.ex C.by d_Iss_head_20 (by decide) ?_
  obtain ⟨hk4, hw⟩ := hw
  refine fx_callV C F (c_Wr_one hl hw) hm_Wr_one hi_Wr_one hv.1 (by decide) (Nat.le_of_ble_eq_true rfl) (iv_Wr_one C F lm_Iss_34 hk4 d_Iss_head_21) (fx_out0 _) fx_eno (fun h3 H locs cells slots hw hx3 F => ?_)
  replace hw := hw hx3
  have hk2 := (hx3).k hk2
  have hk3 := (hx3).k hk3
  have hk4 := (hx3).k hk4
  have hk1 := (hx3).k hk1
  refine lv_aload_n C.ex C.by d_Iss_head_24 rfl (lv_at hv 0 rfl) ?_
  obtain ⟨b4, hb4, hw⟩ := hw
  refine fx_getR C F lf_Iss_10 hk1 rfl hb4 d_Iss_head_25 ?_
  refine lv_iconst (v := (2 : Int32)) C.ex C.by d_Iss_head_28 (by decide) ?_
  obtain ⟨hk5, hw⟩ := hw
  refine fx_callV C F (c_Wr_one hl hw) hm_Wr_one hi_Wr_one hv.1 (by decide) (Nat.le_of_ble_eq_true rfl) (iv_Wr_one C F lm_Iss_34 hk5 d_Iss_head_29) (fx_out0 _) fx_eno (fun h4 H locs cells slots hw hx4 F => ?_)
  replace hw := hw hx4
  have hk2 := (hx4).k hk2
  have hk3 := (hx4).k hk3
  have hk4 := (hx4).k hk4
  have hk5 := (hx4).k hk5
  have hk1 := (hx4).k hk1
  refine lv_aload_n C.ex C.by d_Iss_head_32 rfl (lv_at hv 0 rfl) ?_
  obtain ⟨b5, hb5, hw⟩ := hw
  refine fx_getR C F lf_Iss_10 hk1 rfl hb5 d_Iss_head_33 ?_
  refine lv_iconst (v := (3 : Int32)) C.ex C.by d_Iss_head_36 (by decide) ?_
  obtain ⟨hk6, hw⟩ := hw
  refine fx_callV C F (c_Wr_one hl hw) hm_Wr_one hi_Wr_one hv.1 (by decide) (Nat.le_of_ble_eq_true rfl) (iv_Wr_one C F lm_Iss_34 hk6 d_Iss_head_37) (fx_out0 _) fx_eno (fun h5 H locs cells slots hw hx5 F => ?_)
  replace hw := hw hx5
  have hk2 := (hx5).k hk2
  have hk3 := (hx5).k hk3
  have hk4 := (hx5).k hk4
  have hk5 := (hx5).k hk5
  have hk6 := (hx5).k hk6
  have hk1 := (hx5).k hk1
  refine lv_aload_n C.ex C.by d_Iss_head_40 rfl (lv_at hv 0 rfl) ?_
  obtain ⟨b6, hb6, hw⟩ := hw
  refine fx_getR C F lf_Iss_10 hk1 rfl hb6 d_Iss_head_41 ?_
  refine lv_sipush (v := (160 : Int32)) C.ex C.by d_Iss_head_44 (by decide) ?_
  obtain ⟨hk7, hw⟩ := hw
  refine fx_callV C F (c_Wr_one hl hw) hm_Wr_one hi_Wr_one hv.1 (by decide) (Nat.le_of_ble_eq_true rfl) (iv_Wr_one C F lm_Iss_34 hk7 d_Iss_head_47) (fx_out0 _) fx_eno (fun h6 H locs cells slots hw hx6 F => ?_)
  replace hw := hw hx6
  have hk2 := (hx6).k hk2
  have hk3 := (hx6).k hk3
  have hk4 := (hx6).k hk4
  have hk5 := (hx6).k hk5
  have hk6 := (hx6).k hk6
  have hk7 := (hx6).k hk7
  have hk1 := (hx6).k hk1
  exact fx_vret C F d_Iss_head_50 (Or.inl ⟨rfl, hw⟩)
theorem hm_Iss_head : fx_hd y_Iss_head prog_5_method_9_code 2 (none) [] ∈ tables_1 := (fx_m4 (List.mem_of_getElem? (i := 135) rfl))
theorem hi_Iss_head : Cond.initialized y_Iss_head.cls ∈ tables_1 := (fx_m1 (List.mem_of_getElem? (i := 13) rfl))
theorem c_Iss_head {l : Launch} (hl : l.flags = flags0) {D : DD} {Q : AH → Prop} {r0 : Nat} {x1 : Int32} {h : AH} (hw : m_Iss_head Q r0 x1 h) : fx_Mt l D y_Iss_head (fx_hd y_Iss_head prog_5_method_9_code 2 (none) []) 5 78 [.ref r0, .int x1] h (fx_oV Q fx_no) := by
  refine fx_ofW (plainFor_of_name (by decide)) (fun p e s m below meth c C F => ?_)
  have hv := lv_entry ([.ref r0, .int x1]) (n := 2) (Nat.le_of_ble_eq_true rfl)
  rw [lg_entry_eq]
  generalize (lg_sl ([.ref r0, .int x1]) ++ List.replicate (2 - (lg_sl ([.ref r0, .int x1])).length) Slot.unset).toArray = ls at hv ⊢
  have hv : lv_has ls 2 [(0, .ref r0), (1, .int x1)] := hv
  exact b_Iss_head_0 C hl _ _ _ hw _ _ _ _ _ hv F
/-! java/util/Arrays.fill([BB)V: frames 0, words 0 -/
abbrev y_Arrs_fill : MethodName := ⟨"java/util/Arrays", "fill", "([BB)V"⟩
def dl_Arrs_fill : List (Nat × Instr × Nat) := [(0, .iconst 0, 1), (1, .istore_n 2, 1), (2, .aload_n 0, 1), (3, .arraylength, 1), (4, .istore_n 3, 1), (5, .iload_n 2, 1), (6, .iload_n 3, 1), (7, .if_icmp .ge 13, 3), (10, .aload_n 0, 1), (11, .iload_n 2, 1), (12, .iload_n 1, 1), (13, .bastore, 1), (14, .iinc 2 1, 3), (17, .goto (-12), 3), (20, .return_, 1)]
theorem dk_Arrs_fill : fx_dec prog_32_method_109_code dl_Arrs_fill = true := by decide +kernel
theorem d_Arrs_fill_0 : decode prog_32_method_109_code 0 = .ok (.iconst 0, 1) := fx_dat dk_Arrs_fill 0 rfl
theorem d_Arrs_fill_1 : decode prog_32_method_109_code 1 = .ok (.istore_n 2, 1) := fx_dat dk_Arrs_fill 1 rfl
theorem d_Arrs_fill_2 : decode prog_32_method_109_code 2 = .ok (.aload_n 0, 1) := fx_dat dk_Arrs_fill 2 rfl
theorem d_Arrs_fill_3 : decode prog_32_method_109_code 3 = .ok (.arraylength, 1) := fx_dat dk_Arrs_fill 3 rfl
theorem d_Arrs_fill_4 : decode prog_32_method_109_code 4 = .ok (.istore_n 3, 1) := fx_dat dk_Arrs_fill 4 rfl
theorem d_Arrs_fill_5 : decode prog_32_method_109_code 5 = .ok (.iload_n 2, 1) := fx_dat dk_Arrs_fill 5 rfl
theorem d_Arrs_fill_6 : decode prog_32_method_109_code 6 = .ok (.iload_n 3, 1) := fx_dat dk_Arrs_fill 6 rfl
theorem d_Arrs_fill_7 : decode prog_32_method_109_code 7 = .ok (.if_icmp .ge 13, 3) := fx_dat dk_Arrs_fill 7 rfl
theorem d_Arrs_fill_10 : decode prog_32_method_109_code 10 = .ok (.aload_n 0, 1) := fx_dat dk_Arrs_fill 8 rfl
theorem d_Arrs_fill_11 : decode prog_32_method_109_code 11 = .ok (.iload_n 2, 1) := fx_dat dk_Arrs_fill 9 rfl
theorem d_Arrs_fill_12 : decode prog_32_method_109_code 12 = .ok (.iload_n 1, 1) := fx_dat dk_Arrs_fill 10 rfl
theorem d_Arrs_fill_13 : decode prog_32_method_109_code 13 = .ok (.bastore, 1) := fx_dat dk_Arrs_fill 11 rfl
theorem d_Arrs_fill_14 : decode prog_32_method_109_code 14 = .ok (.iinc 2 1, 3) := fx_dat dk_Arrs_fill 12 rfl
theorem d_Arrs_fill_17 : decode prog_32_method_109_code 17 = .ok (.goto (-12), 3) := fx_dat dk_Arrs_fill 13 rfl
theorem d_Arrs_fill_20 : decode prog_32_method_109_code 20 = .ok (.return_, 1) := fx_dat dk_Arrs_fill 14 rfl
def m_Arrs_fill_5_b (Q : AH → Prop) (X5 : Int32 × AH → Prop) (r0 : Nat) (x1 : Int32) (x3 : Int32) (x2 : Int32) (h : AH) : Prop := (x3 ≤ x2 → Q h) ∧ (¬ x3 ≤ x2 → hp_k h r0 = 101 ∧ vp_in x2 (hp_n h r0) ∧ ∀ h1 : AH, h1 = up_I h r0 (x2).toNatClampNeg (x1).toInt8.toInt32 → ∀ v1 : Int32, v1 = (x2 + (1 : Int32)) → X5 (v1, h1))
def m_Arrs_fill_5 (Q : AH → Prop) (r0 : Nat) (x1 : Int32) (x3 : Int32) (x2 : Int32) (h : AH) : Prop := fx_loop (fun (X5 : Int32 × AH → Prop) (st : Int32 × AH) => m_Arrs_fill_5_b Q X5 r0 x1 x3 st.1 st.2) (x2, h)
def m_Arrs_fill (Q : AH → Prop) (r0 : Nat) (x1 : Int32) (h : AH) : Prop := bk (hp_k h r0) ∧ ∀ v1 : Int32, v1 = (nI (hp_n h r0)) → m_Arrs_fill_5 Q r0 x1 v1 (0 : Int32) h
theorem b_Arrs_fill_5 {p : Program} {l : Launch} {e : Env} {R : Room} {s : State} {m : MethodId} {args : Array Value} {below : List Frame} {meth : Method} {c : Code} {D : DD} {h0 : AH} {Q : AH → Prop} (C : fx_CX D y_Arrs_fill prog_32_method_109_code 4 0 0 (none) [] h0 p R s m meth c) (hl : l.flags = flags0) (r0 : Nat) (x1 : Int32) (x3 : Int32) (x2 : Int32) (h : AH) (hw : m_Arrs_fill_5 Q r0 x1 x3 x2 h) : ∀ (ls : Array Slot) (H : Heap) (locs : List Loc) (cells slots : Nat), lv_has ls 4 [(0, .ref r0), (1, .int x1), (2, .int x2), (3, .int x3)] → fx_F D h0 h H locs cells slots → W p l e R s m args below meth c H locs cells slots (fx_Z D below s h0 (fx_oV Q fx_no)) (F0 m 5 ls []) := by
  refine fx_loop.use hw (fun st => ∀ (ls : Array Slot) (H : Heap) (locs : List Loc) (cells slots : Nat), lv_has ls 4 [(0, .ref r0), (1, .int x1), (2, .int st.1), (3, .int x3)] → fx_F D h0 st.2 H locs cells slots → W p l e R s m args below meth c H locs cells slots (fx_Z D below s h0 (fx_oV Q fx_no)) (F0 m 5 ls [])) (fun X5 st hX5 hw => ?_)
  obtain ⟨x2, h⟩ := st
  replace hw : m_Arrs_fill_5_b Q X5 r0 x1 x3 x2 h := hw
  unfold m_Arrs_fill_5_b at hw
  intro ls H locs cells slots hv F
  refine lv_iload_n C.ex C.by d_Arrs_fill_5 rfl (lv_at hv 2 rfl) ?_
  refine lv_iload_n C.ex C.by d_Arrs_fill_6 rfl (lv_at hv 3 rfl) ?_
  refine lv_icmp_ge C.ex C.by d_Arrs_fill_7 rfl (fun hc => ?_) (fun hc => ?_)
  · replace hw := hw.1 hc
    exact fx_vret C F d_Arrs_fill_20 (Or.inl ⟨rfl, hw⟩)
  · replace hw := hw.2 hc
    refine lv_aload_n C.ex C.by d_Arrs_fill_10 rfl (lv_at hv 0 rfl) ?_
    refine lv_iload_n C.ex C.by d_Arrs_fill_11 rfl (lv_at hv 2 rfl) ?_
    refine lv_iload_n C.ex C.by d_Arrs_fill_12 rfl (lv_at hv 1 rfl) ?_
    obtain ⟨hk1, hw⟩ := hw
    obtain ⟨hi1, hw⟩ := hw
    let h1 : AH := up_I h r0 (x2).toNatClampNeg (x1).toInt8.toInt32
    replace hw := hw h1 rfl
    refine fx_bast C F hk1 hi1 d_Arrs_fill_13 (fun H locs (F : fx_F D h0 h1 H locs _ _) => ?_)
    let v1 : Int32 := (x2 + (1 : Int32))
    replace hw := hw v1 rfl
    refine lv_iinc (v := v1) (k := 2) (lv' := [(2, .int v1), (0, .ref r0), (1, .int x1), (3, .int x3)]) C.ex C.by d_Arrs_fill_14 hv rfl (congrArg (fun z => x2 + z) (by decide)) (by decide) rfl (fun ls hv => ?_)
    refine lv_goto C.ex C.by d_Arrs_fill_17 rfl ?_
    exact hX5 _ hw _ _ _ _ _ (lv_sub hv [1, 2, 0, 3] rfl) F
theorem b_Arrs_fill_0 {p : Program} {l : Launch} {e : Env} {R : Room} {s : State} {m : MethodId} {args : Array Value} {below : List Frame} {meth : Method} {c : Code} {D : DD} {h0 : AH} {Q : AH → Prop} (C : fx_CX D y_Arrs_fill prog_32_method_109_code 4 0 0 (none) [] h0 p R s m meth c) (hl : l.flags = flags0) (r0 : Nat) (x1 : Int32) (h : AH) (hw : m_Arrs_fill Q r0 x1 h) : ∀ (ls : Array Slot) (H : Heap) (locs : List Loc) (cells slots : Nat), lv_has ls 4 [(0, .ref r0), (1, .int x1)] → fx_F D h0 h H locs cells slots → W p l e R s m args below meth c H locs cells slots (fx_Z D below s h0 (fx_oV Q fx_no)) (F0 m 0 ls []) := by
  unfold m_Arrs_fill at hw
  intro ls H locs cells slots hv F
  refine lv_iconst (v := (0 : Int32)) C.ex C.by d_Arrs_fill_0 (by decide) ?_
  refine lv_istore_n (lv' := [(2, .int (0 : Int32)), (0, .ref r0), (1, .int x1)]) C.ex C.by d_Arrs_fill_1 rfl hv (by decide) rfl (fun ls hv => ?_)
  refine lv_aload_n C.ex C.by d_Arrs_fill_2 rfl (lv_at hv 1 rfl) ?_
  obtain ⟨hk1, hw⟩ := hw
  refine fx_alen C F hk1.gt d_Arrs_fill_3 ?_
  let v1 : Int32 := (nI (hp_n h r0))
  replace hw := hw v1 rfl
  refine lv_istore_n (lv' := [(3, .int v1), (2, .int (0 : Int32)), (0, .ref r0), (1, .int x1)]) C.ex C.by d_Arrs_fill_4 rfl hv (by decide) rfl (fun ls hv => ?_)
  exact b_Arrs_fill_5 C hl _ _ _ _ _ hw _ _ _ _ _ (lv_sub hv [2, 3, 1, 0] rfl) F
theorem hm_Arrs_fill : fx_hd y_Arrs_fill prog_32_method_109_code 4 (none) [] ∈ tables_1 := (fx_m4 (List.mem_of_getElem? (i := 150) rfl))
theorem hi_Arrs_fill : Cond.initialized y_Arrs_fill.cls ∈ tables_1 := (fx_m1 (List.mem_of_getElem? (i := 28) rfl))
theorem c_Arrs_fill {l : Launch} (hl : l.flags = flags0) {D : DD} {Q : AH → Prop} {r0 : Nat} {x1 : Int32} {h : AH} (hw : m_Arrs_fill Q r0 x1 h) : fx_Mt l D y_Arrs_fill (fx_hd y_Arrs_fill prog_32_method_109_code 4 (none) []) 0 0 [.ref r0, .int x1] h (fx_oV Q fx_no) := by
  refine fx_ofW (by decide +kernel) (fun p e s m below meth c C F => ?_)
  have hv := lv_entry ([.ref r0, .int x1]) (n := 4) (Nat.le_of_ble_eq_true rfl)
  rw [lg_entry_eq]
  generalize (lg_sl ([.ref r0, .int x1]) ++ List.replicate (4 - (lg_sl ([.ref r0, .int x1])).length) Slot.unset).toArray = ls at hv ⊢
  have hv : lv_has ls 4 [(0, .ref r0), (1, .int x1)] := hv
  exact b_Arrs_fill_0 C hl _ _ _ hw _ _ _ _ _ hv F
/-! ChainJudge$Sha256.begin()V: frames 0, words 0 -/
abbrev y_Sha_begin : MethodName := ⟨"ChainJudge$Sha256", "begin", "()V"⟩
theorem ls_Sha_16 : fx_Ls "ChainJudge$Sha256" 16 1 := ⟨_, rfl, Or.inr ⟨_, (fx_m4 (List.mem_of_getElem? (i := 162) rfl))⟩⟩
def dl_Sha_begin : List (Nat × Instr × Nat) := [(0, .iconst 0, 1), (1, .istore_n 1, 1), (2, .iload_n 1, 1), (3, .bipush 8, 2), (5, .if_icmp .ge 24, 3), (8, .aload_n 0, 1), (9, .getfield 7, 3), (12, .iload_n 1, 1), (13, .getstatic 16, 3), (16, .iload_n 1, 1), (17, .laload, 1), (18, .bipush 32, 2), (20, .lushr, 1), (21, .l2i, 1), (22, .iastore, 1), (23, .iinc 1 1, 3), (26, .goto (-24), 3), (29, .return_, 1)]
theorem dk_Sha_begin : fx_dec prog_12_method_2_code dl_Sha_begin = true := by decide +kernel
theorem d_Sha_begin_0 : decode prog_12_method_2_code 0 = .ok (.iconst 0, 1) := fx_dat dk_Sha_begin 0 rfl
theorem d_Sha_begin_1 : decode prog_12_method_2_code 1 = .ok (.istore_n 1, 1) := fx_dat dk_Sha_begin 1 rfl
theorem d_Sha_begin_2 : decode prog_12_method_2_code 2 = .ok (.iload_n 1, 1) := fx_dat dk_Sha_begin 2 rfl
theorem d_Sha_begin_3 : decode prog_12_method_2_code 3 = .ok (.bipush 8, 2) := fx_dat dk_Sha_begin 3 rfl
theorem d_Sha_begin_5 : decode prog_12_method_2_code 5 = .ok (.if_icmp .ge 24, 3) := fx_dat dk_Sha_begin 4 rfl
theorem d_Sha_begin_8 : decode prog_12_method_2_code 8 = .ok (.aload_n 0, 1) := fx_dat dk_Sha_begin 5 rfl
theorem d_Sha_begin_9 : decode prog_12_method_2_code 9 = .ok (.getfield 7, 3) := fx_dat dk_Sha_begin 6 rfl
theorem d_Sha_begin_12 : decode prog_12_method_2_code 12 = .ok (.iload_n 1, 1) := fx_dat dk_Sha_begin 7 rfl
theorem d_Sha_begin_13 : decode prog_12_method_2_code 13 = .ok (.getstatic 16, 3) := fx_dat dk_Sha_begin 8 rfl
theorem d_Sha_begin_16 : decode prog_12_method_2_code 16 = .ok (.iload_n 1, 1) := fx_dat dk_Sha_begin 9 rfl
theorem d_Sha_begin_17 : decode prog_12_method_2_code 17 = .ok (.laload, 1) := fx_dat dk_Sha_begin 10 rfl
theorem d_Sha_begin_18 : decode prog_12_method_2_code 18 = .ok (.bipush 32, 2) := fx_dat dk_Sha_begin 11 rfl
theorem d_Sha_begin_20 : decode prog_12_method_2_code 20 = .ok (.lushr, 1) := fx_dat dk_Sha_begin 12 rfl
theorem d_Sha_begin_21 : decode prog_12_method_2_code 21 = .ok (.l2i, 1) := fx_dat dk_Sha_begin 13 rfl
theorem d_Sha_begin_22 : decode prog_12_method_2_code 22 = .ok (.iastore, 1) := fx_dat dk_Sha_begin 14 rfl
theorem d_Sha_begin_23 : decode prog_12_method_2_code 23 = .ok (.iinc 1 1, 3) := fx_dat dk_Sha_begin 15 rfl
theorem d_Sha_begin_26 : decode prog_12_method_2_code 26 = .ok (.goto (-24), 3) := fx_dat dk_Sha_begin 16 rfl
theorem d_Sha_begin_29 : decode prog_12_method_2_code 29 = .ok (.return_, 1) := fx_dat dk_Sha_begin 17 rfl
def m_Sha_begin_2_b (Q : AH → Prop) (X2 : Int32 × AH → Prop) (r0 : Nat) (x1 : Int32) (h : AH) : Prop := ((8 : Int32) ≤ x1 → Q h) ∧ (¬ (8 : Int32) ≤ x1 → hp_k h r0 = 6 ∧ ∃ b1, hp_R h r0 0 = some b1 ∧ lk (hp_k h (hp_c h 1)) ∧ vp_in x1 (hp_n h (hp_c h 1)) ∧ hp_k h b1 = 102 ∧ vp_in x1 (hp_n h b1) ∧ ∀ h1 : AH, h1 = up_I h b1 (x1).toNatClampNeg (((sh_lu (hp_L h (hp_c h 1) x1.toNatClampNeg) (32 : Int32))).toInt32) → ∀ v1 : Int32, v1 = (x1 + (1 : Int32)) → X2 (v1, h1))
def m_Sha_begin_2 (Q : AH → Prop) (r0 : Nat) (x1 : Int32) (h : AH) : Prop := fx_loop (fun (X2 : Int32 × AH → Prop) (st : Int32 × AH) => m_Sha_begin_2_b Q X2 r0 st.1 st.2) (x1, h)
def m_Sha_begin (Q : AH → Prop) (r0 : Nat) (h : AH) : Prop := m_Sha_begin_2 Q r0 (0 : Int32) h
theorem b_Sha_begin_2 {p : Program} {l : Launch} {e : Env} {R : Room} {s : State} {m : MethodId} {args : Array Value} {below : List Frame} {meth : Method} {c : Code} {D : DD} {h0 : AH} {Q : AH → Prop} (C : fx_CX D y_Sha_begin prog_12_method_2_code 2 0 0 (none) [] h0 p R s m meth c) (hl : l.flags = flags0) (r0 : Nat) (x1 : Int32) (h : AH) (hw : m_Sha_begin_2 Q r0 x1 h) : ∀ (ls : Array Slot) (H : Heap) (locs : List Loc) (cells slots : Nat), lv_has ls 2 [(0, .ref r0), (1, .int x1)] → fx_F D h0 h H locs cells slots → W p l e R s m args below meth c H locs cells slots (fx_Z D below s h0 (fx_oV Q fx_no)) (F0 m 2 ls []) := by
  refine fx_loop.use hw (fun st => ∀ (ls : Array Slot) (H : Heap) (locs : List Loc) (cells slots : Nat), lv_has ls 2 [(0, .ref r0), (1, .int st.1)] → fx_F D h0 st.2 H locs cells slots → W p l e R s m args below meth c H locs cells slots (fx_Z D below s h0 (fx_oV Q fx_no)) (F0 m 2 ls [])) (fun X2 st hX2 hw => ?_)
  obtain ⟨x1, h⟩ := st
  replace hw : m_Sha_begin_2_b Q X2 r0 x1 h := hw
  unfold m_Sha_begin_2_b at hw
  intro ls H locs cells slots hv F
  refine lv_iload_n C.ex C.by d_Sha_begin_2 rfl (lv_at hv 1 rfl) ?_
  refine lv_bipush (v := (8 : Int32)) C.ex C.by d_Sha_begin_3 (by decide) ?_
  refine lv_icmp_ge C.ex C.by d_Sha_begin_5 rfl (fun hc => ?_) (fun hc => ?_)
  · replace hw := hw.1 hc
    exact fx_vret C F d_Sha_begin_29 (Or.inl ⟨rfl, hw⟩)
  · replace hw := hw.2 hc
    refine lv_aload_n C.ex C.by d_Sha_begin_8 rfl (lv_at hv 0 rfl) ?_
    obtain ⟨hk1, hw⟩ := hw
    obtain ⟨b1, hb1, hw⟩ := hw
    refine fx_getR C F lf_Sha_7 hk1 rfl hb1 d_Sha_begin_9 ?_
    refine lv_iload_n C.ex C.by d_Sha_begin_12 rfl (lv_at hv 1 rfl) ?_
    refine fx_gets C F ls_Sha_16 d_Sha_begin_13 ?_
    refine lv_iload_n C.ex C.by d_Sha_begin_16 rfl (lv_at hv 1 rfl) ?_
    obtain ⟨hk2, hw⟩ := hw
    obtain ⟨hi1, hw⟩ := hw
    refine fx_lald C F hk2 hi1 d_Sha_begin_17 ?_
    refine lv_bipush (v := (32 : Int32)) C.ex C.by d_Sha_begin_18 (by decide) ?_
    refine lv_lushr (v := (sh_lu (hp_L h (hp_c h 1) x1.toNatClampNeg) (32 : Int32))) C.ex C.by d_Sha_begin_20 rfl ?_
    refine lv_l2i (v := (((sh_lu (hp_L h (hp_c h 1) x1.toNatClampNeg) (32 : Int32))).toInt32)) C.ex C.by d_Sha_begin_21 rfl ?_
    obtain ⟨hk3, hw⟩ := hw
    obtain ⟨hi2, hw⟩ := hw
    let h1 : AH := up_I h b1 (x1).toNatClampNeg (((sh_lu (hp_L h (hp_c h 1) x1.toNatClampNeg) (32 : Int32))).toInt32)
    replace hw := hw h1 rfl
    refine fx_iast C F hk3 hi2 d_Sha_begin_22 (fun H locs (F : fx_F D h0 h1 H locs _ _) => ?_)
    let v1 : Int32 := (x1 + (1 : Int32))
    replace hw := hw v1 rfl
    refine lv_iinc (v := v1) (k := 1) (lv' := [(1, .int v1), (0, .ref r0)]) C.ex C.by d_Sha_begin_23 hv rfl (congrArg (fun z => x1 + z) (by decide)) (by decide) rfl (fun ls hv => ?_)
    refine lv_goto C.ex C.by d_Sha_begin_26 rfl ?_
    exact hX2 _ hw _ _ _ _ _ (lv_sub hv [1, 0] rfl) F
theorem b_Sha_begin_0 {p : Program} {l : Launch} {e : Env} {R : Room} {s : State} {m : MethodId} {args : Array Value} {below : List Frame} {meth : Method} {c : Code} {D : DD} {h0 : AH} {Q : AH → Prop} (C : fx_CX D y_Sha_begin prog_12_method_2_code 2 0 0 (none) [] h0 p R s m meth c) (hl : l.flags = flags0) (r0 : Nat) (h : AH) (hw : m_Sha_begin Q r0 h) : ∀ (ls : Array Slot) (H : Heap) (locs : List Loc) (cells slots : Nat), lv_has ls 2 [(0, .ref r0)] → fx_F D h0 h H locs cells slots → W p l e R s m args below meth c H locs cells slots (fx_Z D below s h0 (fx_oV Q fx_no)) (F0 m 0 ls []) := by
  unfold m_Sha_begin at hw
  intro ls H locs cells slots hv F
  refine lv_iconst (v := (0 : Int32)) C.ex C.by d_Sha_begin_0 (by decide) ?_
  refine lv_istore_n (lv' := [(1, .int (0 : Int32)), (0, .ref r0)]) C.ex C.by d_Sha_begin_1 rfl hv (by decide) rfl (fun ls hv => ?_)
  exact b_Sha_begin_2 C hl _ _ _ hw _ _ _ _ _ (lv_sub hv [1, 0] rfl) F
theorem hm_Sha_begin : fx_hd y_Sha_begin prog_12_method_2_code 2 (none) [] ∈ tables_1 := (fx_m4 (List.mem_of_getElem? (i := 161) rfl))
theorem hi_Sha_begin : Cond.initialized y_Sha_begin.cls ∈ tables_1 := (fx_m1 (List.mem_of_getElem? (i := 9) rfl))
theorem c_Sha_begin {l : Launch} (hl : l.flags = flags0) {D : DD} {Q : AH → Prop} {r0 : Nat} {h : AH} (hw : m_Sha_begin Q r0 h) : fx_Mt l D y_Sha_begin (fx_hd y_Sha_begin prog_12_method_2_code 2 (none) []) 0 0 [.ref r0] h (fx_oV Q fx_no) := by
  refine fx_ofW (plainFor_of_name (by decide)) (fun p e s m below meth c C F => ?_)
  have hv := lv_entry ([.ref r0]) (n := 2) (Nat.le_of_ble_eq_true rfl)
  rw [lg_entry_eq]
  generalize (lg_sl ([.ref r0]) ++ List.replicate (2 - (lg_sl ([.ref r0])).length) Slot.unset).toArray = ls at hv ⊢
  have hv : lv_has ls 2 [(0, .ref r0)] := hv
  exact b_Sha_begin_0 C hl _ _ hw _ _ _ _ _ hv F
/-! ChainJudge$Digest.reset()V: frames 1, words 13 -/
abbrev y_Dig_reset : MethodName := ⟨"ChainJudge$Digest", "reset", "()V"⟩
theorem lm_Dig_30 : Cond.methodLink "ChainJudge$Digest" 30 (⟨"ChainJudge$Digest", "begin", "()V"⟩ : MethodName) ∈ tables_1 := (fx_m4 (List.mem_of_getElem? (i := 156) rfl))
section
variable {p : Program} {l : Launch} {e : Env} {R : Room} {s : State} {m : MethodId} {args : Array Value} {below : List Frame} {meth : Method} {c : Code} {H : Heap} {locs : List Loc} {cells slots : Nat}
variable {D : DD} {y : MethodName} {cc : ByteArray} {nL kf kw : Nat} {ret : Option FieldType} {hh : List (Nat × Nat × Nat × Nat)} {h0 h : AH} {pc : Nat} {ls : Array Slot} {rest : List Value} {b idx : Nat}
theorem iv_Sha_begin_u (C : fx_CX D y cc nL kf kw ret hh h0 p R s m meth c) (F : fx_F D h0 h H locs cells slots) (hw1 : Cond.methodLink y.cls idx (⟨"ChainJudge$Digest", "begin", "()V"⟩ : MethodName) ∈ tables_1) (hk : hp_k h b = 6) (hd : decode cc pc = .ok (.invokevirtual idx, 3)) : fx_IV p l e R s m args below meth c H locs cells slots (F0 m pc ls (.ref b :: rest)) rest y_Sha_begin [.ref b] 3 := fun T hT X => fx_invU (As := []) (x' := (⟨"ChainJudge$Digest", "begin", "()V"⟩ : MethodName)) (owner := "ChainJudge$Digest") (Cn := "ChainJudge$Sha256") C X hw1 (fx_m4 (List.mem_of_getElem? (i := 158) rfl)) (fx_m4 (List.mem_of_getElem? (i := 157) rfl)) (fx_m4 (List.mem_of_getElem? (i := 160) rfl)) (fx_selW C (fx_m4 (List.mem_of_getElem? (i := 159) rfl))) ⟨by decide, by decide⟩ (by rw [hT]; exact fx_clsO (ci := 5) (r := ("ChainJudge$Sha256", fx_T5, 8)) C F rfl (by decide) hk) rfl (n := 0) (by decide +kernel) rfl rfl hd
end
def dl_Dig_reset : List (Nat × Instr × Nat) := [(0, .aload_n 0, 1), (1, .iconst 0, 1), (2, .putfield 7, 3), (5, .aload_n 0, 1), (6, .lconst 0, 1), (7, .putfield 13, 3), (10, .aload_n 0, 1), (11, .invokevirtual 30, 3), (14, .return_, 1)]
theorem dk_Dig_reset : fx_dec prog_3_method_6_code dl_Dig_reset = true := by decide +kernel
theorem d_Dig_reset_0 : decode prog_3_method_6_code 0 = .ok (.aload_n 0, 1) := fx_dat dk_Dig_reset 0 rfl
theorem d_Dig_reset_1 : decode prog_3_method_6_code 1 = .ok (.iconst 0, 1) := fx_dat dk_Dig_reset 1 rfl
theorem d_Dig_reset_2 : decode prog_3_method_6_code 2 = .ok (.putfield 7, 3) := fx_dat dk_Dig_reset 2 rfl
theorem d_Dig_reset_5 : decode prog_3_method_6_code 5 = .ok (.aload_n 0, 1) := fx_dat dk_Dig_reset 3 rfl
theorem d_Dig_reset_6 : decode prog_3_method_6_code 6 = .ok (.lconst 0, 1) := fx_dat dk_Dig_reset 4 rfl
theorem d_Dig_reset_7 : decode prog_3_method_6_code 7 = .ok (.putfield 13, 3) := fx_dat dk_Dig_reset 5 rfl
theorem d_Dig_reset_10 : decode prog_3_method_6_code 10 = .ok (.aload_n 0, 1) := fx_dat dk_Dig_reset 6 rfl
theorem d_Dig_reset_11 : decode prog_3_method_6_code 11 = .ok (.invokevirtual 30, 3) := fx_dat dk_Dig_reset 7 rfl
theorem d_Dig_reset_14 : decode prog_3_method_6_code 14 = .ok (.return_, 1) := fx_dat dk_Dig_reset 8 rfl
def m_Dig_reset (Q : AH → Prop) (r0 : Nat) (h : AH) : Prop := hp_k h r0 = 6 ∧ ∀ h1 : AH, h1 = up_I h r0 5 (0 : Int32) → ∀ h2 : AH, h2 = up_L h1 r0 6 (0 : Int64) → m_Sha_begin (fun h3 => fx_ext h2 h3 → Q h3) r0 h2
theorem b_Dig_reset_0 {p : Program} {l : Launch} {e : Env} {R : Room} {s : State} {m : MethodId} {args : Array Value} {below : List Frame} {meth : Method} {c : Code} {D : DD} {h0 : AH} {Q : AH → Prop} (C : fx_CX D y_Dig_reset prog_3_method_6_code 1 1 13 (none) [] h0 p R s m meth c) (hl : l.flags = flags0) (r0 : Nat) (h : AH) (hw : m_Dig_reset Q r0 h) : ∀ (ls : Array Slot) (H : Heap) (locs : List Loc) (cells slots : Nat), lv_has ls 1 [(0, .ref r0)] → fx_F D h0 h H locs cells slots → W p l e R s m args below meth c H locs cells slots (fx_Z D below s h0 (fx_oV Q fx_no)) (F0 m 0 ls []) := by
  unfold m_Dig_reset at hw
  intro ls H locs cells slots hv F
  refine lv_aload_n C.ex C.by d_Dig_reset_0 rfl (lv_at hv 0 rfl) ?_
  refine lv_iconst (v := (0 : Int32)) C.ex C.by d_Dig_reset_1 (by decide) ?_
  obtain ⟨hk1, hw⟩ := hw
  let h1 : AH := up_I h r0 5 (0 : Int32)
  replace hw := hw h1 rfl
  refine fx_putI C F lf_Dig_7 hk1 rfl rfl (fx_mayF.no rfl rfl) d_Dig_reset_2 (fun H locs (F : fx_F D h0 h1 H locs _ _) => ?_)
  refine lv_aload_n C.ex C.by d_Dig_reset_5 rfl (lv_at hv 0 rfl) ?_
  refine lv_lconst (v := (0 : Int64)) C.ex C.by d_Dig_reset_6 (by decide) ?_
  let h2 : AH := up_L h1 r0 6 (0 : Int64)
  replace hw := hw h2 rfl
  refine fx_putL C F lf_Dig_13 hk1 rfl rfl (fx_mayF.no rfl rfl) d_Dig_reset_7 (fun H locs (F : fx_F D h0 h2 H locs _ _) => ?_)
  refine lv_aload_n C.ex C.by d_Dig_reset_10 rfl (lv_at hv 0 rfl) ?_
  refine fx_callV C F (c_Sha_begin hl hw) hm_Sha_begin hi_Sha_begin hv.1 (by decide) (Nat.le_of_ble_eq_true rfl) (iv_Sha_begin_u C F lm_Dig_30 hk1 d_Dig_reset_11) (fx_out0 _) fx_eno (fun h3 H locs cells slots hw hx1 F => ?_)
  replace hw := hw hx1
  have hk1 := (hx1).k hk1
  exact fx_vret C F d_Dig_reset_14 (Or.inl ⟨rfl, hw⟩)
theorem hm_Dig_reset : fx_hd y_Dig_reset prog_3_method_6_code 1 (none) [] ∈ tables_1 := (fx_m4 (List.mem_of_getElem? (i := 155) rfl))
theorem hi_Dig_reset : Cond.initialized y_Dig_reset.cls ∈ tables_1 := (fx_m1 (List.mem_of_getElem? (i := 8) rfl))
theorem c_Dig_reset {l : Launch} (hl : l.flags = flags0) {D : DD} {Q : AH → Prop} {r0 : Nat} {h : AH} (hw : m_Dig_reset Q r0 h) : fx_Mt l D y_Dig_reset (fx_hd y_Dig_reset prog_3_method_6_code 1 (none) []) 1 13 [.ref r0] h (fx_oV Q fx_no) := by
  refine fx_ofW (plainFor_of_name (by decide)) (fun p e s m below meth c C F => ?_)
  have hv := lv_entry ([.ref r0]) (n := 1) (Nat.le_of_ble_eq_true rfl)
  rw [lg_entry_eq]
  generalize (lg_sl ([.ref r0]) ++ List.replicate (1 - (lg_sl ([.ref r0])).length) Slot.unset).toArray = ls at hv ⊢
  have hv : lv_has ls 1 [(0, .ref r0)] := hv
  exact b_Dig_reset_0 C hl _ _ hw _ _ _ _ _ hv F
/-! java/lang/Integer.rotateRight(II)I: frames 0, words 0 -/
abbrev y_Int_rotateRight : MethodName := ⟨"java/lang/Integer", "rotateRight", "(II)I"⟩
def dl_Int_rotateRight : List (Nat × Instr × Nat) := [(0, .iload_n 0, 1), (1, .iload_n 1, 1), (2, .iushr, 1), (3, .iload_n 0, 1), (4, .iload_n 1, 1), (5, .ineg, 1), (6, .ishl, 1), (7, .ior, 1), (8, .ireturn, 1)]
theorem dk_Int_rotateRight : fx_dec prog_22_method_51_code dl_Int_rotateRight = true := by decide +kernel
theorem d_Int_rotateRight_0 : decode prog_22_method_51_code 0 = .ok (.iload_n 0, 1) := fx_dat dk_Int_rotateRight 0 rfl
theorem d_Int_rotateRight_1 : decode prog_22_method_51_code 1 = .ok (.iload_n 1, 1) := fx_dat dk_Int_rotateRight 1 rfl
theorem d_Int_rotateRight_2 : decode prog_22_method_51_code 2 = .ok (.iushr, 1) := fx_dat dk_Int_rotateRight 2 rfl
theorem d_Int_rotateRight_3 : decode prog_22_method_51_code 3 = .ok (.iload_n 0, 1) := fx_dat dk_Int_rotateRight 3 rfl
theorem d_Int_rotateRight_4 : decode prog_22_method_51_code 4 = .ok (.iload_n 1, 1) := fx_dat dk_Int_rotateRight 4 rfl
theorem d_Int_rotateRight_5 : decode prog_22_method_51_code 5 = .ok (.ineg, 1) := fx_dat dk_Int_rotateRight 5 rfl
theorem d_Int_rotateRight_6 : decode prog_22_method_51_code 6 = .ok (.ishl, 1) := fx_dat dk_Int_rotateRight 6 rfl
theorem d_Int_rotateRight_7 : decode prog_22_method_51_code 7 = .ok (.ior, 1) := fx_dat dk_Int_rotateRight 7 rfl
theorem d_Int_rotateRight_8 : decode prog_22_method_51_code 8 = .ok (.ireturn, 1) := fx_dat dk_Int_rotateRight 8 rfl
def m_Int_rotateRight (Q : Int32 → AH → Prop) (x0 : Int32) (x1 : Int32) (h : AH) : Prop := Q ((sh_iu x0 x1) ||| (x0 <<< ((-x1) &&& 31))) h
theorem b_Int_rotateRight_0 {p : Program} {l : Launch} {e : Env} {R : Room} {s : State} {m : MethodId} {args : Array Value} {below : List Frame} {meth : Method} {c : Code} {D : DD} {h0 : AH} {Q : Int32 → AH → Prop} (C : fx_CX D y_Int_rotateRight prog_22_method_51_code 2 0 0 (Option.some FieldType.int) [] h0 p R s m meth c) (hl : l.flags = flags0) (x0 : Int32) (x1 : Int32) (h : AH) (hw : m_Int_rotateRight Q x0 x1 h) : ∀ (ls : Array Slot) (H : Heap) (locs : List Loc) (cells slots : Nat), lv_has ls 2 [(0, .int x0), (1, .int x1)] → fx_F D h0 h H locs cells slots → W p l e R s m args below meth c H locs cells slots (fx_Z D below s h0 (fx_oI Q fx_no)) (F0 m 0 ls []) := by
  unfold m_Int_rotateRight at hw
  intro ls H locs cells slots hv F
  refine lv_iload_n C.ex C.by d_Int_rotateRight_0 rfl (lv_at hv 0 rfl) ?_
  refine lv_iload_n C.ex C.by d_Int_rotateRight_1 rfl (lv_at hv 1 rfl) ?_
  refine lv_iushr (v := (sh_iu x0 x1)) C.ex C.by d_Int_rotateRight_2 rfl ?_
  refine lv_iload_n C.ex C.by d_Int_rotateRight_3 rfl (lv_at hv 0 rfl) ?_
  refine lv_iload_n C.ex C.by d_Int_rotateRight_4 rfl (lv_at hv 1 rfl) ?_
  refine lv_ineg C.ex C.by d_Int_rotateRight_5 ?_
  refine lv_ishl C.ex C.by d_Int_rotateRight_6 ?_
  refine lv_ior C.ex C.by d_Int_rotateRight_7 ?_
  exact fx_iret C F d_Int_rotateRight_8 (Or.inl ⟨_, rfl, hw⟩)
theorem hm_Int_rotateRight : fx_hd y_Int_rotateRight prog_22_method_51_code 2 (Option.some FieldType.int) [] ∈ tables_1 := (fx_m4 (List.mem_of_getElem? (i := 188) rfl))
theorem hi_Int_rotateRight : Cond.initialized y_Int_rotateRight.cls ∈ tables_1 := (fx_m1 (List.mem_of_getElem? (i := 26) rfl))
theorem c_Int_rotateRight {l : Launch} (hl : l.flags = flags0) {D : DD} {Q : Int32 → AH → Prop} {x0 : Int32} {x1 : Int32} {h : AH} (hw : m_Int_rotateRight Q x0 x1 h) : fx_Mt l D y_Int_rotateRight (fx_hd y_Int_rotateRight prog_22_method_51_code 2 (Option.some FieldType.int) []) 0 0 [.int x0, .int x1] h (fx_oI Q fx_no) := by
  refine fx_ofW (by decide +kernel) (fun p e s m below meth c C F => ?_)
  have hv := lv_entry ([.int x0, .int x1]) (n := 2) (Nat.le_of_ble_eq_true rfl)
  rw [lg_entry_eq]
  generalize (lg_sl ([.int x0, .int x1]) ++ List.replicate (2 - (lg_sl ([.int x0, .int x1])).length) Slot.unset).toArray = ls at hv ⊢
  have hv : lv_has ls 2 [(0, .int x0), (1, .int x1)] := hv
  exact b_Int_rotateRight_0 C hl _ _ _ hw _ _ _ _ _ hv F
/-! ChainJudge$Sha256.spread([BI)V: frames 1, words 19 -/
abbrev y_Sha_spread : MethodName := ⟨"ChainJudge$Sha256", "spread", "([BI)V"⟩
theorem lm_Sha_28 : Cond.methodLink "ChainJudge$Sha256" 28 y_J_number ∈ tables_1 ∨ ∃ host, Cond.methodLinkNest "ChainJudge$Sha256" 28 y_J_number host ∈ tables_1 := Or.inr ⟨_, (fx_m4 (List.mem_of_getElem? (i := 185) rfl))⟩
theorem lm_Sha_32 : Cond.methodLink "ChainJudge$Sha256" 32 y_Int_rotateRight ∈ tables_1 ∨ ∃ host, Cond.methodLinkNest "ChainJudge$Sha256" 32 y_Int_rotateRight host ∈ tables_1 := Or.inl (fx_m4 (List.mem_of_getElem? (i := 186) rfl))
section
variable {p : Program} {l : Launch} {e : Env} {R : Room} {s : State} {m : MethodId} {args : Array Value} {below : List Frame} {meth : Method} {c : Code} {H : Heap} {locs : List Loc} {cells slots : Nat}
variable {D : DD} {y : MethodName} {cc : ByteArray} {nL kf kw : Nat} {ret : Option FieldType} {hh : List (Nat × Nat × Nat × Nat)} {h0 h : AH} {pc : Nat} {ls : Array Slot} {rest : List Value} {b idx : Nat}
theorem iv_Int_rotateRight {x0 : Int32} {x1 : Int32} (C : fx_CX D y cc nL kf kw ret hh h0 p R s m meth c) (F : fx_F D h0 h H locs cells slots) (hw1 : Cond.methodLink y.cls idx y_Int_rotateRight ∈ tables_1 ∨ ∃ host, Cond.methodLinkNest y.cls idx y_Int_rotateRight host ∈ tables_1) (hd : decode cc pc = .ok (.invokestatic idx, 3)) : fx_IV p l e R s m args below meth c H locs cells slots (F0 m pc ls (.int x1 :: .int x0 :: rest)) rest y_Int_rotateRight [.int x0, .int x1] 3 := fun T hT X => fx_invS (As := [.int x0, .int x1]) C X hw1 (fx_m4 (List.mem_of_getElem? (i := 187) rfl)) hi_Int_rotateRight hm_Int_rotateRight ⟨by decide, by decide⟩ rfl (n := 2) (by decide +kernel) rfl rfl hd
end
def dl_Sha_spread : List (Nat × Instr × Nat) := [(0, .iconst 0, 1), (1, .istore_n 3, 1), (2, .iload_n 3, 1), (3, .bipush 16, 2), (5, .if_icmp .ge 26, 3), (8, .aload_n 0, 1), (9, .getfield 13, 3), (12, .iload_n 3, 1), (13, .aload_n 1, 1), (14, .iload_n 2, 1), (15, .iconst 4, 1), (16, .iload_n 3, 1), (17, .imul, 1), (18, .iadd, 1), (19, .iconst 4, 1), (20, .invokestatic 28, 3), (23, .l2i, 1), (24, .iastore, 1), (25, .iinc 3 1, 3), (28, .goto (-26), 3), (31, .bipush 16, 2), (33, .istore_n 3, 1), (34, .iload_n 3, 1), (35, .bipush 64, 2), (37, .if_icmp .ge 106, 3), (40, .aload_n 0, 1), (41, .getfield 13, 3), (44, .iload_n 3, 1), (45, .bipush 15, 2), (47, .isub, 1), (48, .iaload, 1), (49, .istore 4, 2), (51, .aload_n 0, 1), (52, .getfield 13, 3), (55, .iload_n 3, 1), (56, .iconst 2, 1), (57, .isub, 1), (58, .iaload, 1), (59, .istore 5, 2), (61, .iload 4, 2), (63, .bipush 7, 2), (65, .invokestatic 32, 3), (68, .iload 4, 2), (70, .bipush 18, 2), (72, .invokestatic 32, 3), (75, .ixor, 1), (76, .iload 4, 2), (78, .iconst 3, 1), (79, .iushr, 1), (80, .ixor, 1), (81, .istore 6, 2), (83, .iload 5, 2), (85, .bipush 17, 2), (87, .invokestatic 32, 3), (90, .iload 5, 2), (92, .bipush 19, 2), (94, .invokestatic 32, 3), (97, .ixor, 1), (98, .iload 5, 2), (100, .bipush 10, 2), (102, .iushr, 1), (103, .ixor, 1), (104, .istore 7, 2), (106, .aload_n 0, 1), (107, .getfield 13, 3), (110, .iload_n 3, 1), (111, .aload_n 0, 1), (112, .getfield 13, 3), (115, .iload_n 3, 1), (116, .bipush 16, 2), (118, .isub, 1), (119, .iaload, 1), (120, .iload 6, 2), (122, .iadd, 1), (123, .aload_n 0, 1), (124, .getfield 13, 3), (127, .iload_n 3, 1), (128, .bipush 7, 2), (130, .isub, 1), (131, .iaload, 1), (132, .iadd, 1), (133, .iload 7, 2), (135, .iadd, 1), (136, .iastore, 1), (137, .iinc 3 1, 3), (140, .goto (-106), 3), (143, .return_, 1)]
theorem dk_Sha_spread : fx_dec prog_12_method_4_code dl_Sha_spread = true := by decide +kernel
theorem d_Sha_spread_0 : decode prog_12_method_4_code 0 = .ok (.iconst 0, 1) := fx_dat dk_Sha_spread 0 rfl
theorem d_Sha_spread_1 : decode prog_12_method_4_code 1 = .ok (.istore_n 3, 1) := fx_dat dk_Sha_spread 1 rfl
theorem d_Sha_spread_2 : decode prog_12_method_4_code 2 = .ok (.iload_n 3, 1) := fx_dat dk_Sha_spread 2 rfl
theorem d_Sha_spread_3 : decode prog_12_method_4_code 3 = .ok (.bipush 16, 2) := fx_dat dk_Sha_spread 3 rfl
theorem d_Sha_spread_5 : decode prog_12_method_4_code 5 = .ok (.if_icmp .ge 26, 3) := fx_dat dk_Sha_spread 4 rfl
theorem d_Sha_spread_8 : decode prog_12_method_4_code 8 = .ok (.aload_n 0, 1) := fx_dat dk_Sha_spread 5 rfl
theorem d_Sha_spread_9 : decode prog_12_method_4_code 9 = .ok (.getfield 13, 3) := fx_dat dk_Sha_spread 6 rfl
theorem d_Sha_spread_12 : decode prog_12_method_4_code 12 = .ok (.iload_n 3, 1) := fx_dat dk_Sha_spread 7 rfl
theorem d_Sha_spread_13 : decode prog_12_method_4_code 13 = .ok (.aload_n 1, 1) := fx_dat dk_Sha_spread 8 rfl
theorem d_Sha_spread_14 : decode prog_12_method_4_code 14 = .ok (.iload_n 2, 1) := fx_dat dk_Sha_spread 9 rfl
theorem d_Sha_spread_15 : decode prog_12_method_4_code 15 = .ok (.iconst 4, 1) := fx_dat dk_Sha_spread 10 rfl
theorem d_Sha_spread_16 : decode prog_12_method_4_code 16 = .ok (.iload_n 3, 1) := fx_dat dk_Sha_spread 11 rfl
theorem d_Sha_spread_17 : decode prog_12_method_4_code 17 = .ok (.imul, 1) := fx_dat dk_Sha_spread 12 rfl
theorem d_Sha_spread_18 : decode prog_12_method_4_code 18 = .ok (.iadd, 1) := fx_dat dk_Sha_spread 13 rfl
theorem d_Sha_spread_19 : decode prog_12_method_4_code 19 = .ok (.iconst 4, 1) := fx_dat dk_Sha_spread 14 rfl
theorem d_Sha_spread_20 : decode prog_12_method_4_code 20 = .ok (.invokestatic 28, 3) := fx_dat dk_Sha_spread 15 rfl
theorem d_Sha_spread_23 : decode prog_12_method_4_code 23 = .ok (.l2i, 1) := fx_dat dk_Sha_spread 16 rfl
theorem d_Sha_spread_24 : decode prog_12_method_4_code 24 = .ok (.iastore, 1) := fx_dat dk_Sha_spread 17 rfl
theorem d_Sha_spread_25 : decode prog_12_method_4_code 25 = .ok (.iinc 3 1, 3) := fx_dat dk_Sha_spread 18 rfl
theorem d_Sha_spread_28 : decode prog_12_method_4_code 28 = .ok (.goto (-26), 3) := fx_dat dk_Sha_spread 19 rfl
theorem d_Sha_spread_31 : decode prog_12_method_4_code 31 = .ok (.bipush 16, 2) := fx_dat dk_Sha_spread 20 rfl
theorem d_Sha_spread_33 : decode prog_12_method_4_code 33 = .ok (.istore_n 3, 1) := fx_dat dk_Sha_spread 21 rfl
theorem d_Sha_spread_34 : decode prog_12_method_4_code 34 = .ok (.iload_n 3, 1) := fx_dat dk_Sha_spread 22 rfl
theorem d_Sha_spread_35 : decode prog_12_method_4_code 35 = .ok (.bipush 64, 2) := fx_dat dk_Sha_spread 23 rfl
theorem d_Sha_spread_37 : decode prog_12_method_4_code 37 = .ok (.if_icmp .ge 106, 3) := fx_dat dk_Sha_spread 24 rfl
theorem d_Sha_spread_40 : decode prog_12_method_4_code 40 = .ok (.aload_n 0, 1) := fx_dat dk_Sha_spread 25 rfl
theorem d_Sha_spread_41 : decode prog_12_method_4_code 41 = .ok (.getfield 13, 3) := fx_dat dk_Sha_spread 26 rfl
theorem d_Sha_spread_44 : decode prog_12_method_4_code 44 = .ok (.iload_n 3, 1) := fx_dat dk_Sha_spread 27 rfl
theorem d_Sha_spread_45 : decode prog_12_method_4_code 45 = .ok (.bipush 15, 2) := fx_dat dk_Sha_spread 28 rfl
theorem d_Sha_spread_47 : decode prog_12_method_4_code 47 = .ok (.isub, 1) := fx_dat dk_Sha_spread 29 rfl
theorem d_Sha_spread_48 : decode prog_12_method_4_code 48 = .ok (.iaload, 1) := fx_dat dk_Sha_spread 30 rfl
theorem d_Sha_spread_49 : decode prog_12_method_4_code 49 = .ok (.istore 4, 2) := fx_dat dk_Sha_spread 31 rfl
theorem d_Sha_spread_51 : decode prog_12_method_4_code 51 = .ok (.aload_n 0, 1) := fx_dat dk_Sha_spread 32 rfl
theorem d_Sha_spread_52 : decode prog_12_method_4_code 52 = .ok (.getfield 13, 3) := fx_dat dk_Sha_spread 33 rfl
theorem d_Sha_spread_55 : decode prog_12_method_4_code 55 = .ok (.iload_n 3, 1) := fx_dat dk_Sha_spread 34 rfl
theorem d_Sha_spread_56 : decode prog_12_method_4_code 56 = .ok (.iconst 2, 1) := fx_dat dk_Sha_spread 35 rfl
theorem d_Sha_spread_57 : decode prog_12_method_4_code 57 = .ok (.isub, 1) := fx_dat dk_Sha_spread 36 rfl
theorem d_Sha_spread_58 : decode prog_12_method_4_code 58 = .ok (.iaload, 1) := fx_dat dk_Sha_spread 37 rfl
theorem d_Sha_spread_59 : decode prog_12_method_4_code 59 = .ok (.istore 5, 2) := fx_dat dk_Sha_spread 38 rfl
theorem d_Sha_spread_61 : decode prog_12_method_4_code 61 = .ok (.iload 4, 2) := fx_dat dk_Sha_spread 39 rfl
theorem d_Sha_spread_63 : decode prog_12_method_4_code 63 = .ok (.bipush 7, 2) := fx_dat dk_Sha_spread 40 rfl
theorem d_Sha_spread_65 : decode prog_12_method_4_code 65 = .ok (.invokestatic 32, 3) := fx_dat dk_Sha_spread 41 rfl
theorem d_Sha_spread_68 : decode prog_12_method_4_code 68 = .ok (.iload 4, 2) := fx_dat dk_Sha_spread 42 rfl
theorem d_Sha_spread_70 : decode prog_12_method_4_code 70 = .ok (.bipush 18, 2) := fx_dat dk_Sha_spread 43 rfl
theorem d_Sha_spread_72 : decode prog_12_method_4_code 72 = .ok (.invokestatic 32, 3) := fx_dat dk_Sha_spread 44 rfl
theorem d_Sha_spread_75 : decode prog_12_method_4_code 75 = .ok (.ixor, 1) := fx_dat dk_Sha_spread 45 rfl
theorem d_Sha_spread_76 : decode prog_12_method_4_code 76 = .ok (.iload 4, 2) := fx_dat dk_Sha_spread 46 rfl
theorem d_Sha_spread_78 : decode prog_12_method_4_code 78 = .ok (.iconst 3, 1) := fx_dat dk_Sha_spread 47 rfl
theorem d_Sha_spread_79 : decode prog_12_method_4_code 79 = .ok (.iushr, 1) := fx_dat dk_Sha_spread 48 rfl
theorem d_Sha_spread_80 : decode prog_12_method_4_code 80 = .ok (.ixor, 1) := fx_dat dk_Sha_spread 49 rfl
theorem d_Sha_spread_81 : decode prog_12_method_4_code 81 = .ok (.istore 6, 2) := fx_dat dk_Sha_spread 50 rfl
theorem d_Sha_spread_83 : decode prog_12_method_4_code 83 = .ok (.iload 5, 2) := fx_dat dk_Sha_spread 51 rfl
theorem d_Sha_spread_85 : decode prog_12_method_4_code 85 = .ok (.bipush 17, 2) := fx_dat dk_Sha_spread 52 rfl
theorem d_Sha_spread_87 : decode prog_12_method_4_code 87 = .ok (.invokestatic 32, 3) := fx_dat dk_Sha_spread 53 rfl
theorem d_Sha_spread_90 : decode prog_12_method_4_code 90 = .ok (.iload 5, 2) := fx_dat dk_Sha_spread 54 rfl
theorem d_Sha_spread_92 : decode prog_12_method_4_code 92 = .ok (.bipush 19, 2) := fx_dat dk_Sha_spread 55 rfl
theorem d_Sha_spread_94 : decode prog_12_method_4_code 94 = .ok (.invokestatic 32, 3) := fx_dat dk_Sha_spread 56 rfl
theorem d_Sha_spread_97 : decode prog_12_method_4_code 97 = .ok (.ixor, 1) := fx_dat dk_Sha_spread 57 rfl
theorem d_Sha_spread_98 : decode prog_12_method_4_code 98 = .ok (.iload 5, 2) := fx_dat dk_Sha_spread 58 rfl
theorem d_Sha_spread_100 : decode prog_12_method_4_code 100 = .ok (.bipush 10, 2) := fx_dat dk_Sha_spread 59 rfl
theorem d_Sha_spread_102 : decode prog_12_method_4_code 102 = .ok (.iushr, 1) := fx_dat dk_Sha_spread 60 rfl
theorem d_Sha_spread_103 : decode prog_12_method_4_code 103 = .ok (.ixor, 1) := fx_dat dk_Sha_spread 61 rfl
theorem d_Sha_spread_104 : decode prog_12_method_4_code 104 = .ok (.istore 7, 2) := fx_dat dk_Sha_spread 62 rfl
theorem d_Sha_spread_106 : decode prog_12_method_4_code 106 = .ok (.aload_n 0, 1) := fx_dat dk_Sha_spread 63 rfl
theorem d_Sha_spread_107 : decode prog_12_method_4_code 107 = .ok (.getfield 13, 3) := fx_dat dk_Sha_spread 64 rfl
theorem d_Sha_spread_110 : decode prog_12_method_4_code 110 = .ok (.iload_n 3, 1) := fx_dat dk_Sha_spread 65 rfl
theorem d_Sha_spread_111 : decode prog_12_method_4_code 111 = .ok (.aload_n 0, 1) := fx_dat dk_Sha_spread 66 rfl
theorem d_Sha_spread_112 : decode prog_12_method_4_code 112 = .ok (.getfield 13, 3) := fx_dat dk_Sha_spread 67 rfl
theorem d_Sha_spread_115 : decode prog_12_method_4_code 115 = .ok (.iload_n 3, 1) := fx_dat dk_Sha_spread 68 rfl
theorem d_Sha_spread_116 : decode prog_12_method_4_code 116 = .ok (.bipush 16, 2) := fx_dat dk_Sha_spread 69 rfl
theorem d_Sha_spread_118 : decode prog_12_method_4_code 118 = .ok (.isub, 1) := fx_dat dk_Sha_spread 70 rfl
theorem d_Sha_spread_119 : decode prog_12_method_4_code 119 = .ok (.iaload, 1) := fx_dat dk_Sha_spread 71 rfl
theorem d_Sha_spread_120 : decode prog_12_method_4_code 120 = .ok (.iload 6, 2) := fx_dat dk_Sha_spread 72 rfl
theorem d_Sha_spread_122 : decode prog_12_method_4_code 122 = .ok (.iadd, 1) := fx_dat dk_Sha_spread 73 rfl
theorem d_Sha_spread_123 : decode prog_12_method_4_code 123 = .ok (.aload_n 0, 1) := fx_dat dk_Sha_spread 74 rfl
theorem d_Sha_spread_124 : decode prog_12_method_4_code 124 = .ok (.getfield 13, 3) := fx_dat dk_Sha_spread 75 rfl
theorem d_Sha_spread_127 : decode prog_12_method_4_code 127 = .ok (.iload_n 3, 1) := fx_dat dk_Sha_spread 76 rfl
theorem d_Sha_spread_128 : decode prog_12_method_4_code 128 = .ok (.bipush 7, 2) := fx_dat dk_Sha_spread 77 rfl
theorem d_Sha_spread_130 : decode prog_12_method_4_code 130 = .ok (.isub, 1) := fx_dat dk_Sha_spread 78 rfl
theorem d_Sha_spread_131 : decode prog_12_method_4_code 131 = .ok (.iaload, 1) := fx_dat dk_Sha_spread 79 rfl
theorem d_Sha_spread_132 : decode prog_12_method_4_code 132 = .ok (.iadd, 1) := fx_dat dk_Sha_spread 80 rfl
theorem d_Sha_spread_133 : decode prog_12_method_4_code 133 = .ok (.iload 7, 2) := fx_dat dk_Sha_spread 81 rfl
theorem d_Sha_spread_135 : decode prog_12_method_4_code 135 = .ok (.iadd, 1) := fx_dat dk_Sha_spread 82 rfl
theorem d_Sha_spread_136 : decode prog_12_method_4_code 136 = .ok (.iastore, 1) := fx_dat dk_Sha_spread 83 rfl
theorem d_Sha_spread_137 : decode prog_12_method_4_code 137 = .ok (.iinc 3 1, 3) := fx_dat dk_Sha_spread 84 rfl
theorem d_Sha_spread_140 : decode prog_12_method_4_code 140 = .ok (.goto (-106), 3) := fx_dat dk_Sha_spread 85 rfl
theorem d_Sha_spread_143 : decode prog_12_method_4_code 143 = .ok (.return_, 1) := fx_dat dk_Sha_spread 86 rfl
def m_Sha_spread_34_b (Q : AH → Prop) (X34 : Int32 × AH → Prop) (r0 : Nat) (x3 : Int32) (h : AH) : Prop := ((64 : Int32) ≤ x3 → Q h) ∧ (¬ (64 : Int32) ≤ x3 → hp_k h r0 = 6 ∧ ∃ b1, hp_R h r0 1 = some b1 ∧ ik (hp_k h b1) ∧ vp_in (x3 - (15 : Int32)) (hp_n h b1) ∧ ∀ v1 : Int32, v1 = (hp_I h b1 ((x3 - (15 : Int32))).toNatClampNeg) → vp_in (x3 - (2 : Int32)) (hp_n h b1) ∧ ∀ v2 : Int32, v2 = (hp_I h b1 ((x3 - (2 : Int32))).toNatClampNeg) → m_Int_rotateRight (fun v3 h1 => fx_ext h h1 → m_Int_rotateRight (fun v4 h2 => fx_ext h1 h2 → ∀ v5 : Int32, v5 = ((v3 ^^^ v4) ^^^ (sh_iu v1 (3 : Int32))) → m_Int_rotateRight (fun v6 h3 => fx_ext h2 h3 → m_Int_rotateRight (fun v7 h4 => fx_ext h3 h4 → ∀ v8 : Int32, v8 = ((v6 ^^^ v7) ^^^ (sh_iu v2 (10 : Int32))) → ∃ b2, hp_R h4 r0 1 = some b2 ∧ ik (hp_k h4 b2) ∧ vp_in (x3 - (16 : Int32)) (hp_n h4 b2) ∧ vp_in (x3 - (7 : Int32)) (hp_n h4 b2) ∧ hp_k h4 b2 = 102 ∧ vp_in x3 (hp_n h4 b2) ∧ ∀ h5 : AH, h5 = up_I h4 b2 (x3).toNatClampNeg ((((hp_I h4 b2 ((x3 - (16 : Int32))).toNatClampNeg) + v5) + (hp_I h4 b2 ((x3 - (7 : Int32))).toNatClampNeg)) + v8) → ∀ v9 : Int32, v9 = (x3 + (1 : Int32)) → X34 (v9, h5)) v2 (19 : Int32) h3) v2 (17 : Int32) h2) v1 (18 : Int32) h1) v1 (7 : Int32) h)
def m_Sha_spread_34 (Q : AH → Prop) (r0 : Nat) (x3 : Int32) (h : AH) : Prop := fx_loop (fun (X34 : Int32 × AH → Prop) (st : Int32 × AH) => m_Sha_spread_34_b Q X34 r0 st.1 st.2) (x3, h)
def m_Sha_spread_2_b (Q : AH → Prop) (X2 : Int32 × AH → Prop) (r0 : Nat) (r1 : Nat) (x2 : Int32) (x3 : Int32) (h : AH) : Prop := ((16 : Int32) ≤ x3 → m_Sha_spread_34 Q r0 (16 : Int32) h) ∧ (¬ (16 : Int32) ≤ x3 → hp_k h r0 = 6 ∧ ∃ b1, hp_R h r0 1 = some b1 ∧ m_J_number (fun u1 h1 => fx_ext h h1 → hp_k h1 b1 = 102 ∧ vp_in x3 (hp_n h1 b1) ∧ ∀ h2 : AH, h2 = up_I h1 b1 (x3).toNatClampNeg ((u1).toInt32) → ∀ v1 : Int32, v1 = (x3 + (1 : Int32)) → X2 (v1, h2)) r1 (x2 + ((4 : Int32) * x3)) (4 : Int32) h)
def m_Sha_spread_2 (Q : AH → Prop) (r0 : Nat) (r1 : Nat) (x2 : Int32) (x3 : Int32) (h : AH) : Prop := fx_loop (fun (X2 : Int32 × AH → Prop) (st : Int32 × AH) => m_Sha_spread_2_b Q X2 r0 r1 x2 st.1 st.2) (x3, h)
def m_Sha_spread (Q : AH → Prop) (r0 : Nat) (r1 : Nat) (x2 : Int32) (h : AH) : Prop := m_Sha_spread_2 Q r0 r1 x2 (0 : Int32) h
theorem b_Sha_spread_34 {p : Program} {l : Launch} {e : Env} {R : Room} {s : State} {m : MethodId} {args : Array Value} {below : List Frame} {meth : Method} {c : Code} {D : DD} {h0 : AH} {Q : AH → Prop} (C : fx_CX D y_Sha_spread prog_12_method_4_code 8 1 19 (none) [] h0 p R s m meth c) (hl : l.flags = flags0) (r0 : Nat) (x3 : Int32) (h : AH) (hw : m_Sha_spread_34 Q r0 x3 h) : ∀ (ls : Array Slot) (H : Heap) (locs : List Loc) (cells slots : Nat), lv_has ls 8 [(0, .ref r0), (3, .int x3)] → fx_F D h0 h H locs cells slots → W p l e R s m args below meth c H locs cells slots (fx_Z D below s h0 (fx_oV Q fx_no)) (F0 m 34 ls []) := by
  refine fx_loop.use hw (fun st => ∀ (ls : Array Slot) (H : Heap) (locs : List Loc) (cells slots : Nat), lv_has ls 8 [(0, .ref r0), (3, .int st.1)] → fx_F D h0 st.2 H locs cells slots → W p l e R s m args below meth c H locs cells slots (fx_Z D below s h0 (fx_oV Q fx_no)) (F0 m 34 ls [])) (fun X34 st hX34 hw => ?_)
  obtain ⟨x3, h⟩ := st
  replace hw : m_Sha_spread_34_b Q X34 r0 x3 h := hw
  unfold m_Sha_spread_34_b at hw
  intro ls H locs cells slots hv F
  refine lv_iload_n C.ex C.by d_Sha_spread_34 rfl (lv_at hv 1 rfl) ?_
  refine lv_bipush (v := (64 : Int32)) C.ex C.by d_Sha_spread_35 (by decide) ?_
  refine lv_icmp_ge C.ex C.by d_Sha_spread_37 rfl (fun hc => ?_) (fun hc => ?_)
  · replace hw := hw.1 hc
    exact fx_vret C F d_Sha_spread_143 (Or.inl ⟨rfl, hw⟩)
  · replace hw := hw.2 hc
    refine lv_aload_n C.ex C.by d_Sha_spread_40 rfl (lv_at hv 0 rfl) ?_
    obtain ⟨hk1, hw⟩ := hw
    obtain ⟨b1, hb1, hw⟩ := hw
    refine fx_getR C F lf_Sha_13 hk1 rfl hb1 d_Sha_spread_41 ?_
    refine lv_iload_n C.ex C.by d_Sha_spread_44 rfl (lv_at hv 1 rfl) ?_
    refine lv_bipush (v := (15 : Int32)) C.ex C.by d_Sha_spread_45 (by decide) ?_
    refine lv_isub C.ex C.by d_Sha_spread_47 ?_
    obtain ⟨hk2, hw⟩ := hw
    obtain ⟨hi1, hw⟩ := hw
    refine fx_iald C F hk2 hi1 d_Sha_spread_48 ?_
    let v1 : Int32 := (hp_I h b1 ((x3 - (15 : Int32))).toNatClampNeg)
    replace hw := hw v1 rfl
    refine lv_istore (lv' := [(4, .int v1), (0, .ref r0), (3, .int x3)]) C.ex C.by d_Sha_spread_49 hv (by decide) rfl (fun ls hv => ?_)
    refine lv_aload_n C.ex C.by d_Sha_spread_51 rfl (lv_at hv 1 rfl) ?_
    refine fx_getR C F lf_Sha_13 hk1 rfl hb1 d_Sha_spread_52 ?_
    refine lv_iload_n C.ex C.by d_Sha_spread_55 rfl (lv_at hv 2 rfl) ?_
    refine lv_iconst (v := (2 : Int32)) C.ex C.by d_Sha_spread_56 (by decide) ?_
    refine lv_isub C.ex C.by d_Sha_spread_57 ?_
    obtain ⟨hi2, hw⟩ := hw
    refine fx_iald C F hk2 hi2 d_Sha_spread_58 ?_
    let v2 : Int32 := (hp_I h b1 ((x3 - (2 : Int32))).toNatClampNeg)
    replace hw := hw v2 rfl
    refine lv_istore (lv' := [(5, .int v2), (4, .int v1), (0, .ref r0), (3, .int x3)]) C.ex C.by d_Sha_spread_59 hv (by decide) rfl (fun ls hv => ?_)
    refine lv_iload C.ex C.by d_Sha_spread_61 (lv_at hv 1 rfl) ?_
    refine lv_bipush (v := (7 : Int32)) C.ex C.by d_Sha_spread_63 (by decide) ?_
    refine fx_callI C F (c_Int_rotateRight hl hw) hm_Int_rotateRight hi_Int_rotateRight hv.1 (by decide) (Nat.le_of_ble_eq_true rfl) (iv_Int_rotateRight C F lm_Sha_32 d_Sha_spread_65) (fx_out0 _) fx_eno (fun v3 h1 H locs cells slots hw hx1 F => ?_)
    replace hw := hw hx1
    have hk2 := (hx1).gi hk2
    have hk1 := (hx1).k hk1
    refine lv_iload C.ex C.by d_Sha_spread_68 (lv_at hv 1 rfl) ?_
    refine lv_bipush (v := (18 : Int32)) C.ex C.by d_Sha_spread_70 (by decide) ?_
    refine fx_callI C F (c_Int_rotateRight hl hw) hm_Int_rotateRight hi_Int_rotateRight hv.1 (by decide) (Nat.le_of_ble_eq_true rfl) (iv_Int_rotateRight C F lm_Sha_32 d_Sha_spread_72) (fx_out0 _) fx_eno (fun v4 h2 H locs cells slots hw hx2 F => ?_)
    replace hw := hw hx2
    have hk2 := (hx2).gi hk2
    have hk1 := (hx2).k hk1
    refine lv_ixor C.ex C.by d_Sha_spread_75 ?_
    refine lv_iload C.ex C.by d_Sha_spread_76 (lv_at hv 1 rfl) ?_
    refine lv_iconst (v := (3 : Int32)) C.ex C.by d_Sha_spread_78 (by decide) ?_
    refine lv_iushr (v := (sh_iu v1 (3 : Int32))) C.ex C.by d_Sha_spread_79 rfl ?_
    refine lv_ixor C.ex C.by d_Sha_spread_80 ?_
    let v5 : Int32 := ((v3 ^^^ v4) ^^^ (sh_iu v1 (3 : Int32)))
    replace hw := hw v5 rfl
    refine lv_istore (lv' := [(6, .int v5), (5, .int v2), (4, .int v1), (0, .ref r0), (3, .int x3)]) C.ex C.by d_Sha_spread_81 hv (by decide) rfl (fun ls hv => ?_)
    refine lv_iload C.ex C.by d_Sha_spread_83 (lv_at hv 1 rfl) ?_
    refine lv_bipush (v := (17 : Int32)) C.ex C.by d_Sha_spread_85 (by decide) ?_
    refine fx_callI C F (c_Int_rotateRight hl hw) hm_Int_rotateRight hi_Int_rotateRight hv.1 (by decide) (Nat.le_of_ble_eq_true rfl) (iv_Int_rotateRight C F lm_Sha_32 d_Sha_spread_87) (fx_out0 _) fx_eno (fun v6 h3 H locs cells slots hw hx3 F => ?_)
    replace hw := hw hx3
    have hk2 := (hx3).gi hk2
    have hk1 := (hx3).k hk1
    refine lv_iload C.ex C.by d_Sha_spread_90 (lv_at hv 1 rfl) ?_
    refine lv_bipush (v := (19 : Int32)) C.ex C.by d_Sha_spread_92 (by decide) ?_
    refine fx_callI C F (c_Int_rotateRight hl hw) hm_Int_rotateRight hi_Int_rotateRight hv.1 (by decide) (Nat.le_of_ble_eq_true rfl) (iv_Int_rotateRight C F lm_Sha_32 d_Sha_spread_94) (fx_out0 _) fx_eno (fun v7 h4 H locs cells slots hw hx4 F => ?_)
    replace hw := hw hx4
    have hk2 := (hx4).gi hk2
    have hk1 := (hx4).k hk1
    refine lv_ixor C.ex C.by d_Sha_spread_97 ?_
    refine lv_iload C.ex C.by d_Sha_spread_98 (lv_at hv 1 rfl) ?_
    refine lv_bipush (v := (10 : Int32)) C.ex C.by d_Sha_spread_100 (by decide) ?_
    refine lv_iushr (v := (sh_iu v2 (10 : Int32))) C.ex C.by d_Sha_spread_102 rfl ?_
    refine lv_ixor C.ex C.by d_Sha_spread_103 ?_
    let v8 : Int32 := ((v6 ^^^ v7) ^^^ (sh_iu v2 (10 : Int32)))
    replace hw := hw v8 rfl
    refine lv_istore (lv' := [(7, .int v8), (6, .int v5), (5, .int v2), (4, .int v1), (0, .ref r0), (3, .int x3)]) C.ex C.by d_Sha_spread_104 hv (by decide) rfl (fun ls hv => ?_)
    refine lv_aload_n C.ex C.by d_Sha_spread_106 rfl (lv_at hv 4 rfl) ?_
    obtain ⟨b2, hb2, hw⟩ := hw
    refine fx_getR C F lf_Sha_13 hk1 rfl hb2 d_Sha_spread_107 ?_
    refine lv_iload_n C.ex C.by d_Sha_spread_110 rfl (lv_at hv 5 rfl) ?_
    refine lv_aload_n C.ex C.by d_Sha_spread_111 rfl (lv_at hv 4 rfl) ?_
    refine fx_getR C F lf_Sha_13 hk1 rfl hb2 d_Sha_spread_112 ?_
    refine lv_iload_n C.ex C.by d_Sha_spread_115 rfl (lv_at hv 5 rfl) ?_
    refine lv_bipush (v := (16 : Int32)) C.ex C.by d_Sha_spread_116 (by decide) ?_
    refine lv_isub C.ex C.by d_Sha_spread_118 ?_
    obtain ⟨hk3, hw⟩ := hw
    obtain ⟨hi3, hw⟩ := hw
    refine fx_iald C F hk3 hi3 d_Sha_spread_119 ?_
    refine lv_iload C.ex C.by d_Sha_spread_120 (lv_at hv 1 rfl) ?_
    refine lv_iadd C.ex C.by d_Sha_spread_122 ?_
    refine lv_aload_n C.ex C.by d_Sha_spread_123 rfl (lv_at hv 4 rfl) ?_
    refine fx_getR C F lf_Sha_13 hk1 rfl hb2 d_Sha_spread_124 ?_
    refine lv_iload_n C.ex C.by d_Sha_spread_127 rfl (lv_at hv 5 rfl) ?_
    refine lv_bipush (v := (7 : Int32)) C.ex C.by d_Sha_spread_128 (by decide) ?_
    refine lv_isub C.ex C.by d_Sha_spread_130 ?_
    obtain ⟨hi4, hw⟩ := hw
    refine fx_iald C F hk3 hi4 d_Sha_spread_131 ?_
    refine lv_iadd C.ex C.by d_Sha_spread_132 ?_
    refine lv_iload C.ex C.by d_Sha_spread_133 (lv_at hv 0 rfl) ?_
    refine lv_iadd C.ex C.by d_Sha_spread_135 ?_
    obtain ⟨hk4, hw⟩ := hw
    obtain ⟨hi5, hw⟩ := hw
    let h5 : AH := up_I h4 b2 (x3).toNatClampNeg ((((hp_I h4 b2 ((x3 - (16 : Int32))).toNatClampNeg) + v5) + (hp_I h4 b2 ((x3 - (7 : Int32))).toNatClampNeg)) + v8)
    replace hw := hw h5 rfl
    refine fx_iast C F hk4 hi5 d_Sha_spread_136 (fun H locs (F : fx_F D h0 h5 H locs _ _) => ?_)
    let v9 : Int32 := (x3 + (1 : Int32))
    replace hw := hw v9 rfl
    refine lv_iinc (v := v9) (k := 5) (lv' := [(3, .int v9), (7, .int v8), (6, .int v5), (5, .int v2), (4, .int v1), (0, .ref r0)]) C.ex C.by d_Sha_spread_137 hv rfl (congrArg (fun z => x3 + z) (by decide)) (by decide) rfl (fun ls hv => ?_)
    refine lv_goto C.ex C.by d_Sha_spread_140 rfl ?_
    exact hX34 _ hw _ _ _ _ _ (lv_sub hv [5, 0] rfl) F
theorem b_Sha_spread_2 {p : Program} {l : Launch} {e : Env} {R : Room} {s : State} {m : MethodId} {args : Array Value} {below : List Frame} {meth : Method} {c : Code} {D : DD} {h0 : AH} {Q : AH → Prop} (C : fx_CX D y_Sha_spread prog_12_method_4_code 8 1 19 (none) [] h0 p R s m meth c) (hl : l.flags = flags0) (r0 : Nat) (r1 : Nat) (x2 : Int32) (x3 : Int32) (h : AH) (hw : m_Sha_spread_2 Q r0 r1 x2 x3 h) : ∀ (ls : Array Slot) (H : Heap) (locs : List Loc) (cells slots : Nat), lv_has ls 8 [(0, .ref r0), (1, .ref r1), (2, .int x2), (3, .int x3)] → fx_F D h0 h H locs cells slots → W p l e R s m args below meth c H locs cells slots (fx_Z D below s h0 (fx_oV Q fx_no)) (F0 m 2 ls []) := by
  refine fx_loop.use hw (fun st => ∀ (ls : Array Slot) (H : Heap) (locs : List Loc) (cells slots : Nat), lv_has ls 8 [(0, .ref r0), (1, .ref r1), (2, .int x2), (3, .int st.1)] → fx_F D h0 st.2 H locs cells slots → W p l e R s m args below meth c H locs cells slots (fx_Z D below s h0 (fx_oV Q fx_no)) (F0 m 2 ls [])) (fun X2 st hX2 hw => ?_)
  obtain ⟨x3, h⟩ := st
  replace hw : m_Sha_spread_2_b Q X2 r0 r1 x2 x3 h := hw
  unfold m_Sha_spread_2_b at hw
  intro ls H locs cells slots hv F
  refine lv_iload_n C.ex C.by d_Sha_spread_2 rfl (lv_at hv 3 rfl) ?_
  refine lv_bipush (v := (16 : Int32)) C.ex C.by d_Sha_spread_3 (by decide) ?_
  refine lv_icmp_ge C.ex C.by d_Sha_spread_5 rfl (fun hc => ?_) (fun hc => ?_)
  · replace hw := hw.1 hc
    refine lv_bipush (v := (16 : Int32)) C.ex C.by d_Sha_spread_31 (by decide) ?_
    refine lv_istore_n (lv' := [(3, .int (16 : Int32)), (0, .ref r0), (1, .ref r1), (2, .int x2)]) C.ex C.by d_Sha_spread_33 rfl hv (by decide) rfl (fun ls hv => ?_)
    exact b_Sha_spread_34 C hl _ _ _ hw _ _ _ _ _ (lv_sub hv [1, 0] rfl) F
  · replace hw := hw.2 hc
    refine lv_aload_n C.ex C.by d_Sha_spread_8 rfl (lv_at hv 0 rfl) ?_
    obtain ⟨hk1, hw⟩ := hw
    obtain ⟨b1, hb1, hw⟩ := hw
    refine fx_getR C F lf_Sha_13 hk1 rfl hb1 d_Sha_spread_9 ?_
    refine lv_iload_n C.ex C.by d_Sha_spread_12 rfl (lv_at hv 3 rfl) ?_
    refine lv_aload_n C.ex C.by d_Sha_spread_13 rfl (lv_at hv 1 rfl) ?_
    refine lv_iload_n C.ex C.by d_Sha_spread_14 rfl (lv_at hv 2 rfl) ?_
    refine lv_iconst (v := (4 : Int32)) C.ex C.by d_Sha_spread_15 (by decide) ?_
    refine lv_iload_n C.ex C.by d_Sha_spread_16 rfl (lv_at hv 3 rfl) ?_
    refine lv_imul C.ex C.by d_Sha_spread_17 ?_
    refine lv_iadd C.ex C.by d_Sha_spread_18 ?_
    refine lv_iconst (v := (4 : Int32)) C.ex C.by d_Sha_spread_19 (by decide) ?_
    refine fx_callL C F (c_J_number hl hw) hm_J_number hi_J_number hv.1 (by decide) (Nat.le_of_ble_eq_true rfl) (iv_J_number C F lm_Sha_28 d_Sha_spread_20) (fx_out0 _) fx_eno (fun u1 h1 H locs cells slots hw hx1 F => ?_)
    replace hw := hw hx1
    have hk1 := (hx1).k hk1
    refine lv_l2i (v := ((u1).toInt32)) C.ex C.by d_Sha_spread_23 rfl ?_
    obtain ⟨hk2, hw⟩ := hw
    obtain ⟨hi1, hw⟩ := hw
    let h2 : AH := up_I h1 b1 (x3).toNatClampNeg ((u1).toInt32)
    replace hw := hw h2 rfl
    refine fx_iast C F hk2 hi1 d_Sha_spread_24 (fun H locs (F : fx_F D h0 h2 H locs _ _) => ?_)
    let v1 : Int32 := (x3 + (1 : Int32))
    replace hw := hw v1 rfl
    refine lv_iinc (v := v1) (k := 3) (lv' := [(3, .int v1), (0, .ref r0), (1, .ref r1), (2, .int x2)]) C.ex C.by d_Sha_spread_25 hv rfl (congrArg (fun z => x3 + z) (by decide)) (by decide) rfl (fun ls hv => ?_)
    refine lv_goto C.ex C.by d_Sha_spread_28 rfl ?_
    exact hX2 _ hw _ _ _ _ _ (lv_sub hv [1, 2, 3, 0] rfl) F
theorem b_Sha_spread_0 {p : Program} {l : Launch} {e : Env} {R : Room} {s : State} {m : MethodId} {args : Array Value} {below : List Frame} {meth : Method} {c : Code} {D : DD} {h0 : AH} {Q : AH → Prop} (C : fx_CX D y_Sha_spread prog_12_method_4_code 8 1 19 (none) [] h0 p R s m meth c) (hl : l.flags = flags0) (r0 : Nat) (r1 : Nat) (x2 : Int32) (h : AH) (hw : m_Sha_spread Q r0 r1 x2 h) : ∀ (ls : Array Slot) (H : Heap) (locs : List Loc) (cells slots : Nat), lv_has ls 8 [(0, .ref r0), (1, .ref r1), (2, .int x2)] → fx_F D h0 h H locs cells slots → W p l e R s m args below meth c H locs cells slots (fx_Z D below s h0 (fx_oV Q fx_no)) (F0 m 0 ls []) := by
  unfold m_Sha_spread at hw
  intro ls H locs cells slots hv F
  refine lv_iconst (v := (0 : Int32)) C.ex C.by d_Sha_spread_0 (by decide) ?_
  refine lv_istore_n (lv' := [(3, .int (0 : Int32)), (0, .ref r0), (1, .ref r1), (2, .int x2)]) C.ex C.by d_Sha_spread_1 rfl hv (by decide) rfl (fun ls hv => ?_)
  exact b_Sha_spread_2 C hl _ _ _ _ _ hw _ _ _ _ _ (lv_sub hv [1, 2, 3, 0] rfl) F
theorem hm_Sha_spread : fx_hd y_Sha_spread prog_12_method_4_code 8 (none) [] ∈ tables_1 := (fx_m4 (List.mem_of_getElem? (i := 184) rfl))
theorem hi_Sha_spread : Cond.initialized y_Sha_spread.cls ∈ tables_1 := (fx_m1 (List.mem_of_getElem? (i := 9) rfl))
theorem c_Sha_spread {l : Launch} (hl : l.flags = flags0) {D : DD} {Q : AH → Prop} {r0 : Nat} {r1 : Nat} {x2 : Int32} {h : AH} (hw : m_Sha_spread Q r0 r1 x2 h) : fx_Mt l D y_Sha_spread (fx_hd y_Sha_spread prog_12_method_4_code 8 (none) []) 1 19 [.ref r0, .ref r1, .int x2] h (fx_oV Q fx_no) := by
  refine fx_ofW (plainFor_of_name (by decide)) (fun p e s m below meth c C F => ?_)
  have hv := lv_entry ([.ref r0, .ref r1, .int x2]) (n := 8) (Nat.le_of_ble_eq_true rfl)
  rw [lg_entry_eq]
  generalize (lg_sl ([.ref r0, .ref r1, .int x2]) ++ List.replicate (8 - (lg_sl ([.ref r0, .ref r1, .int x2])).length) Slot.unset).toArray = ls at hv ⊢
  have hv : lv_has ls 8 [(0, .ref r0), (1, .ref r1), (2, .int x2)] := hv
  exact b_Sha_spread_0 C hl _ _ _ _ hw _ _ _ _ _ hv F
