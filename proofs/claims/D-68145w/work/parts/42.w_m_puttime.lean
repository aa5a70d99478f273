set_option maxRecDepth 10000
/-! ChainJudgeModel.putTime(I)V: frames 2, words 30 -/
abbrev y_M_putTime : MethodName := ⟨"ChainJudgeModel", "putTime", "(I)V"⟩
theorem lm_M_309 : Cond.methodLink "ChainJudgeModel" 309 y_M_putTwo ∈ tables_1 ∨ ∃ host, Cond.methodLinkNest "ChainJudgeModel" 309 y_M_putTwo host ∈ tables_1 := Or.inl (fx_m7 (List.mem_of_getElem? (i := 96) rfl))
section
variable {p : Program} {l : Launch} {e : Env} {R : Room} {s : State} {m : MethodId} {args : Array Value} {below : List Frame} {meth : Method} {c : Code} {H : Heap} {locs : List Loc} {cells slots : Nat}
variable {D : DD} {y : MethodName} {cc : ByteArray} {nL kf kw : Nat} {ret : Option FieldType} {hh : List (Nat × Nat × Nat × Nat)} {h0 h : AH} {pc : Nat} {ls : Array Slot} {rest : List Value} {b idx : Nat}
theorem iv_M_putTwo {x1 : Int32} (C : fx_CX D y cc nL kf kw ret hh h0 p R s m meth c) (F : fx_F D h0 h H locs cells slots) (hw1 : Cond.methodLink y.cls idx y_M_putTwo ∈ tables_1 ∨ ∃ host, Cond.methodLinkNest y.cls idx y_M_putTwo host ∈ tables_1) (hk : hp_k h b = 13) (hd : decode cc pc = .ok (.invokevirtual idx, 3)) : fx_IV p l e R s m args below meth c H locs cells slots (F0 m pc ls (.int x1 :: .ref b :: rest)) rest y_M_putTwo [.ref b, .int x1] 3 := fun T hT X => fx_invV (As := [.int x1]) (Cn := "ChainJudgeModel") C X hw1 (fx_m7 (List.mem_of_getElem? (i := 98) rfl)) (fx_selP C ⟨by decide, by decide⟩ (fx_m5 (List.mem_of_getElem? (i := 217) rfl)) (fx_m7 (List.mem_of_getElem? (i := 97) rfl)) (fx_m7 (List.mem_of_getElem? (i := 98) rfl))) hm_M_putTwo ⟨by decide, by decide⟩ (by rw [hT]; exact fx_clsO (ci := 12) (r := ("ChainJudgeModel", fx_T12, 57)) C F rfl (by decide) hk) rfl (n := 1) (by decide +kernel) rfl rfl hd
end
def dl_M_putTime : List (Nat × Instr × Nat) := [(0, .aload_n 0, 1), (1, .getfield 292, 3), (4, .istore_n 2, 1), (5, .iload_n 1, 1), (6, .sipush 1440, 3), (9, .idiv, 1), (10, .i2l, 1), (11, .lstore_n 3, 1), (12, .sipush 1970, 3), (15, .istore 5, 2), (17, .lload_n 3, 1), (18, .iload 5, 2), (20, .invokestatic 159, 3), (23, .ifCond .eq 9, 3), (26, .sipush 366, 3), (29, .goto 6, 3), (32, .sipush 365, 3), (35, .i2l, 1), (36, .lcmp, 1), (37, .ifCond .lt 29, 3), (40, .lload_n 3, 1), (41, .iload 5, 2), (43, .invokestatic 159, 3), (46, .ifCond .eq 9, 3), (49, .ldc2_w 163, 3), (52, .goto 6, 3), (55, .ldc2_w 165, 3), (58, .lsub, 1), (59, .lstore_n 3, 1), (60, .iinc 5 1, 3), (63, .goto (-46), 3), (66, .iconst 1, 1), (67, .istore 6, 2), (69, .lload_n 3, 1), (70, .iload 5, 2), (72, .iload 6, 2), (74, .invokestatic 170, 3), (77, .i2l, 1), (78, .lcmp, 1), (79, .ifCond .lt 20, 3), (82, .lload_n 3, 1), (83, .iload 5, 2), (85, .iload 6, 2), (87, .invokestatic 170, 3), (90, .i2l, 1), (91, .lsub, 1), (92, .lstore_n 3, 1), (93, .iinc 6 1, 3), (96, .goto (-27), 3), (99, .iload 5, 2), (101, .sipush 2050, 3), (104, .if_icmp .lt 12, 3), (107, .aload_n 0, 1), (108, .iload 5, 2), (110, .bipush 100, 2), (112, .idiv, 1), (113, .invokevirtual 309, 3), (116, .aload_n 0, 1), (117, .iload 5, 2), (119, .bipush 100, 2), (121, .irem, 1), (122, .invokevirtual 309, 3), (125, .aload_n 0, 1), (126, .iload 6, 2), (128, .invokevirtual 309, 3), (131, .aload_n 0, 1), (132, .lload_n 3, 1), (133, .l2i, 1), (134, .iconst 1, 1), (135, .iadd, 1), (136, .invokevirtual 309, 3), (139, .aload_n 0, 1), (140, .iload_n 1, 1), (141, .sipush 1440, 3), (144, .irem, 1), (145, .bipush 60, 2), (147, .idiv, 1), (148, .invokevirtual 309, 3), (151, .aload_n 0, 1), (152, .iload_n 1, 1), (153, .bipush 60, 2), (155, .irem, 1), (156, .invokevirtual 309, 3), (159, .aload_n 0, 1), (160, .iconst 0, 1), (161, .invokevirtual 309, 3), (164, .aload_n 0, 1), (165, .bipush 90, 2), (167, .invokevirtual 295, 3), (170, .aload_n 0, 1), (171, .iload 5, 2), (173, .sipush 2050, 3), (176, .if_icmp .lt 8, 3), (179, .bipush 24, 2), (181, .goto 5, 3), (184, .bipush 23, 2), (186, .iload_n 2, 1), (187, .invokevirtual 305, 3), (190, .return_, 1)]
theorem dk_M_putTime : fx_dec prog_15_method_45_code dl_M_putTime = true := by decide +kernel
theorem d_M_putTime_0 : decode prog_15_method_45_code 0 = .ok (.aload_n 0, 1) := fx_dat dk_M_putTime 0 rfl
theorem d_M_putTime_1 : decode prog_15_method_45_code 1 = .ok (.getfield 292, 3) := fx_dat dk_M_putTime 1 rfl
theorem d_M_putTime_4 : decode prog_15_method_45_code 4 = .ok (.istore_n 2, 1) := fx_dat dk_M_putTime 2 rfl
theorem d_M_putTime_5 : decode prog_15_method_45_code 5 = .ok (.iload_n 1, 1) := fx_dat dk_M_putTime 3 rfl
theorem d_M_putTime_6 : decode prog_15_method_45_code 6 = .ok (.sipush 1440, 3) := fx_dat dk_M_putTime 4 rfl
theorem d_M_putTime_9 : decode prog_15_method_45_code 9 = .ok (.idiv, 1) := fx_dat dk_M_putTime 5 rfl
theorem d_M_putTime_10 : decode prog_15_method_45_code 10 = .ok (.i2l, 1) := fx_dat dk_M_putTime 6 rfl
theorem d_M_putTime_11 : decode prog_15_method_45_code 11 = .ok (.lstore_n 3, 1) := fx_dat dk_M_putTime 7 rfl
theorem d_M_putTime_12 : decode prog_15_method_45_code 12 = .ok (.sipush 1970, 3) := fx_dat dk_M_putTime 8 rfl
theorem d_M_putTime_15 : decode prog_15_method_45_code 15 = .ok (.istore 5, 2) := fx_dat dk_M_putTime 9 rfl
theorem d_M_putTime_17 : decode prog_15_method_45_code 17 = .ok (.lload_n 3, 1) := fx_dat dk_M_putTime 10 rfl
theorem d_M_putTime_18 : decode prog_15_method_45_code 18 = .ok (.iload 5, 2) := fx_dat dk_M_putTime 11 rfl
theorem d_M_putTime_20 : decode prog_15_method_45_code 20 = .ok (.invokestatic 159, 3) := fx_dat dk_M_putTime 12 rfl
theorem d_M_putTime_23 : decode prog_15_method_45_code 23 = .ok (.ifCond .eq 9, 3) := fx_dat dk_M_putTime 13 rfl
theorem d_M_putTime_26 : decode prog_15_method_45_code 26 = .ok (.sipush 366, 3) := fx_dat dk_M_putTime 14 rfl
theorem d_M_putTime_29 : decode prog_15_method_45_code 29 = .ok (.goto 6, 3) := fx_dat dk_M_putTime 15 rfl
theorem d_M_putTime_32 : decode prog_15_method_45_code 32 = .ok (.sipush 365, 3) := fx_dat dk_M_putTime 16 rfl
theorem d_M_putTime_35 : decode prog_15_method_45_code 35 = .ok (.i2l, 1) := fx_dat dk_M_putTime 17 rfl
theorem d_M_putTime_36 : decode prog_15_method_45_code 36 = .ok (.lcmp, 1) := fx_dat dk_M_putTime 18 rfl
theorem d_M_putTime_37 : decode prog_15_method_45_code 37 = .ok (.ifCond .lt 29, 3) := fx_dat dk_M_putTime 19 rfl
theorem d_M_putTime_40 : decode prog_15_method_45_code 40 = .ok (.lload_n 3, 1) := fx_dat dk_M_putTime 20 rfl
theorem d_M_putTime_41 : decode prog_15_method_45_code 41 = .ok (.iload 5, 2) := fx_dat dk_M_putTime 21 rfl
theorem d_M_putTime_43 : decode prog_15_method_45_code 43 = .ok (.invokestatic 159, 3) := fx_dat dk_M_putTime 22 rfl
theorem d_M_putTime_46 : decode prog_15_method_45_code 46 = .ok (.ifCond .eq 9, 3) := fx_dat dk_M_putTime 23 rfl
theorem d_M_putTime_49 : decode prog_15_method_45_code 49 = .ok (.ldc2_w 163, 3) := fx_dat dk_M_putTime 24 rfl
theorem d_M_putTime_52 : decode prog_15_method_45_code 52 = .ok (.goto 6, 3) := fx_dat dk_M_putTime 25 rfl
theorem d_M_putTime_55 : decode prog_15_method_45_code 55 = .ok (.ldc2_w 165, 3) := fx_dat dk_M_putTime 26 rfl
theorem d_M_putTime_58 : decode prog_15_method_45_code 58 = .ok (.lsub, 1) := fx_dat dk_M_putTime 27 rfl
theorem d_M_putTime_59 : decode prog_15_method_45_code 59 = .ok (.lstore_n 3, 1) := fx_dat dk_M_putTime 28 rfl
theorem d_M_putTime_60 : decode prog_15_method_45_code 60 = .ok (.iinc 5 1, 3) := fx_dat dk_M_putTime 29 rfl
theorem d_M_putTime_63 : decode prog_15_method_45_code 63 = .ok (.goto (-46), 3) := fx_dat dk_M_putTime 30 rfl
theorem d_M_putTime_66 : decode prog_15_method_45_code 66 = .ok (.iconst 1, 1) := fx_dat dk_M_putTime 31 rfl
theorem d_M_putTime_67 : decode prog_15_method_45_code 67 = .ok (.istore 6, 2) := fx_dat dk_M_putTime 32 rfl
theorem d_M_putTime_69 : decode prog_15_method_45_code 69 = .ok (.lload_n 3, 1) := fx_dat dk_M_putTime 33 rfl
theorem d_M_putTime_70 : decode prog_15_method_45_code 70 = .ok (.iload 5, 2) := fx_dat dk_M_putTime 34 rfl
theorem d_M_putTime_72 : decode prog_15_method_45_code 72 = .ok (.iload 6, 2) := fx_dat dk_M_putTime 35 rfl
theorem d_M_putTime_74 : decode prog_15_method_45_code 74 = .ok (.invokestatic 170, 3) := fx_dat dk_M_putTime 36 rfl
theorem d_M_putTime_77 : decode prog_15_method_45_code 77 = .ok (.i2l, 1) := fx_dat dk_M_putTime 37 rfl
theorem d_M_putTime_78 : decode prog_15_method_45_code 78 = .ok (.lcmp, 1) := fx_dat dk_M_putTime 38 rfl
theorem d_M_putTime_79 : decode prog_15_method_45_code 79 = .ok (.ifCond .lt 20, 3) := fx_dat dk_M_putTime 39 rfl
theorem d_M_putTime_82 : decode prog_15_method_45_code 82 = .ok (.lload_n 3, 1) := fx_dat dk_M_putTime 40 rfl
theorem d_M_putTime_83 : decode prog_15_method_45_code 83 = .ok (.iload 5, 2) := fx_dat dk_M_putTime 41 rfl
theorem d_M_putTime_85 : decode prog_15_method_45_code 85 = .ok (.iload 6, 2) := fx_dat dk_M_putTime 42 rfl
theorem d_M_putTime_87 : decode prog_15_method_45_code 87 = .ok (.invokestatic 170, 3) := fx_dat dk_M_putTime 43 rfl
theorem d_M_putTime_90 : decode prog_15_method_45_code 90 = .ok (.i2l, 1) := fx_dat dk_M_putTime 44 rfl
theorem d_M_putTime_91 : decode prog_15_method_45_code 91 = .ok (.lsub, 1) := fx_dat dk_M_putTime 45 rfl
theorem d_M_putTime_92 : decode prog_15_method_45_code 92 = .ok (.lstore_n 3, 1) := fx_dat dk_M_putTime 46 rfl
theorem d_M_putTime_93 : decode prog_15_method_45_code 93 = .ok (.iinc 6 1, 3) := fx_dat dk_M_putTime 47 rfl
theorem d_M_putTime_96 : decode prog_15_method_45_code 96 = .ok (.goto (-27), 3) := fx_dat dk_M_putTime 48 rfl
theorem d_M_putTime_99 : decode prog_15_method_45_code 99 = .ok (.iload 5, 2) := fx_dat dk_M_putTime 49 rfl
theorem d_M_putTime_101 : decode prog_15_method_45_code 101 = .ok (.sipush 2050, 3) := fx_dat dk_M_putTime 50 rfl
theorem d_M_putTime_104 : decode prog_15_method_45_code 104 = .ok (.if_icmp .lt 12, 3) := fx_dat dk_M_putTime 51 rfl
theorem d_M_putTime_107 : decode prog_15_method_45_code 107 = .ok (.aload_n 0, 1) := fx_dat dk_M_putTime 52 rfl
theorem d_M_putTime_108 : decode prog_15_method_45_code 108 = .ok (.iload 5, 2) := fx_dat dk_M_putTime 53 rfl
theorem d_M_putTime_110 : decode prog_15_method_45_code 110 = .ok (.bipush 100, 2) := fx_dat dk_M_putTime 54 rfl
theorem d_M_putTime_112 : decode prog_15_method_45_code 112 = .ok (.idiv, 1) := fx_dat dk_M_putTime 55 rfl
theorem d_M_putTime_113 : decode prog_15_method_45_code 113 = .ok (.invokevirtual 309, 3) := fx_dat dk_M_putTime 56 rfl
theorem d_M_putTime_116 : decode prog_15_method_45_code 116 = .ok (.aload_n 0, 1) := fx_dat dk_M_putTime 57 rfl
theorem d_M_putTime_117 : decode prog_15_method_45_code 117 = .ok (.iload 5, 2) := fx_dat dk_M_putTime 58 rfl
theorem d_M_putTime_119 : decode prog_15_method_45_code 119 = .ok (.bipush 100, 2) := fx_dat dk_M_putTime 59 rfl
theorem d_M_putTime_121 : decode prog_15_method_45_code 121 = .ok (.irem, 1) := fx_dat dk_M_putTime 60 rfl
theorem d_M_putTime_122 : decode prog_15_method_45_code 122 = .ok (.invokevirtual 309, 3) := fx_dat dk_M_putTime 61 rfl
theorem d_M_putTime_125 : decode prog_15_method_45_code 125 = .ok (.aload_n 0, 1) := fx_dat dk_M_putTime 62 rfl
theorem d_M_putTime_126 : decode prog_15_method_45_code 126 = .ok (.iload 6, 2) := fx_dat dk_M_putTime 63 rfl
theorem d_M_putTime_128 : decode prog_15_method_45_code 128 = .ok (.invokevirtual 309, 3) := fx_dat dk_M_putTime 64 rfl
theorem d_M_putTime_131 : decode prog_15_method_45_code 131 = .ok (.aload_n 0, 1) := fx_dat dk_M_putTime 65 rfl
theorem d_M_putTime_132 : decode prog_15_method_45_code 132 = .ok (.lload_n 3, 1) := fx_dat dk_M_putTime 66 rfl
theorem d_M_putTime_133 : decode prog_15_method_45_code 133 = .ok (.l2i, 1) := fx_dat dk_M_putTime 67 rfl
theorem d_M_putTime_134 : decode prog_15_method_45_code 134 = .ok (.iconst 1, 1) := fx_dat dk_M_putTime 68 rfl
theorem d_M_putTime_135 : decode prog_15_method_45_code 135 = .ok (.iadd, 1) := fx_dat dk_M_putTime 69 rfl
theorem d_M_putTime_136 : decode prog_15_method_45_code 136 = .ok (.invokevirtual 309, 3) := fx_dat dk_M_putTime 70 rfl
theorem d_M_putTime_139 : decode prog_15_method_45_code 139 = .ok (.aload_n 0, 1) := fx_dat dk_M_putTime 71 rfl
theorem d_M_putTime_140 : decode prog_15_method_45_code 140 = .ok (.iload_n 1, 1) := fx_dat dk_M_putTime 72 rfl
theorem d_M_putTime_141 : decode prog_15_method_45_code 141 = .ok (.sipush 1440, 3) := fx_dat dk_M_putTime 73 rfl
theorem d_M_putTime_144 : decode prog_15_method_45_code 144 = .ok (.irem, 1) := fx_dat dk_M_putTime 74 rfl
theorem d_M_putTime_145 : decode prog_15_method_45_code 145 = .ok (.bipush 60, 2) := fx_dat dk_M_putTime 75 rfl
theorem d_M_putTime_147 : decode prog_15_method_45_code 147 = .ok (.idiv, 1) := fx_dat dk_M_putTime 76 rfl
theorem d_M_putTime_148 : decode prog_15_method_45_code 148 = .ok (.invokevirtual 309, 3) := fx_dat dk_M_putTime 77 rfl
theorem d_M_putTime_151 : decode prog_15_method_45_code 151 = .ok (.aload_n 0, 1) := fx_dat dk_M_putTime 78 rfl
theorem d_M_putTime_152 : decode prog_15_method_45_code 152 = .ok (.iload_n 1, 1) := fx_dat dk_M_putTime 79 rfl
theorem d_M_putTime_153 : decode prog_15_method_45_code 153 = .ok (.bipush 60, 2) := fx_dat dk_M_putTime 80 rfl
theorem d_M_putTime_155 : decode prog_15_method_45_code 155 = .ok (.irem, 1) := fx_dat dk_M_putTime 81 rfl
theorem d_M_putTime_156 : decode prog_15_method_45_code 156 = .ok (.invokevirtual 309, 3) := fx_dat dk_M_putTime 82 rfl
theorem d_M_putTime_159 : decode prog_15_method_45_code 159 = .ok (.aload_n 0, 1) := fx_dat dk_M_putTime 83 rfl
theorem d_M_putTime_160 : decode prog_15_method_45_code 160 = .ok (.iconst 0, 1) := fx_dat dk_M_putTime 84 rfl
theorem d_M_putTime_161 : decode prog_15_method_45_code 161 = .ok (.invokevirtual 309, 3) := fx_dat dk_M_putTime 85 rfl
theorem d_M_putTime_164 : decode prog_15_method_45_code 164 = .ok (.aload_n 0, 1) := fx_dat dk_M_putTime 86 rfl
theorem d_M_putTime_165 : decode prog_15_method_45_code 165 = .ok (.bipush 90, 2) := fx_dat dk_M_putTime 87 rfl
theorem d_M_putTime_167 : decode prog_15_method_45_code 167 = .ok (.invokevirtual 295, 3) := fx_dat dk_M_putTime 88 rfl
theorem d_M_putTime_170 : decode prog_15_method_45_code 170 = .ok (.aload_n 0, 1) := fx_dat dk_M_putTime 89 rfl
theorem d_M_putTime_171 : decode prog_15_method_45_code 171 = .ok (.iload 5, 2) := fx_dat dk_M_putTime 90 rfl
theorem d_M_putTime_173 : decode prog_15_method_45_code 173 = .ok (.sipush 2050, 3) := fx_dat dk_M_putTime 91 rfl
theorem d_M_putTime_176 : decode prog_15_method_45_code 176 = .ok (.if_icmp .lt 8, 3) := fx_dat dk_M_putTime 92 rfl
theorem d_M_putTime_179 : decode prog_15_method_45_code 179 = .ok (.bipush 24, 2) := fx_dat dk_M_putTime 93 rfl
theorem d_M_putTime_181 : decode prog_15_method_45_code 181 = .ok (.goto 5, 3) := fx_dat dk_M_putTime 94 rfl
theorem d_M_putTime_184 : decode prog_15_method_45_code 184 = .ok (.bipush 23, 2) := fx_dat dk_M_putTime 95 rfl
theorem d_M_putTime_186 : decode prog_15_method_45_code 186 = .ok (.iload_n 2, 1) := fx_dat dk_M_putTime 96 rfl
theorem d_M_putTime_187 : decode prog_15_method_45_code 187 = .ok (.invokevirtual 305, 3) := fx_dat dk_M_putTime 97 rfl
theorem d_M_putTime_190 : decode prog_15_method_45_code 190 = .ok (.return_, 1) := fx_dat dk_M_putTime 98 rfl
def m_M_putTime_186 (Q : AH → Prop) (x2 : Int32) (sr0 : Nat) (sx1 : Int32) (h : AH) : Prop := hp_k h sr0 = 13 ∧ m_M_wrap (fun h1 => fx_ext h h1 → Q h1) sr0 sx1 x2 h
def m_M_putTime_116 (Q : AH → Prop) (r0 : Nat) (x1 : Int32) (x2 : Int32) (w3 : Int64) (x5 : Int32) (x6 : Int32) (h : AH) : Prop := hp_k h r0 = 13 ∧ m_M_putTwo (fun h1 => fx_ext h h1 → m_M_putTwo (fun h2 => fx_ext h1 h2 → m_M_putTwo (fun h3 => fx_ext h2 h3 → m_M_putTwo (fun h4 => fx_ext h3 h4 → m_M_putTwo (fun h5 => fx_ext h4 h5 → m_M_putTwo (fun h6 => fx_ext h5 h6 → m_M_put_I (fun h7 => fx_ext h6 h7 → (x5 < (2050 : Int32) → m_M_putTime_186 Q x2 r0 (23 : Int32) h7) ∧ (¬ x5 < (2050 : Int32) → m_M_putTime_186 Q x2 r0 (24 : Int32) h7)) r0 (90 : Int32) h6) r0 (0 : Int32) h5) r0 (x1 - x1 / (60 : Int32) * (60 : Int32)) h4) r0 ((x1 - x1 / (1440 : Int32) * (1440 : Int32)) / (60 : Int32)) h3) r0 (((w3).toInt32) + (1 : Int32)) h2) r0 x6 h1) r0 (x5 - x5 / (100 : Int32) * (100 : Int32)) h
def m_M_putTime_69_b (Q : AH → Prop) (X69 : Int64 × Int32 × AH → Prop) (r0 : Nat) (x1 : Int32) (x2 : Int32) (x5 : Int32) (w3 : Int64) (x6 : Int32) (h : AH) : Prop := m_M_daysOf (fun v1 h1 => fx_ext h h1 → ((lg_cmp w3 ((v1).toInt64)) < 0 → (x5 < (2050 : Int32) → m_M_putTime_116 Q r0 x1 x2 w3 x5 x6 h1) ∧ (¬ x5 < (2050 : Int32) → hp_k h1 r0 = 13 ∧ m_M_putTwo (fun h2 => fx_ext h1 h2 → m_M_putTime_116 Q r0 x1 x2 w3 x5 x6 h2) r0 (x5 / (100 : Int32)) h1)) ∧ (¬ (lg_cmp w3 ((v1).toInt64)) < 0 → m_M_daysOf (fun v2 h3 => fx_ext h1 h3 → ∀ u1 : Int64, u1 = (w3 - ((v2).toInt64)) → ∀ v3 : Int32, v3 = (x6 + (1 : Int32)) → X69 (u1, v3, h3)) x5 x6 h1)) x5 x6 h
def m_M_putTime_69 (Q : AH → Prop) (r0 : Nat) (x1 : Int32) (x2 : Int32) (x5 : Int32) (w3 : Int64) (x6 : Int32) (h : AH) : Prop := fx_loop (fun (X69 : Int64 × Int32 × AH → Prop) (st : Int64 × Int32 × AH) => m_M_putTime_69_b Q X69 r0 x1 x2 x5 st.1 st.2.1 st.2.2) (w3, x6, h)
def m_M_putTime_58 (Q : AH → Prop) (X17 : Int64 × Int32 × AH → Prop) (r0 : Nat) (x1 : Int32) (x2 : Int32) (x5 : Int32) (sw0 : Int64) (sw1 : Int64) (h : AH) : Prop := ∀ u1 : Int64, u1 = (sw0 - sw1) → ∀ v1 : Int32, v1 = (x5 + (1 : Int32)) → X17 (u1, v1, h)
def m_M_putTime_35 (Q : AH → Prop) (X17 : Int64 × Int32 × AH → Prop) (r0 : Nat) (x1 : Int32) (x2 : Int32) (w3 : Int64) (x5 : Int32) (sw0 : Int64) (sx1 : Int32) (h : AH) : Prop := ((lg_cmp sw0 ((sx1).toInt64)) < 0 → m_M_putTime_69 Q r0 x1 x2 x5 w3 (1 : Int32) h) ∧ (¬ (lg_cmp sw0 ((sx1).toInt64)) < 0 → m_M_leap (fun v1 h1 => fx_ext h h1 → zb v1 → (v1 = 0 → m_M_putTime_58 Q X17 r0 x1 x2 x5 w3 (365 : Int64) h1) ∧ (¬ v1 = 0 → m_M_putTime_58 Q X17 r0 x1 x2 x5 w3 (366 : Int64) h1)) x5 h)
def m_M_putTime_17_b (Q : AH → Prop) (X17 : Int64 × Int32 × AH → Prop) (r0 : Nat) (x1 : Int32) (x2 : Int32) (w3 : Int64) (x5 : Int32) (h : AH) : Prop := m_M_leap (fun v1 h1 => fx_ext h h1 → zb v1 → (v1 = 0 → m_M_putTime_35 Q X17 r0 x1 x2 w3 x5 w3 (365 : Int32) h1) ∧ (¬ v1 = 0 → m_M_putTime_35 Q X17 r0 x1 x2 w3 x5 w3 (366 : Int32) h1)) x5 h
def m_M_putTime_17 (Q : AH → Prop) (r0 : Nat) (x1 : Int32) (x2 : Int32) (w3 : Int64) (x5 : Int32) (h : AH) : Prop := fx_loop (fun (X17 : Int64 × Int32 × AH → Prop) (st : Int64 × Int32 × AH) => m_M_putTime_17_b Q X17 r0 x1 x2 st.1 st.2.1 st.2.2) (w3, x5, h)
def m_M_putTime (Q : AH → Prop) (r0 : Nat) (x1 : Int32) (h : AH) : Prop := hp_k h r0 = 13 ∧ ∀ v1 : Int32, v1 = (hp_I h r0 47) → ∀ u1 : Int64, u1 = (((x1 / (1440 : Int32))).toInt64) → m_M_putTime_17 Q r0 x1 v1 u1 (1970 : Int32) h
theorem b_M_putTime_186 {p : Program} {l : Launch} {e : Env} {R : Room} {s : State} {m : MethodId} {args : Array Value} {below : List Frame} {meth : Method} {c : Code} {D : DD} {h0 : AH} {Q : AH → Prop} (C : fx_CX D y_M_putTime prog_15_method_45_code 7 2 30 (none) [] h0 p R s m meth c) (hl : l.flags = flags0) (x2 : Int32) (sr0 : Nat) (sx1 : Int32) (h : AH) (hw : m_M_putTime_186 Q x2 sr0 sx1 h) : ∀ (ls : Array Slot) (H : Heap) (locs : List Loc) (cells slots : Nat), lv_has ls 7 [(2, .int x2)] → fx_F D h0 h H locs cells slots → W p l e R s m args below meth c H locs cells slots (fx_Z D below s h0 (fx_oV Q fx_no)) (F0 m 186 ls [.int sx1, .ref sr0]) := by
  unfold m_M_putTime_186 at hw
  intro ls H locs cells slots hv F
  refine lv_iload_n C.ex C.by d_M_putTime_186 rfl (lv_at hv 0 rfl) ?_
  obtain ⟨hk1, hw⟩ := hw
  refine fx_callV C F (c_M_wrap hl hw) hm_M_wrap hi_M_wrap hv.1 (by decide) (Nat.le_of_ble_eq_true rfl) (iv_M_wrap C F lm_M_305 hk1 d_M_putTime_187) (fx_out0 _) fx_eno (fun h1 H locs cells slots hw hx1 F => ?_)
  replace hw := hw hx1
  have hk1 := (hx1).k hk1
  exact fx_vret C F d_M_putTime_190 (Or.inl ⟨rfl, hw⟩)
theorem b_M_putTime_116 {p : Program} {l : Launch} {e : Env} {R : Room} {s : State} {m : MethodId} {args : Array Value} {below : List Frame} {meth : Method} {c : Code} {D : DD} {h0 : AH} {Q : AH → Prop} (C : fx_CX D y_M_putTime prog_15_method_45_code 7 2 30 (none) [] h0 p R s m meth c) (hl : l.flags = flags0) (r0 : Nat) (x1 : Int32) (x2 : Int32) (w3 : Int64) (x5 : Int32) (x6 : Int32) (h : AH) (hw : m_M_putTime_116 Q r0 x1 x2 w3 x5 x6 h) : ∀ (ls : Array Slot) (H : Heap) (locs : List Loc) (cells slots : Nat), lv_has ls 7 [(0, .ref r0), (1, .int x1), (2, .int x2), (3, .long w3), (5, .int x5), (6, .int x6)] → fx_F D h0 h H locs cells slots → W p l e R s m args below meth c H locs cells slots (fx_Z D below s h0 (fx_oV Q fx_no)) (F0 m 116 ls []) := by
  unfold m_M_putTime_116 at hw
  intro ls H locs cells slots hv F
  refine lv_aload_n C.ex C.by d_M_putTime_116 rfl (lv_at hv 0 rfl) ?_
  refine lv_iload C.ex C.by d_M_putTime_117 (lv_at hv 4 rfl) ?_
  refine lv_bipush (v := (100 : Int32)) C.ex C.by d_M_putTime_119 (by decide) ?_
  refine lv_irem C.ex C.by d_M_putTime_121 (by decide) ?_
  obtain ⟨hk1, hw⟩ := hw
  refine fx_callV C F (c_M_putTwo hl hw) hm_M_putTwo hi_M_putTwo hv.1 (by decide) (Nat.le_of_ble_eq_true rfl) (iv_M_putTwo C F lm_M_309 hk1 d_M_putTime_122) (fx_out0 _) fx_eno (fun h1 H locs cells slots hw hx1 F => ?_)
  replace hw := hw hx1
  have hk1 := (hx1).k hk1
  refine lv_aload_n C.ex C.by d_M_putTime_125 rfl (lv_at hv 0 rfl) ?_
  refine lv_iload C.ex C.by d_M_putTime_126 (lv_at hv 5 rfl) ?_
  refine fx_callV C F (c_M_putTwo hl hw) hm_M_putTwo hi_M_putTwo hv.1 (by decide) (Nat.le_of_ble_eq_true rfl) (iv_M_putTwo C F lm_M_309 hk1 d_M_putTime_128) (fx_out0 _) fx_eno (fun h2 H locs cells slots hw hx2 F => ?_)
  replace hw := hw hx2
  have hk1 := (hx2).k hk1
  refine lv_aload_n C.ex C.by d_M_putTime_131 rfl (lv_at hv 0 rfl) ?_
  refine lv_lload_n C.ex C.by d_M_putTime_132 rfl (lv_at hv 3 rfl) ?_
  refine lv_l2i (v := ((w3).toInt32)) C.ex C.by d_M_putTime_133 rfl ?_
  refine lv_iconst (v := (1 : Int32)) C.ex C.by d_M_putTime_134 (by decide) ?_
  refine lv_iadd C.ex C.by d_M_putTime_135 ?_
  refine fx_callV C F (c_M_putTwo hl hw) hm_M_putTwo hi_M_putTwo hv.1 (by decide) (Nat.le_of_ble_eq_true rfl) (iv_M_putTwo C F lm_M_309 hk1 d_M_putTime_136) (fx_out0 _) fx_eno (fun h3 H locs cells slots hw hx3 F => ?_)
  replace hw := hw hx3
  have hk1 := (hx3).k hk1
  refine lv_aload_n C.ex C.by d_M_putTime_139 rfl (lv_at hv 0 rfl) ?_
  refine lv_iload_n C.ex C.by d_M_putTime_140 rfl (lv_at hv 1 rfl) ?_
  refine lv_sipush (v := (1440 : Int32)) C.ex C.by d_M_putTime_141 (by decide) ?_
  refine lv_irem C.ex C.by d_M_putTime_144 (by decide) ?_
  refine lv_bipush (v := (60 : Int32)) C.ex C.by d_M_putTime_145 (by decide) ?_
  refine lv_idiv C.ex C.by d_M_putTime_147 (by decide) ?_
  refine fx_callV C F (c_M_putTwo hl hw) hm_M_putTwo hi_M_putTwo hv.1 (by decide) (Nat.le_of_ble_eq_true rfl) (iv_M_putTwo C F lm_M_309 hk1 d_M_putTime_148) (fx_out0 _) fx_eno (fun h4 H locs cells slots hw hx4 F => ?_)
  replace hw := hw hx4
  have hk1 := (hx4).k hk1
  refine lv_aload_n C.ex C.by d_M_putTime_151 rfl (lv_at hv 0 rfl) ?_
  refine lv_iload_n C.ex C.by d_M_putTime_152 rfl (lv_at hv 1 rfl) ?_
  refine lv_bipush (v := (60 : Int32)) C.ex C.by d_M_putTime_153 (by decide) ?_
  refine lv_irem C.ex C.by d_M_putTime_155 (by decide) ?_
  refine fx_callV C F (c_M_putTwo hl hw) hm_M_putTwo hi_M_putTwo hv.1 (by decide) (Nat.le_of_ble_eq_true rfl) (iv_M_putTwo C F lm_M_309 hk1 d_M_putTime_156) (fx_out0 _) fx_eno (fun h5 H locs cells slots hw hx5 F => ?_)
  replace hw := hw hx5
  have hk1 := (hx5).k hk1
  refine lv_aload_n C.ex C.by d_M_putTime_159 rfl (lv_at hv 0 rfl) ?_
  refine lv_iconst (v := (0 : Int32)) C.ex C.by d_M_putTime_160 (by decide) ?_
  refine fx_callV C F (c_M_putTwo hl hw) hm_M_putTwo hi_M_putTwo hv.1 (by decide) (Nat.le_of_ble_eq_true rfl) (iv_M_putTwo C F lm_M_309 hk1 d_M_putTime_161) (fx_out0 _) fx_eno (fun h6 H locs cells slots hw hx6 F => ?_)
  replace hw := hw hx6
  have hk1 := (hx6).k hk1
  refine lv_aload_n C.ex C.by d_M_putTime_164 rfl (lv_at hv 0 rfl) ?_
  refine lv_bipush (v := (90 : Int32)) C.ex C.by d_M_putTime_165 (by decide) ?_
  refine fx_callV C F (c_M_put_I hl hw) hm_M_put_I hi_M_put_I hv.1 (by decide) (Nat.le_of_ble_eq_true rfl) (iv_M_put_I C F lm_M_295 hk1 d_M_putTime_167) (fx_out0 _) fx_eno (fun h7 H locs cells slots hw hx7 F => ?_)
  replace hw := hw hx7
  have hk1 := (hx7).k hk1
  refine lv_aload_n C.ex C.by d_M_putTime_170 rfl (lv_at hv 0 rfl) ?_
  refine lv_iload C.ex C.by d_M_putTime_171 (lv_at hv 4 rfl) ?_
  refine lv_sipush (v := (2050 : Int32)) C.ex C.by d_M_putTime_173 (by decide) ?_
  refine lv_icmp_lt C.ex C.by d_M_putTime_176 rfl (fun hc => ?_) (fun hc => ?_)
  · replace hw := hw.1 hc
    refine lv_bipush (v := (23 : Int32)) C.ex C.by d_M_putTime_184 (by decide) ?_
    exact b_M_putTime_186 C hl _ _ _ _ hw _ _ _ _ _ (lv_sub hv [2] rfl) F
  · replace hw := hw.2 hc
    refine lv_bipush (v := (24 : Int32)) C.ex C.by d_M_putTime_179 (by decide) ?_
    refine lv_goto C.ex C.by d_M_putTime_181 rfl ?_
    exact b_M_putTime_186 C hl _ _ _ _ hw _ _ _ _ _ (lv_sub hv [2] rfl) F
theorem b_M_putTime_69 {p : Program} {l : Launch} {e : Env} {R : Room} {s : State} {m : MethodId} {args : Array Value} {below : List Frame} {meth : Method} {c : Code} {D : DD} {h0 : AH} {Q : AH → Prop} (C : fx_CX D y_M_putTime prog_15_method_45_code 7 2 30 (none) [] h0 p R s m meth c) (hl : l.flags = flags0) (r0 : Nat) (x1 : Int32) (x2 : Int32) (x5 : Int32) (w3 : Int64) (x6 : Int32) (h : AH) (hw : m_M_putTime_69 Q r0 x1 x2 x5 w3 x6 h) : ∀ (ls : Array Slot) (H : Heap) (locs : List Loc) (cells slots : Nat), lv_has ls 7 [(0, .ref r0), (1, .int x1), (2, .int x2), (3, .long w3), (5, .int x5), (6, .int x6)] → fx_F D h0 h H locs cells slots → W p l e R s m args below meth c H locs cells slots (fx_Z D below s h0 (fx_oV Q fx_no)) (F0 m 69 ls []) := by
  refine fx_loop.use hw (fun st => ∀ (ls : Array Slot) (H : Heap) (locs : List Loc) (cells slots : Nat), lv_has ls 7 [(0, .ref r0), (1, .int x1), (2, .int x2), (3, .long st.1), (5, .int x5), (6, .int st.2.1)] → fx_F D h0 st.2.2 H locs cells slots → W p l e R s m args below meth c H locs cells slots (fx_Z D below s h0 (fx_oV Q fx_no)) (F0 m 69 ls [])) (fun X69 st hX69 hw => ?_)
  obtain ⟨w3, x6, h⟩ := st
  replace hw : m_M_putTime_69_b Q X69 r0 x1 x2 x5 w3 x6 h := hw
  unfold m_M_putTime_69_b at hw
  intro ls H locs cells slots hv F
  refine lv_lload_n C.ex C.by d_M_putTime_69 rfl (lv_at hv 3 rfl) ?_
  refine lv_iload C.ex C.by d_M_putTime_70 (lv_at hv 4 rfl) ?_
  refine lv_iload C.ex C.by d_M_putTime_72 (lv_at hv 5 rfl) ?_
  refine fx_callI C F (c_M_daysOf hl hw) hm_M_daysOf hi_M_daysOf hv.1 (by decide) (Nat.le_of_ble_eq_true rfl) (iv_M_daysOf C F lm_M_170 d_M_putTime_74) (fx_out0 _) fx_eno (fun v1 h1 H locs cells slots hw hx1 F => ?_)
  replace hw := hw hx1
  refine lv_i2l (v := ((v1).toInt64)) C.ex C.by d_M_putTime_77 rfl ?_
  refine W.lcmp C.ex C.by d_M_putTime_78 ?_
  refine lv_if_lt C.ex C.by d_M_putTime_79 rfl (fun hc => ?_) (fun hc => ?_)
  · replace hw := hw.1 hc
    refine lv_iload C.ex C.by d_M_putTime_99 (lv_at hv 4 rfl) ?_
    refine lv_sipush (v := (2050 : Int32)) C.ex C.by d_M_putTime_101 (by decide) ?_
    refine lv_icmp_lt C.ex C.by d_M_putTime_104 rfl (fun hc => ?_) (fun hc => ?_)
    · replace hw := hw.1 hc
      exact b_M_putTime_116 C hl _ _ _ _ _ _ _ hw _ _ _ _ _ hv F
    · replace hw := hw.2 hc
      refine lv_aload_n C.ex C.by d_M_putTime_107 rfl (lv_at hv 0 rfl) ?_
      refine lv_iload C.ex C.by d_M_putTime_108 (lv_at hv 4 rfl) ?_
      refine lv_bipush (v := (100 : Int32)) C.ex C.by d_M_putTime_110 (by decide) ?_
      refine lv_idiv C.ex C.by d_M_putTime_112 (by decide) ?_
      obtain ⟨hk1, hw⟩ := hw
      refine fx_callV C F (c_M_putTwo hl hw) hm_M_putTwo hi_M_putTwo hv.1 (by decide) (Nat.le_of_ble_eq_true rfl) (iv_M_putTwo C F lm_M_309 hk1 d_M_putTime_113) (fx_out0 _) fx_eno (fun h2 H locs cells slots hw hx2 F => ?_)
      replace hw := hw hx2
      have hk1 := (hx2).k hk1
      exact b_M_putTime_116 C hl _ _ _ _ _ _ _ hw _ _ _ _ _ hv F
  · replace hw := hw.2 hc
    refine lv_lload_n C.ex C.by d_M_putTime_82 rfl (lv_at hv 3 rfl) ?_
    refine lv_iload C.ex C.by d_M_putTime_83 (lv_at hv 4 rfl) ?_
    refine lv_iload C.ex C.by d_M_putTime_85 (lv_at hv 5 rfl) ?_
    refine fx_callI C F (c_M_daysOf hl hw) hm_M_daysOf hi_M_daysOf hv.1 (by decide) (Nat.le_of_ble_eq_true rfl) (iv_M_daysOf C F lm_M_170 d_M_putTime_87) (fx_out0 _) fx_eno (fun v2 h3 H locs cells slots hw hx3 F => ?_)
    replace hw := hw hx3
    refine lv_i2l (v := ((v2).toInt64)) C.ex C.by d_M_putTime_90 rfl ?_
    refine lv_lsub C.ex C.by d_M_putTime_91 ?_
    let u1 : Int64 := (w3 - ((v2).toInt64))
    replace hw := hw u1 rfl
    refine lv_lstore_n (lv' := [(3, .long u1), (0, .ref r0), (1, .int x1), (2, .int x2), (5, .int x5), (6, .int x6)]) C.ex C.by d_M_putTime_92 rfl hv (by decide) rfl (fun ls hv => ?_)
    let v3 : Int32 := (x6 + (1 : Int32))
    replace hw := hw v3 rfl
    refine lv_iinc (v := v3) (k := 5) (lv' := [(6, .int v3), (3, .long u1), (0, .ref r0), (1, .int x1), (2, .int x2), (5, .int x5)]) C.ex C.by d_M_putTime_93 hv rfl (congrArg (fun z => x6 + z) (by decide)) (by decide) rfl (fun ls hv => ?_)
    refine lv_goto C.ex C.by d_M_putTime_96 rfl ?_
    exact hX69 _ hw _ _ _ _ _ (lv_sub hv [2, 3, 4, 1, 5, 0] rfl) F
theorem b_M_putTime_58 {p : Program} {l : Launch} {e : Env} {R : Room} {s : State} {m : MethodId} {args : Array Value} {below : List Frame} {meth : Method} {c : Code} {D : DD} {h0 : AH} {Q : AH → Prop} {X17 : Int64 × Int32 × AH → Prop} (C : fx_CX D y_M_putTime prog_15_method_45_code 7 2 30 (none) [] h0 p R s m meth c) (hl : l.flags = flags0) (r0 : Nat) (x1 : Int32) (x2 : Int32) (x5 : Int32) (sw0 : Int64) (sw1 : Int64) (h : AH) (hX17 : ∀ st, X17 st → ∀ (ls : Array Slot) (H : Heap) (locs : List Loc) (cells slots : Nat), lv_has ls 7 [(0, .ref r0), (1, .int x1), (2, .int x2), (3, .long st.1), (5, .int st.2.1)] → fx_F D h0 st.2.2 H locs cells slots → W p l e R s m args below meth c H locs cells slots (fx_Z D below s h0 (fx_oV Q fx_no)) (F0 m 17 ls [])) (hw : m_M_putTime_58 Q X17 r0 x1 x2 x5 sw0 sw1 h) : ∀ (ls : Array Slot) (H : Heap) (locs : List Loc) (cells slots : Nat), lv_has ls 7 [(0, .ref r0), (1, .int x1), (2, .int x2), (5, .int x5)] → fx_F D h0 h H locs cells slots → W p l e R s m args below meth c H locs cells slots (fx_Z D below s h0 (fx_oV Q fx_no)) (F0 m 58 ls [.long sw1, .long sw0]) := by
  unfold m_M_putTime_58 at hw
  intro ls H locs cells slots hv F
  refine lv_lsub C.ex C.by d_M_putTime_58 ?_
  let u1 : Int64 := (sw0 - sw1)
  replace hw := hw u1 rfl
  refine lv_lstore_n (lv' := [(3, .long u1), (0, .ref r0), (1, .int x1), (2, .int x2), (5, .int x5)]) C.ex C.by d_M_putTime_59 rfl hv (by decide) rfl (fun ls hv => ?_)
  let v1 : Int32 := (x5 + (1 : Int32))
  replace hw := hw v1 rfl
  refine lv_iinc (v := v1) (k := 4) (lv' := [(5, .int v1), (3, .long u1), (0, .ref r0), (1, .int x1), (2, .int x2)]) C.ex C.by d_M_putTime_60 hv rfl (congrArg (fun z => x5 + z) (by decide)) (by decide) rfl (fun ls hv => ?_)
  refine lv_goto C.ex C.by d_M_putTime_63 rfl ?_
  exact hX17 _ hw _ _ _ _ _ (lv_sub hv [2, 3, 4, 1, 0] rfl) F
theorem b_M_putTime_35 {p : Program} {l : Launch} {e : Env} {R : Room} {s : State} {m : MethodId} {args : Array Value} {below : List Frame} {meth : Method} {c : Code} {D : DD} {h0 : AH} {Q : AH → Prop} {X17 : Int64 × Int32 × AH → Prop} (C : fx_CX D y_M_putTime prog_15_method_45_code 7 2 30 (none) [] h0 p R s m meth c) (hl : l.flags = flags0) (r0 : Nat) (x1 : Int32) (x2 : Int32) (w3 : Int64) (x5 : Int32) (sw0 : Int64) (sx1 : Int32) (h : AH) (hX17 : ∀ st, X17 st → ∀ (ls : Array Slot) (H : Heap) (locs : List Loc) (cells slots : Nat), lv_has ls 7 [(0, .ref r0), (1, .int x1), (2, .int x2), (3, .long st.1), (5, .int st.2.1)] → fx_F D h0 st.2.2 H locs cells slots → W p l e R s m args below meth c H locs cells slots (fx_Z D below s h0 (fx_oV Q fx_no)) (F0 m 17 ls [])) (hw : m_M_putTime_35 Q X17 r0 x1 x2 w3 x5 sw0 sx1 h) : ∀ (ls : Array Slot) (H : Heap) (locs : List Loc) (cells slots : Nat), lv_has ls 7 [(0, .ref r0), (1, .int x1), (2, .int x2), (3, .long w3), (5, .int x5)] → fx_F D h0 h H locs cells slots → W p l e R s m args below meth c H locs cells slots (fx_Z D below s h0 (fx_oV Q fx_no)) (F0 m 35 ls [.int sx1, .long sw0]) := by
  unfold m_M_putTime_35 at hw
  intro ls H locs cells slots hv F
  refine lv_i2l (v := ((sx1).toInt64)) C.ex C.by d_M_putTime_35 rfl ?_
  refine W.lcmp C.ex C.by d_M_putTime_36 ?_
  refine lv_if_lt C.ex C.by d_M_putTime_37 rfl (fun hc => ?_) (fun hc => ?_)
  · replace hw := hw.1 hc
    refine lv_iconst (v := (1 : Int32)) C.ex C.by d_M_putTime_66 (by decide) ?_
    refine lv_istore (lv' := [(6, .int (1 : Int32)), (0, .ref r0), (1, .int x1), (2, .int x2), (3, .long w3), (5, .int x5)]) C.ex C.by d_M_putTime_67 hv (by decide) rfl (fun ls hv => ?_)
    exact b_M_putTime_69 C hl _ _ _ _ _ _ _ hw _ _ _ _ _ (lv_sub hv [1, 2, 3, 4, 5, 0] rfl) F
  · replace hw := hw.2 hc
    refine lv_lload_n C.ex C.by d_M_putTime_40 rfl (lv_at hv 3 rfl) ?_
    refine lv_iload C.ex C.by d_M_putTime_41 (lv_at hv 4 rfl) ?_
    refine fx_callZ C F (c_M_leap hl hw) hm_M_leap hi_M_leap hv.1 (by decide) (Nat.le_of_ble_eq_true rfl) (iv_M_leap C F lm_M_159 d_M_putTime_43) (fx_out0 _) fx_eno (fun v1 h1 H locs cells slots hw hx1 hzb F => ?_)
    replace hw := hw hx1 hzb
    refine lv_if_eq C.ex C.by d_M_putTime_46 rfl (fun hc => ?_) (fun hc => ?_)
    · replace hw := hw.1 hc
      refine lv_ldc2 (v := (365 : Int64)) C.ex C.by C.ow (C.tw.at (fx_m7 (List.mem_of_getElem? (i := 28) rfl)) rfl rfl) d_M_putTime_55 ?_
      exact b_M_putTime_58 C hl _ _ _ _ _ _ _ hX17 hw _ _ _ _ _ (lv_sub hv [0, 1, 2, 4] rfl) F
    · replace hw := hw.2 hc
      refine lv_ldc2 (v := (366 : Int64)) C.ex C.by C.ow (C.tw.at (fx_m7 (List.mem_of_getElem? (i := 27) rfl)) rfl rfl) d_M_putTime_49 ?_
      refine lv_goto C.ex C.by d_M_putTime_52 rfl ?_
      exact b_M_putTime_58 C hl _ _ _ _ _ _ _ hX17 hw _ _ _ _ _ (lv_sub hv [0, 1, 2, 4] rfl) F
theorem b_M_putTime_17 {p : Program} {l : Launch} {e : Env} {R : Room} {s : State} {m : MethodId} {args : Array Value} {below : List Frame} {meth : Method} {c : Code} {D : DD} {h0 : AH} {Q : AH → Prop} (C : fx_CX D y_M_putTime prog_15_method_45_code 7 2 30 (none) [] h0 p R s m meth c) (hl : l.flags = flags0) (r0 : Nat) (x1 : Int32) (x2 : Int32) (w3 : Int64) (x5 : Int32) (h : AH) (hw : m_M_putTime_17 Q r0 x1 x2 w3 x5 h) : ∀ (ls : Array Slot) (H : Heap) (locs : List Loc) (cells slots : Nat), lv_has ls 7 [(0, .ref r0), (1, .int x1), (2, .int x2), (3, .long w3), (5, .int x5)] → fx_F D h0 h H locs cells slots → W p l e R s m args below meth c H locs cells slots (fx_Z D below s h0 (fx_oV Q fx_no)) (F0 m 17 ls []) := by
  refine fx_loop.use hw (fun st => ∀ (ls : Array Slot) (H : Heap) (locs : List Loc) (cells slots : Nat), lv_has ls 7 [(0, .ref r0), (1, .int x1), (2, .int x2), (3, .long st.1), (5, .int st.2.1)] → fx_F D h0 st.2.2 H locs cells slots → W p l e R s m args below meth c H locs cells slots (fx_Z D below s h0 (fx_oV Q fx_no)) (F0 m 17 ls [])) (fun X17 st hX17 hw => ?_)
  obtain ⟨w3, x5, h⟩ := st
  replace hw : m_M_putTime_17_b Q X17 r0 x1 x2 w3 x5 h := hw
  unfold m_M_putTime_17_b at hw
  intro ls H locs cells slots hv F
  refine lv_lload_n C.ex C.by d_M_putTime_17 rfl (lv_at hv 3 rfl) ?_
  refine lv_iload C.ex C.by d_M_putTime_18 (lv_at hv 4 rfl) ?_
  refine fx_callZ C F (c_M_leap hl hw) hm_M_leap hi_M_leap hv.1 (by decide) (Nat.le_of_ble_eq_true rfl) (iv_M_leap C F lm_M_159 d_M_putTime_20) (fx_out0 _) fx_eno (fun v1 h1 H locs cells slots hw hx1 hzb F => ?_)
  replace hw := hw hx1 hzb
  refine lv_if_eq C.ex C.by d_M_putTime_23 rfl (fun hc => ?_) (fun hc => ?_)
  · replace hw := hw.1 hc
    refine lv_sipush (v := (365 : Int32)) C.ex C.by d_M_putTime_32 (by decide) ?_
    exact b_M_putTime_35 C hl _ _ _ _ _ _ _ _ hX17 hw _ _ _ _ _ hv F
  · replace hw := hw.2 hc
    refine lv_sipush (v := (366 : Int32)) C.ex C.by d_M_putTime_26 (by decide) ?_
    refine lv_goto C.ex C.by d_M_putTime_29 rfl ?_
    exact b_M_putTime_35 C hl _ _ _ _ _ _ _ _ hX17 hw _ _ _ _ _ hv F
theorem b_M_putTime_0 {p : Program} {l : Launch} {e : Env} {R : Room} {s : State} {m : MethodId} {args : Array Value} {below : List Frame} {meth : Method} {c : Code} {D : DD} {h0 : AH} {Q : AH → Prop} (C : fx_CX D y_M_putTime prog_15_method_45_code 7 2 30 (none) [] h0 p R s m meth c) (hl : l.flags = flags0) (r0 : Nat) (x1 : Int32) (h : AH) (hw : m_M_putTime Q r0 x1 h) : ∀ (ls : Array Slot) (H : Heap) (locs : List Loc) (cells slots : Nat), lv_has ls 7 [(0, .ref r0), (1, .int x1)] → fx_F D h0 h H locs cells slots → W p l e R s m args below meth c H locs cells slots (fx_Z D below s h0 (fx_oV Q fx_no)) (F0 m 0 ls []) := by
  unfold m_M_putTime at hw
  intro ls H locs cells slots hv F
  refine lv_aload_n C.ex C.by d_M_putTime_0 rfl (lv_at hv 0 rfl) ?_
  obtain ⟨hk1, hw⟩ := hw
  refine fx_getI C F lf_M_292 hk1 rfl d_M_putTime_1 ?_
  let v1 : Int32 := (hp_I h r0 47)
  replace hw := hw v1 rfl
  refine lv_istore_n (lv' := [(2, .int v1), (0, .ref r0), (1, .int x1)]) C.ex C.by d_M_putTime_4 rfl hv (by decide) rfl (fun ls hv => ?_)
  refine lv_iload_n C.ex C.by d_M_putTime_5 rfl (lv_at hv 2 rfl) ?_
  refine lv_sipush (v := (1440 : Int32)) C.ex C.by d_M_putTime_6 (by decide) ?_
  refine lv_idiv C.ex C.by d_M_putTime_9 (by decide) ?_
  refine lv_i2l (v := (((x1 / (1440 : Int32))).toInt64)) C.ex C.by d_M_putTime_10 rfl ?_
  let u1 : Int64 := (((x1 / (1440 : Int32))).toInt64)
  replace hw := hw u1 rfl
  refine lv_lstore_n (lv' := [(3, .long u1), (2, .int v1), (0, .ref r0), (1, .int x1)]) C.ex C.by d_M_putTime_11 rfl hv (by decide) rfl (fun ls hv => ?_)
  refine lv_sipush (v := (1970 : Int32)) C.ex C.by d_M_putTime_12 (by decide) ?_
  refine lv_istore (lv' := [(5, .int (1970 : Int32)), (3, .long u1), (2, .int v1), (0, .ref r0), (1, .int x1)]) C.ex C.by d_M_putTime_15 hv (by decide) rfl (fun ls hv => ?_)
  exact b_M_putTime_17 C hl _ _ _ _ _ _ hw _ _ _ _ _ (lv_sub hv [3, 4, 2, 1, 0] rfl) F
theorem hm_M_putTime : fx_hd y_M_putTime prog_15_method_45_code 7 (none) [] ∈ tables_1 := (fx_m7 (List.mem_of_getElem? (i := 95) rfl))
theorem hi_M_putTime : Cond.initialized y_M_putTime.cls ∈ tables_1 := (fx_m1 (List.mem_of_getElem? (i := 15) rfl))
theorem c_M_putTime {l : Launch} (hl : l.flags = flags0) {D : DD} {Q : AH → Prop} {r0 : Nat} {x1 : Int32} {h : AH} (hw : m_M_putTime Q r0 x1 h) : fx_Mt l D y_M_putTime (fx_hd y_M_putTime prog_15_method_45_code 7 (none) []) 2 30 [.ref r0, .int x1] h (fx_oV Q fx_no) := by
  refine fx_ofW (plainFor_of_name (by decide)) (fun p e s m below meth c C F => ?_)
  have hv := lv_entry ([.ref r0, .int x1]) (n := 7) (Nat.le_of_ble_eq_true rfl)
  rw [lg_entry_eq]
  generalize (lg_sl ([.ref r0, .int x1]) ++ List.replicate (7 - (lg_sl ([.ref r0, .int x1])).length) Slot.unset).toArray = ls at hv ⊢
  have hv : lv_has ls 7 [(0, .ref r0), (1, .int x1)] := hv
  exact b_M_putTime_0 C hl _ _ _ hw _ _ _ _ _ hv F
/-! ChainJudgeModel.extended(IIJZ)V: frames 2, words 30 -/
abbrev y_M_extended : MethodName := ⟨"ChainJudgeModel", "extended", "(IIJZ)V"⟩
def dl_M_extended : List (Nat × Instr × Nat) := [(0, .aload_n 0, 1), (1, .iconst 4, 1), (2, .iload_n 1, 1), (3, .invokevirtual 305, 3), (6, .aload_n 0, 1), (7, .getfield 292, 3), (10, .iload_n 1, 1), (11, .isub, 1), (12, .istore 6, 2), (14, .iconst 2, 1), (15, .iload_n 2, 1), (16, .iadd, 1), (17, .iload 5, 2), (19, .ifCond .eq 7, 3), (22, .iconst 3, 1), (23, .goto 4, 3), (26, .iconst 0, 1), (27, .iadd, 1), (28, .istore 7, 2), (30, .aload_n 0, 1), (31, .getfield 292, 3), (34, .iconst 1, 1), (35, .isub, 1), (36, .istore 8, 2), (38, .iload 8, 2), (40, .iload_n 1, 1), (41, .if_icmp .lt 26, 3), (44, .aload_n 0, 1), (45, .getfield 48, 3), (48, .iload 8, 2), (50, .iload 7, 2), (52, .iadd, 1), (53, .aload_n 0, 1), (54, .getfield 48, 3), (57, .iload 8, 2), (59, .baload, 1), (60, .bastore, 1), (61, .iinc 8 (-1), 3), (64, .goto (-26), 3), (67, .aload_n 0, 1), (68, .iload_n 1, 1), (69, .putfield 292, 3), (72, .aload_n 0, 1), (73, .bipush 6, 2), (75, .invokevirtual 295, 3), (78, .aload_n 0, 1), (79, .iload_n 2, 1), (80, .invokevirtual 295, 3), (83, .aload_n 0, 1), (84, .iload_n 2, 1), (85, .lload_n 3, 1), (86, .invokevirtual 300, 3), (89, .iload 5, 2), (91, .ifCond .eq 11, 3), (94, .aload_n 0, 1), (95, .iconst 3, 1), (96, .ldc2_w 312, 3), (99, .invokevirtual 300, 3), (102, .aload_n 0, 1), (103, .iload_n 1, 1), (104, .iload 7, 2), (106, .iadd, 1), (107, .iload 6, 2), (109, .iadd, 1), (110, .putfield 292, 3), (113, .aload_n 0, 1), (114, .bipush 48, 2), (116, .iload_n 1, 1), (117, .invokevirtual 305, 3), (120, .return_, 1)]
theorem dk_M_extended : fx_dec prog_15_method_46_code dl_M_extended = true := by decide +kernel
theorem d_M_extended_0 : decode prog_15_method_46_code 0 = .ok (.aload_n 0, 1) := fx_dat dk_M_extended 0 rfl
theorem d_M_extended_1 : decode prog_15_method_46_code 1 = .ok (.iconst 4, 1) := fx_dat dk_M_extended 1 rfl
theorem d_M_extended_2 : decode prog_15_method_46_code 2 = .ok (.iload_n 1, 1) := fx_dat dk_M_extended 2 rfl
theorem d_M_extended_3 : decode prog_15_method_46_code 3 = .ok (.invokevirtual 305, 3) := fx_dat dk_M_extended 3 rfl
theorem d_M_extended_6 : decode prog_15_method_46_code 6 = .ok (.aload_n 0, 1) := fx_dat dk_M_extended 4 rfl
theorem d_M_extended_7 : decode prog_15_method_46_code 7 = .ok (.getfield 292, 3) := fx_dat dk_M_extended 5 rfl
theorem d_M_extended_10 : decode prog_15_method_46_code 10 = .ok (.iload_n 1, 1) := fx_dat dk_M_extended 6 rfl
theorem d_M_extended_11 : decode prog_15_method_46_code 11 = .ok (.isub, 1) := fx_dat dk_M_extended 7 rfl
theorem d_M_extended_12 : decode prog_15_method_46_code 12 = .ok (.istore 6, 2) := fx_dat dk_M_extended 8 rfl
theorem d_M_extended_14 : decode prog_15_method_46_code 14 = .ok (.iconst 2, 1) := fx_dat dk_M_extended 9 rfl
theorem d_M_extended_15 : decode prog_15_method_46_code 15 = .ok (.iload_n 2, 1) := fx_dat dk_M_extended 10 rfl
theorem d_M_extended_16 : decode prog_15_method_46_code 16 = .ok (.iadd, 1) := fx_dat dk_M_extended 11 rfl
theorem d_M_extended_17 : decode prog_15_method_46_code 17 = .ok (.iload 5, 2) := fx_dat dk_M_extended 12 rfl
theorem d_M_extended_19 : decode prog_15_method_46_code 19 = .ok (.ifCond .eq 7, 3) := fx_dat dk_M_extended 13 rfl
theorem d_M_extended_22 : decode prog_15_method_46_code 22 = .ok (.iconst 3, 1) := fx_dat dk_M_extended 14 rfl
theorem d_M_extended_23 : decode prog_15_method_46_code 23 = .ok (.goto 4, 3) := fx_dat dk_M_extended 15 rfl
theorem d_M_extended_26 : decode prog_15_method_46_code 26 = .ok (.iconst 0, 1) := fx_dat dk_M_extended 16 rfl
theorem d_M_extended_27 : decode prog_15_method_46_code 27 = .ok (.iadd, 1) := fx_dat dk_M_extended 17 rfl
theorem d_M_extended_28 : decode prog_15_method_46_code 28 = .ok (.istore 7, 2) := fx_dat dk_M_extended 18 rfl
theorem d_M_extended_30 : decode prog_15_method_46_code 30 = .ok (.aload_n 0, 1) := fx_dat dk_M_extended 19 rfl
theorem d_M_extended_31 : decode prog_15_method_46_code 31 = .ok (.getfield 292, 3) := fx_dat dk_M_extended 20 rfl
theorem d_M_extended_34 : decode prog_15_method_46_code 34 = .ok (.iconst 1, 1) := fx_dat dk_M_extended 21 rfl
theorem d_M_extended_35 : decode prog_15_method_46_code 35 = .ok (.isub, 1) := fx_dat dk_M_extended 22 rfl
theorem d_M_extended_36 : decode prog_15_method_46_code 36 = .ok (.istore 8, 2) := fx_dat dk_M_extended 23 rfl
theorem d_M_extended_38 : decode prog_15_method_46_code 38 = .ok (.iload 8, 2) := fx_dat dk_M_extended 24 rfl
theorem d_M_extended_40 : decode prog_15_method_46_code 40 = .ok (.iload_n 1, 1) := fx_dat dk_M_extended 25 rfl
theorem d_M_extended_41 : decode prog_15_method_46_code 41 = .ok (.if_icmp .lt 26, 3) := fx_dat dk_M_extended 26 rfl
theorem d_M_extended_44 : decode prog_15_method_46_code 44 = .ok (.aload_n 0, 1) := fx_dat dk_M_extended 27 rfl
theorem d_M_extended_45 : decode prog_15_method_46_code 45 = .ok (.getfield 48, 3) := fx_dat dk_M_extended 28 rfl
theorem d_M_extended_48 : decode prog_15_method_46_code 48 = .ok (.iload 8, 2) := fx_dat dk_M_extended 29 rfl
theorem d_M_extended_50 : decode prog_15_method_46_code 50 = .ok (.iload 7, 2) := fx_dat dk_M_extended 30 rfl
theorem d_M_extended_52 : decode prog_15_method_46_code 52 = .ok (.iadd, 1) := fx_dat dk_M_extended 31 rfl
theorem d_M_extended_53 : decode prog_15_method_46_code 53 = .ok (.aload_n 0, 1) := fx_dat dk_M_extended 32 rfl
theorem d_M_extended_54 : decode prog_15_method_46_code 54 = .ok (.getfield 48, 3) := fx_dat dk_M_extended 33 rfl
theorem d_M_extended_57 : decode prog_15_method_46_code 57 = .ok (.iload 8, 2) := fx_dat dk_M_extended 34 rfl
theorem d_M_extended_59 : decode prog_15_method_46_code 59 = .ok (.baload, 1) := fx_dat dk_M_extended 35 rfl
theorem d_M_extended_60 : decode prog_15_method_46_code 60 = .ok (.bastore, 1) := fx_dat dk_M_extended 36 rfl
theorem d_M_extended_61 : decode prog_15_method_46_code 61 = .ok (.iinc 8 (-1), 3) := fx_dat dk_M_extended 37 rfl
theorem d_M_extended_64 : decode prog_15_method_46_code 64 = .ok (.goto (-26), 3) := fx_dat dk_M_extended 38 rfl
theorem d_M_extended_67 : decode prog_15_method_46_code 67 = .ok (.aload_n 0, 1) := fx_dat dk_M_extended 39 rfl
theorem d_M_extended_68 : decode prog_15_method_46_code 68 = .ok (.iload_n 1, 1) := fx_dat dk_M_extended 40 rfl
theorem d_M_extended_69 : decode prog_15_method_46_code 69 = .ok (.putfield 292, 3) := fx_dat dk_M_extended 41 rfl
theorem d_M_extended_72 : decode prog_15_method_46_code 72 = .ok (.aload_n 0, 1) := fx_dat dk_M_extended 42 rfl
theorem d_M_extended_73 : decode prog_15_method_46_code 73 = .ok (.bipush 6, 2) := fx_dat dk_M_extended 43 rfl
theorem d_M_extended_75 : decode prog_15_method_46_code 75 = .ok (.invokevirtual 295, 3) := fx_dat dk_M_extended 44 rfl
theorem d_M_extended_78 : decode prog_15_method_46_code 78 = .ok (.aload_n 0, 1) := fx_dat dk_M_extended 45 rfl
theorem d_M_extended_79 : decode prog_15_method_46_code 79 = .ok (.iload_n 2, 1) := fx_dat dk_M_extended 46 rfl
theorem d_M_extended_80 : decode prog_15_method_46_code 80 = .ok (.invokevirtual 295, 3) := fx_dat dk_M_extended 47 rfl
theorem d_M_extended_83 : decode prog_15_method_46_code 83 = .ok (.aload_n 0, 1) := fx_dat dk_M_extended 48 rfl
theorem d_M_extended_84 : decode prog_15_method_46_code 84 = .ok (.iload_n 2, 1) := fx_dat dk_M_extended 49 rfl
theorem d_M_extended_85 : decode prog_15_method_46_code 85 = .ok (.lload_n 3, 1) := fx_dat dk_M_extended 50 rfl
theorem d_M_extended_86 : decode prog_15_method_46_code 86 = .ok (.invokevirtual 300, 3) := fx_dat dk_M_extended 51 rfl
theorem d_M_extended_89 : decode prog_15_method_46_code 89 = .ok (.iload 5, 2) := fx_dat dk_M_extended 52 rfl
theorem d_M_extended_91 : decode prog_15_method_46_code 91 = .ok (.ifCond .eq 11, 3) := fx_dat dk_M_extended 53 rfl
theorem d_M_extended_94 : decode prog_15_method_46_code 94 = .ok (.aload_n 0, 1) := fx_dat dk_M_extended 54 rfl
theorem d_M_extended_95 : decode prog_15_method_46_code 95 = .ok (.iconst 3, 1) := fx_dat dk_M_extended 55 rfl
theorem d_M_extended_96 : decode prog_15_method_46_code 96 = .ok (.ldc2_w 312, 3) := fx_dat dk_M_extended 56 rfl
theorem d_M_extended_99 : decode prog_15_method_46_code 99 = .ok (.invokevirtual 300, 3) := fx_dat dk_M_extended 57 rfl
theorem d_M_extended_102 : decode prog_15_method_46_code 102 = .ok (.aload_n 0, 1) := fx_dat dk_M_extended 58 rfl
theorem d_M_extended_103 : decode prog_15_method_46_code 103 = .ok (.iload_n 1, 1) := fx_dat dk_M_extended 59 rfl
theorem d_M_extended_104 : decode prog_15_method_46_code 104 = .ok (.iload 7, 2) := fx_dat dk_M_extended 60 rfl
theorem d_M_extended_106 : decode prog_15_method_46_code 106 = .ok (.iadd, 1) := fx_dat dk_M_extended 61 rfl
theorem d_M_extended_107 : decode prog_15_method_46_code 107 = .ok (.iload 6, 2) := fx_dat dk_M_extended 62 rfl
theorem d_M_extended_109 : decode prog_15_method_46_code 109 = .ok (.iadd, 1) := fx_dat dk_M_extended 63 rfl
theorem d_M_extended_110 : decode prog_15_method_46_code 110 = .ok (.putfield 292, 3) := fx_dat dk_M_extended 64 rfl
theorem d_M_extended_113 : decode prog_15_method_46_code 113 = .ok (.aload_n 0, 1) := fx_dat dk_M_extended 65 rfl
theorem d_M_extended_114 : decode prog_15_method_46_code 114 = .ok (.bipush 48, 2) := fx_dat dk_M_extended 66 rfl
theorem d_M_extended_116 : decode prog_15_method_46_code 116 = .ok (.iload_n 1, 1) := fx_dat dk_M_extended 67 rfl
theorem d_M_extended_117 : decode prog_15_method_46_code 117 = .ok (.invokevirtual 305, 3) := fx_dat dk_M_extended 68 rfl
theorem d_M_extended_120 : decode prog_15_method_46_code 120 = .ok (.return_, 1) := fx_dat dk_M_extended 69 rfl
def m_M_extended_102 (Q : AH → Prop) (r0 : Nat) (x1 : Int32) (x6 : Int32) (x7 : Int32) (h : AH) : Prop := hp_k h r0 = 13 ∧ ∀ h1 : AH, h1 = up_I h r0 47 ((x1 + x7) + x6) → m_M_wrap (fun h2 => fx_ext h1 h2 → Q h2) r0 (48 : Int32) x1 h1
def m_M_extended_38_b (Q : AH → Prop) (X38 : Int32 × AH → Prop) (r0 : Nat) (x1 : Int32) (x2 : Int32) (w3 : Int64) (x5 : Int32) (x6 : Int32) (x7 : Int32) (x8 : Int32) (h : AH) : Prop := (x8 < x1 → hp_k h r0 = 13 ∧ ∀ h1 : AH, h1 = up_I h r0 47 x1 → m_M_put_I (fun h2 => fx_ext h1 h2 → m_M_put_I (fun h3 => fx_ext h2 h3 → m_M_put_IJ (fun h4 => fx_ext h3 h4 → (x5 = 0 → m_M_extended_102 Q r0 x1 x6 x7 h4) ∧ (¬ x5 = 0 → m_M_put_IJ (fun h5 => fx_ext h4 h5 → m_M_extended_102 Q r0 x1 x6 x7 h5) r0 (3 : Int32) (66047 : Int64) h4)) r0 x2 w3 h3) r0 x2 h2) r0 (6 : Int32) h1) ∧ (¬ x8 < x1 → hp_k h r0 = 13 ∧ ∃ b1, hp_R h r0 46 = some b1 ∧ bk (hp_k h b1) ∧ vp_in x8 (hp_n h b1) ∧ (by8 (hp_I h b1 x8.toNatClampNeg) → hp_k h b1 = 101 ∧ vp_in (x8 + x7) (hp_n h b1) ∧ ∀ h6 : AH, h6 = up_I h b1 ((x8 + x7)).toNatClampNeg ((hp_I h b1 x8.toNatClampNeg)).toInt8.toInt32 → ∀ v1 : Int32, v1 = (x8 + (-1 : Int32)) → X38 (v1, h6)))
def m_M_extended_38 (Q : AH → Prop) (r0 : Nat) (x1 : Int32) (x2 : Int32) (w3 : Int64) (x5 : Int32) (x6 : Int32) (x7 : Int32) (x8 : Int32) (h : AH) : Prop := fx_loop (fun (X38 : Int32 × AH → Prop) (st : Int32 × AH) => m_M_extended_38_b Q X38 r0 x1 x2 w3 x5 x6 x7 st.1 st.2) (x8, h)
def m_M_extended_27 (Q : AH → Prop) (r0 : Nat) (x1 : Int32) (x2 : Int32) (w3 : Int64) (x5 : Int32) (x6 : Int32) (sx0 : Int32) (sx1 : Int32) (h : AH) : Prop := ∀ v1 : Int32, v1 = (sx0 + sx1) → hp_k h r0 = 13 ∧ ∀ v2 : Int32, v2 = ((hp_I h r0 47) - (1 : Int32)) → m_M_extended_38 Q r0 x1 x2 w3 x5 x6 v1 v2 h
def m_M_extended (Q : AH → Prop) (r0 : Nat) (x1 : Int32) (x2 : Int32) (w3 : Int64) (x5 : Int32) (h : AH) : Prop := hp_k h r0 = 13 ∧ m_M_wrap (fun h1 => fx_ext h h1 → ∀ v1 : Int32, v1 = ((hp_I h1 r0 47) - x1) → (x5 = 0 → m_M_extended_27 Q r0 x1 x2 w3 x5 v1 ((2 : Int32) + x2) (0 : Int32) h1) ∧ (¬ x5 = 0 → m_M_extended_27 Q r0 x1 x2 w3 x5 v1 ((2 : Int32) + x2) (3 : Int32) h1)) r0 (4 : Int32) x1 h
theorem b_M_extended_102 {p : Program} {l : Launch} {e : Env} {R : Room} {s : State} {m : MethodId} {args : Array Value} {below : List Frame} {meth : Method} {c : Code} {D : DD} {h0 : AH} {Q : AH → Prop} (C : fx_CX D y_M_extended prog_15_method_46_code 9 2 30 (none) [] h0 p R s m meth c) (hl : l.flags = flags0) (r0 : Nat) (x1 : Int32) (x6 : Int32) (x7 : Int32) (h : AH) (hw : m_M_extended_102 Q r0 x1 x6 x7 h) : ∀ (ls : Array Slot) (H : Heap) (locs : List Loc) (cells slots : Nat), lv_has ls 9 [(0, .ref r0), (1, .int x1), (6, .int x6), (7, .int x7)] → fx_F D h0 h H locs cells slots → W p l e R s m args below meth c H locs cells slots (fx_Z D below s h0 (fx_oV Q fx_no)) (F0 m 102 ls []) := by
  unfold m_M_extended_102 at hw
  intro ls H locs cells slots hv F
  refine lv_aload_n C.ex C.by d_M_extended_102 rfl (lv_at hv 0 rfl) ?_
  refine lv_iload_n C.ex C.by d_M_extended_103 rfl (lv_at hv 1 rfl) ?_
  refine lv_iload C.ex C.by d_M_extended_104 (lv_at hv 3 rfl) ?_
  refine lv_iadd C.ex C.by d_M_extended_106 ?_
  refine lv_iload C.ex C.by d_M_extended_107 (lv_at hv 2 rfl) ?_
  refine lv_iadd C.ex C.by d_M_extended_109 ?_
  obtain ⟨hk1, hw⟩ := hw
  let h1 : AH := up_I h r0 47 ((x1 + x7) + x6)
  replace hw := hw h1 rfl
  refine fx_putI C F lf_M_292 hk1 rfl rfl (fx_mayF.no rfl rfl) d_M_extended_110 (fun H locs (F : fx_F D h0 h1 H locs _ _) => ?_)
  refine lv_aload_n C.ex C.by d_M_extended_113 rfl (lv_at hv 0 rfl) ?_
  refine lv_bipush (v := (48 : Int32)) C.ex C.by d_M_extended_114 (by decide) ?_
  refine lv_iload_n C.ex C.by d_M_extended_116 rfl (lv_at hv 1 rfl) ?_
  refine fx_callV C F (c_M_wrap hl hw) hm_M_wrap hi_M_wrap hv.1 (by decide) (Nat.le_of_ble_eq_true rfl) (iv_M_wrap C F lm_M_305 hk1 d_M_extended_117) (fx_out0 _) fx_eno (fun h2 H locs cells slots hw hx1 F => ?_)
  replace hw := hw hx1
  have hk1 := (hx1).k hk1
  exact fx_vret C F d_M_extended_120 (Or.inl ⟨rfl, hw⟩)
theorem b_M_extended_38 {p : Program} {l : Launch} {e : Env} {R : Room} {s : State} {m : MethodId} {args : Array Value} {below : List Frame} {meth : Method} {c : Code} {D : DD} {h0 : AH} {Q : AH → Prop} (C : fx_CX D y_M_extended prog_15_method_46_code 9 2 30 (none) [] h0 p R s m meth c) (hl : l.flags = flags0) (r0 : Nat) (x1 : Int32) (x2 : Int32) (w3 : Int64) (x5 : Int32) (x6 : Int32) (x7 : Int32) (x8 : Int32) (h : AH) (hw : m_M_extended_38 Q r0 x1 x2 w3 x5 x6 x7 x8 h) : ∀ (ls : Array Slot) (H : Heap) (locs : List Loc) (cells slots : Nat), lv_has ls 9 [(0, .ref r0), (1, .int x1), (2, .int x2), (3, .long w3), (5, .int x5), (6, .int x6), (7, .int x7), (8, .int x8)] → fx_F D h0 h H locs cells slots → W p l e R s m args below meth c H locs cells slots (fx_Z D below s h0 (fx_oV Q fx_no)) (F0 m 38 ls []) := by
  refine fx_loop.use hw (fun st => ∀ (ls : Array Slot) (H : Heap) (locs : List Loc) (cells slots : Nat), lv_has ls 9 [(0, .ref r0), (1, .int x1), (2, .int x2), (3, .long w3), (5, .int x5), (6, .int x6), (7, .int x7), (8, .int st.1)] → fx_F D h0 st.2 H locs cells slots → W p l e R s m args below meth c H locs cells slots (fx_Z D below s h0 (fx_oV Q fx_no)) (F0 m 38 ls [])) (fun X38 st hX38 hw => ?_)
  obtain ⟨x8, h⟩ := st
  replace hw : m_M_extended_38_b Q X38 r0 x1 x2 w3 x5 x6 x7 x8 h := hw
  unfold m_M_extended_38_b at hw
  intro ls H locs cells slots hv F
  refine lv_iload C.ex C.by d_M_extended_38 (lv_at hv 7 rfl) ?_
  refine lv_iload_n C.ex C.by d_M_extended_40 rfl (lv_at hv 1 rfl) ?_
  refine lv_icmp_lt C.ex C.by d_M_extended_41 rfl (fun hc => ?_) (fun hc => ?_)
  · replace hw := hw.1 hc
    refine lv_aload_n C.ex C.by d_M_extended_67 rfl (lv_at hv 0 rfl) ?_
    refine lv_iload_n C.ex C.by d_M_extended_68 rfl (lv_at hv 1 rfl) ?_
    obtain ⟨hk1, hw⟩ := hw
    let h1 : AH := up_I h r0 47 x1
    replace hw := hw h1 rfl
    refine fx_putI C F lf_M_292 hk1 rfl rfl (fx_mayF.no rfl rfl) d_M_extended_69 (fun H locs (F : fx_F D h0 h1 H locs _ _) => ?_)
    refine lv_aload_n C.ex C.by d_M_extended_72 rfl (lv_at hv 0 rfl) ?_
    refine lv_bipush (v := (6 : Int32)) C.ex C.by d_M_extended_73 (by decide) ?_
    refine fx_callV C F (c_M_put_I hl hw) hm_M_put_I hi_M_put_I hv.1 (by decide) (Nat.le_of_ble_eq_true rfl) (iv_M_put_I C F lm_M_295 hk1 d_M_extended_75) (fx_out0 _) fx_eno (fun h2 H locs cells slots hw hx1 F => ?_)
    replace hw := hw hx1
    have hk1 := (hx1).k hk1
    refine lv_aload_n C.ex C.by d_M_extended_78 rfl (lv_at hv 0 rfl) ?_
    refine lv_iload_n C.ex C.by d_M_extended_79 rfl (lv_at hv 2 rfl) ?_
    refine fx_callV C F (c_M_put_I hl hw) hm_M_put_I hi_M_put_I hv.1 (by decide) (Nat.le_of_ble_eq_true rfl) (iv_M_put_I C F lm_M_295 hk1 d_M_extended_80) (fx_out0 _) fx_eno (fun h3 H locs cells slots hw hx2 F => ?_)
    replace hw := hw hx2
    have hk1 := (hx2).k hk1
    refine lv_aload_n C.ex C.by d_M_extended_83 rfl (lv_at hv 0 rfl) ?_
    refine lv_iload_n C.ex C.by d_M_extended_84 rfl (lv_at hv 2 rfl) ?_
    refine lv_lload_n C.ex C.by d_M_extended_85 rfl (lv_at hv 3 rfl) ?_
    refine fx_callV C F (c_M_put_IJ hl hw) hm_M_put_IJ hi_M_put_IJ hv.1 (by decide) (Nat.le_of_ble_eq_true rfl) (iv_M_put_IJ C F lm_M_300 hk1 d_M_extended_86) (fx_out0 _) fx_eno (fun h4 H locs cells slots hw hx3 F => ?_)
    replace hw := hw hx3
    have hk1 := (hx3).k hk1
    refine lv_iload C.ex C.by d_M_extended_89 (lv_at hv 4 rfl) ?_
    refine lv_if_eq C.ex C.by d_M_extended_91 rfl (fun hc => ?_) (fun hc => ?_)
    · replace hw := hw.1 hc
      exact b_M_extended_102 C hl _ _ _ _ _ hw _ _ _ _ _ (lv_sub hv [0, 1, 5, 6] rfl) F
    · replace hw := hw.2 hc
      refine lv_aload_n C.ex C.by d_M_extended_94 rfl (lv_at hv 0 rfl) ?_
      refine lv_iconst (v := (3 : Int32)) C.ex C.by d_M_extended_95 (by decide) ?_
      refine lv_ldc2 (v := (66047 : Int64)) C.ex C.by C.ow (C.tw.at (fx_m7 (List.mem_of_getElem? (i := 104) rfl)) rfl rfl) d_M_extended_96 ?_
      refine fx_callV C F (c_M_put_IJ hl hw) hm_M_put_IJ hi_M_put_IJ hv.1 (by decide) (Nat.le_of_ble_eq_true rfl) (iv_M_put_IJ C F lm_M_300 hk1 d_M_extended_99) (fx_out0 _) fx_eno (fun h5 H locs cells slots hw hx4 F => ?_)
      replace hw := hw hx4
      have hk1 := (hx4).k hk1
      exact b_M_extended_102 C hl _ _ _ _ _ hw _ _ _ _ _ (lv_sub hv [0, 1, 5, 6] rfl) F
  · replace hw := hw.2 hc
    refine lv_aload_n C.ex C.by d_M_extended_44 rfl (lv_at hv 0 rfl) ?_
    obtain ⟨hk2, hw⟩ := hw
    obtain ⟨b1, hb1, hw⟩ := hw
    refine fx_getR C F lf_M_48 hk2 rfl hb1 d_M_extended_45 ?_
    refine lv_iload C.ex C.by d_M_extended_48 (lv_at hv 7 rfl) ?_
    refine lv_iload C.ex C.by d_M_extended_50 (lv_at hv 6 rfl) ?_
    refine lv_iadd C.ex C.by d_M_extended_52 ?_
    refine lv_aload_n C.ex C.by d_M_extended_53 rfl (lv_at hv 0 rfl) ?_
    refine fx_getR C F lf_M_48 hk2 rfl hb1 d_M_extended_54 ?_
    refine lv_iload C.ex C.by d_M_extended_57 (lv_at hv 7 rfl) ?_
    obtain ⟨hk3, hw⟩ := hw
    obtain ⟨hi1, hw⟩ := hw
    refine fx_bald C F hk3 hi1 d_M_extended_59 (fun h8 => ?_)
    replace hw := hw h8
    obtain ⟨hk4, hw⟩ := hw
    obtain ⟨hi2, hw⟩ := hw
    let h6 : AH := up_I h b1 ((x8 + x7)).toNatClampNeg ((hp_I h b1 x8.toNatClampNeg)).toInt8.toInt32
    replace hw := hw h6 rfl
    refine fx_bast C F hk4 hi2 d_M_extended_60 (fun H locs (F : fx_F D h0 h6 H locs _ _) => ?_)
    let v1 : Int32 := (x8 + (-1 : Int32))
    replace hw := hw v1 rfl
    refine lv_iinc (v := v1) (k := 7) (lv' := [(8, .int v1), (0, .ref r0), (1, .int x1), (2, .int x2), (3, .long w3), (5, .int x5), (6, .int x6), (7, .int x7)]) C.ex C.by d_M_extended_61 hv rfl (congrArg (fun z => x8 + z) (by decide)) (by decide) rfl (fun ls hv => ?_)
    refine lv_goto C.ex C.by d_M_extended_64 rfl ?_
    exact hX38 _ hw _ _ _ _ _ (lv_sub hv [1, 2, 3, 4, 5, 6, 7, 0] rfl) F
theorem b_M_extended_27 {p : Program} {l : Launch} {e : Env} {R : Room} {s : State} {m : MethodId} {args : Array Value} {below : List Frame} {meth : Method} {c : Code} {D : DD} {h0 : AH} {Q : AH → Prop} (C : fx_CX D y_M_extended prog_15_method_46_code 9 2 30 (none) [] h0 p R s m meth c) (hl : l.flags = flags0) (r0 : Nat) (x1 : Int32) (x2 : Int32) (w3 : Int64) (x5 : Int32) (x6 : Int32) (sx0 : Int32) (sx1 : Int32) (h : AH) (hw : m_M_extended_27 Q r0 x1 x2 w3 x5 x6 sx0 sx1 h) : ∀ (ls : Array Slot) (H : Heap) (locs : List Loc) (cells slots : Nat), lv_has ls 9 [(0, .ref r0), (1, .int x1), (2, .int x2), (3, .long w3), (5, .int x5), (6, .int x6)] → fx_F D h0 h H locs cells slots → W p l e R s m args below meth c H locs cells slots (fx_Z D below s h0 (fx_oV Q fx_no)) (F0 m 27 ls [.int sx1, .int sx0]) := by
  unfold m_M_extended_27 at hw
  intro ls H locs cells slots hv F
  refine lv_iadd C.ex C.by d_M_extended_27 ?_
  let v1 : Int32 := (sx0 + sx1)
  replace hw := hw v1 rfl
  refine lv_istore (lv' := [(7, .int v1), (0, .ref r0), (1, .int x1), (2, .int x2), (3, .long w3), (5, .int x5), (6, .int x6)]) C.ex C.by d_M_extended_28 hv (by decide) rfl (fun ls hv => ?_)
  refine lv_aload_n C.ex C.by d_M_extended_30 rfl (lv_at hv 1 rfl) ?_
  obtain ⟨hk1, hw⟩ := hw
  refine fx_getI C F lf_M_292 hk1 rfl d_M_extended_31 ?_
  refine lv_iconst (v := (1 : Int32)) C.ex C.by d_M_extended_34 (by decide) ?_
  refine lv_isub C.ex C.by d_M_extended_35 ?_
  let v2 : Int32 := ((hp_I h r0 47) - (1 : Int32))
  replace hw := hw v2 rfl
  refine lv_istore (lv' := [(8, .int v2), (7, .int v1), (0, .ref r0), (1, .int x1), (2, .int x2), (3, .long w3), (5, .int x5), (6, .int x6)]) C.ex C.by d_M_extended_36 hv (by decide) rfl (fun ls hv => ?_)
  exact b_M_extended_38 C hl _ _ _ _ _ _ _ _ _ hw _ _ _ _ _ (lv_sub hv [2, 3, 4, 5, 6, 7, 1, 0] rfl) F
theorem b_M_extended_0 {p : Program} {l : Launch} {e : Env} {R : Room} {s : State} {m : MethodId} {args : Array Value} {below : List Frame} {meth : Method} {c : Code} {D : DD} {h0 : AH} {Q : AH → Prop} (C : fx_CX D y_M_extended prog_15_method_46_code 9 2 30 (none) [] h0 p R s m meth c) (hl : l.flags = flags0) (r0 : Nat) (x1 : Int32) (x2 : Int32) (w3 : Int64) (x5 : Int32) (h : AH) (hw : m_M_extended Q r0 x1 x2 w3 x5 h) : ∀ (ls : Array Slot) (H : Heap) (locs : List Loc) (cells slots : Nat), lv_has ls 9 [(0, .ref r0), (1, .int x1), (2, .int x2), (3, .long w3), (5, .int x5)] → fx_F D h0 h H locs cells slots → W p l e R s m args below meth c H locs cells slots (fx_Z D below s h0 (fx_oV Q fx_no)) (F0 m 0 ls []) := by
  unfold m_M_extended at hw
  intro ls H locs cells slots hv F
  refine lv_aload_n C.ex C.by d_M_extended_0 rfl (lv_at hv 0 rfl) ?_
  refine lv_iconst (v := (4 : Int32)) C.ex C.by d_M_extended_1 (by decide) ?_
  refine lv_iload_n C.ex C.by d_M_extended_2 rfl (lv_at hv 1 rfl) ?_
  obtain ⟨hk1, hw⟩ := hw
  refine fx_callV C F (c_M_wrap hl hw) hm_M_wrap hi_M_wrap hv.1 (by decide) (Nat.le_of_ble_eq_true rfl) (iv_M_wrap C F lm_M_305 hk1 d_M_extended_3) (fx_out0 _) fx_eno (fun h1 H locs cells slots hw hx1 F => ?_)
  replace hw := hw hx1
  have hk1 := (hx1).k hk1
  refine lv_aload_n C.ex C.by d_M_extended_6 rfl (lv_at hv 0 rfl) ?_
  refine fx_getI C F lf_M_292 hk1 rfl d_M_extended_7 ?_
  refine lv_iload_n C.ex C.by d_M_extended_10 rfl (lv_at hv 1 rfl) ?_
  refine lv_isub C.ex C.by d_M_extended_11 ?_
  let v1 : Int32 := ((hp_I h1 r0 47) - x1)
  replace hw := hw v1 rfl
  refine lv_istore (lv' := [(6, .int v1), (0, .ref r0), (1, .int x1), (2, .int x2), (3, .long w3), (5, .int x5)]) C.ex C.by d_M_extended_12 hv (by decide) rfl (fun ls hv => ?_)
  refine lv_iconst (v := (2 : Int32)) C.ex C.by d_M_extended_14 (by decide) ?_
  refine lv_iload_n C.ex C.by d_M_extended_15 rfl (lv_at hv 3 rfl) ?_
  refine lv_iadd C.ex C.by d_M_extended_16 ?_
  refine lv_iload C.ex C.by d_M_extended_17 (lv_at hv 5 rfl) ?_
  refine lv_if_eq C.ex C.by d_M_extended_19 rfl (fun hc => ?_) (fun hc => ?_)
  · replace hw := hw.1 hc
    refine lv_iconst (v := (0 : Int32)) C.ex C.by d_M_extended_26 (by decide) ?_
    exact b_M_extended_27 C hl _ _ _ _ _ _ _ _ _ hw _ _ _ _ _ (lv_sub hv [1, 2, 3, 4, 5, 0] rfl) F
  · replace hw := hw.2 hc
    refine lv_iconst (v := (3 : Int32)) C.ex C.by d_M_extended_22 (by decide) ?_
    refine lv_goto C.ex C.by d_M_extended_23 rfl ?_
    exact b_M_extended_27 C hl _ _ _ _ _ _ _ _ _ hw _ _ _ _ _ (lv_sub hv [1, 2, 3, 4, 5, 0] rfl) F
theorem hm_M_extended : fx_hd y_M_extended prog_15_method_46_code 9 (none) [] ∈ tables_1 := (fx_m7 (List.mem_of_getElem? (i := 110) rfl))
theorem hi_M_extended : Cond.initialized y_M_extended.cls ∈ tables_1 := (fx_m1 (List.mem_of_getElem? (i := 15) rfl))
theorem c_M_extended {l : Launch} (hl : l.flags = flags0) {D : DD} {Q : AH → Prop} {r0 : Nat} {x1 : Int32} {x2 : Int32} {w3 : Int64} {x5 : Int32} {h : AH} (hw : m_M_extended Q r0 x1 x2 w3 x5 h) : fx_Mt l D y_M_extended (fx_hd y_M_extended prog_15_method_46_code 9 (none) []) 2 30 [.ref r0, .int x1, .int x2, .long w3, .int x5] h (fx_oV Q fx_no) := by
  refine fx_ofW (plainFor_of_name (by decide)) (fun p e s m below meth c C F => ?_)
  have hv := lv_entry ([.ref r0, .int x1, .int x2, .long w3, .int x5]) (n := 9) (Nat.le_of_ble_eq_true rfl)
  rw [lg_entry_eq]
  generalize (lg_sl ([.ref r0, .int x1, .int x2, .long w3, .int x5]) ++ List.replicate (9 - (lg_sl ([.ref r0, .int x1, .int x2, .long w3, .int x5])).length) Slot.unset).toArray = ls at hv ⊢
  have hv : lv_has ls 9 [(0, .ref r0), (1, .int x1), (2, .int x2), (3, .long w3), (5, .int x5)] := hv
  exact b_M_extended_0 C hl _ _ _ _ _ _ hw _ _ _ _ _ hv F
/-! ChainJudgeModel.unknown(I)V: frames 2, words 30 -/
abbrev y_M_unknown : MethodName := ⟨"ChainJudgeModel", "unknown", "(I)V"⟩
def dl_M_unknown : List (Nat × Instr × Nat) := [(0, .aload_n 0, 1), (1, .iconst 4, 1), (2, .iload_n 1, 1), (3, .invokevirtual 305, 3), (6, .aload_n 0, 1), (7, .iload_n 1, 1), (8, .putfield 292, 3), (11, .aload_n 0, 1), (12, .iconst 2, 1), (13, .ldc2_w 342, 3), (16, .invokevirtual 300, 3), (19, .aload_n 0, 1), (20, .iconst 1, 1), (21, .ldc2_w 344, 3), (24, .invokevirtual 300, 3), (27, .aload_n 0, 1), (28, .bipush 8, 2), (30, .ldc2_w 346, 3), (33, .invokevirtual 300, 3), (36, .aload_n 0, 1), (37, .iconst 3, 1), (38, .ldc2_w 312, 3), (41, .invokevirtual 300, 3), (44, .aload_n 0, 1), (45, .iconst 4, 1), (46, .ldc2_w 348, 3), (49, .invokevirtual 300, 3), (52, .aload_n 0, 1), (53, .bipush 48, 2), (55, .iload_n 1, 1), (56, .invokevirtual 305, 3), (59, .return_, 1)]
theorem dk_M_unknown : fx_dec prog_15_method_48_code dl_M_unknown = true := by decide +kernel
theorem d_M_unknown_0 : decode prog_15_method_48_code 0 = .ok (.aload_n 0, 1) := fx_dat dk_M_unknown 0 rfl
theorem d_M_unknown_1 : decode prog_15_method_48_code 1 = .ok (.iconst 4, 1) := fx_dat dk_M_unknown 1 rfl
theorem d_M_unknown_2 : decode prog_15_method_48_code 2 = .ok (.iload_n 1, 1) := fx_dat dk_M_unknown 2 rfl
theorem d_M_unknown_3 : decode prog_15_method_48_code 3 = .ok (.invokevirtual 305, 3) := fx_dat dk_M_unknown 3 rfl
theorem d_M_unknown_6 : decode prog_15_method_48_code 6 = .ok (.aload_n 0, 1) := fx_dat dk_M_unknown 4 rfl
theorem d_M_unknown_7 : decode prog_15_method_48_code 7 = .ok (.iload_n 1, 1) := fx_dat dk_M_unknown 5 rfl
theorem d_M_unknown_8 : decode prog_15_method_48_code 8 = .ok (.putfield 292, 3) := fx_dat dk_M_unknown 6 rfl
theorem d_M_unknown_11 : decode prog_15_method_48_code 11 = .ok (.aload_n 0, 1) := fx_dat dk_M_unknown 7 rfl
theorem d_M_unknown_12 : decode prog_15_method_48_code 12 = .ok (.iconst 2, 1) := fx_dat dk_M_unknown 8 rfl
theorem d_M_unknown_13 : decode prog_15_method_48_code 13 = .ok (.ldc2_w 342, 3) := fx_dat dk_M_unknown 9 rfl
theorem d_M_unknown_16 : decode prog_15_method_48_code 16 = .ok (.invokevirtual 300, 3) := fx_dat dk_M_unknown 10 rfl
theorem d_M_unknown_19 : decode prog_15_method_48_code 19 = .ok (.aload_n 0, 1) := fx_dat dk_M_unknown 11 rfl
theorem d_M_unknown_20 : decode prog_15_method_48_code 20 = .ok (.iconst 1, 1) := fx_dat dk_M_unknown 12 rfl
theorem d_M_unknown_21 : decode prog_15_method_48_code 21 = .ok (.ldc2_w 344, 3) := fx_dat dk_M_unknown 13 rfl
theorem d_M_unknown_24 : decode prog_15_method_48_code 24 = .ok (.invokevirtual 300, 3) := fx_dat dk_M_unknown 14 rfl
theorem d_M_unknown_27 : decode prog_15_method_48_code 27 = .ok (.aload_n 0, 1) := fx_dat dk_M_unknown 15 rfl
theorem d_M_unknown_28 : decode prog_15_method_48_code 28 = .ok (.bipush 8, 2) := fx_dat dk_M_unknown 16 rfl
theorem d_M_unknown_30 : decode prog_15_method_48_code 30 = .ok (.ldc2_w 346, 3) := fx_dat dk_M_unknown 17 rfl
theorem d_M_unknown_33 : decode prog_15_method_48_code 33 = .ok (.invokevirtual 300, 3) := fx_dat dk_M_unknown 18 rfl
theorem d_M_unknown_36 : decode prog_15_method_48_code 36 = .ok (.aload_n 0, 1) := fx_dat dk_M_unknown 19 rfl
theorem d_M_unknown_37 : decode prog_15_method_48_code 37 = .ok (.iconst 3, 1) := fx_dat dk_M_unknown 20 rfl
theorem d_M_unknown_38 : decode prog_15_method_48_code 38 = .ok (.ldc2_w 312, 3) := fx_dat dk_M_unknown 21 rfl
theorem d_M_unknown_41 : decode prog_15_method_48_code 41 = .ok (.invokevirtual 300, 3) := fx_dat dk_M_unknown 22 rfl
theorem d_M_unknown_44 : decode prog_15_method_48_code 44 = .ok (.aload_n 0, 1) := fx_dat dk_M_unknown 23 rfl
theorem d_M_unknown_45 : decode prog_15_method_48_code 45 = .ok (.iconst 4, 1) := fx_dat dk_M_unknown 24 rfl
theorem d_M_unknown_46 : decode prog_15_method_48_code 46 = .ok (.ldc2_w 348, 3) := fx_dat dk_M_unknown 25 rfl
theorem d_M_unknown_49 : decode prog_15_method_48_code 49 = .ok (.invokevirtual 300, 3) := fx_dat dk_M_unknown 26 rfl
theorem d_M_unknown_52 : decode prog_15_method_48_code 52 = .ok (.aload_n 0, 1) := fx_dat dk_M_unknown 27 rfl
theorem d_M_unknown_53 : decode prog_15_method_48_code 53 = .ok (.bipush 48, 2) := fx_dat dk_M_unknown 28 rfl
theorem d_M_unknown_55 : decode prog_15_method_48_code 55 = .ok (.iload_n 1, 1) := fx_dat dk_M_unknown 29 rfl
theorem d_M_unknown_56 : decode prog_15_method_48_code 56 = .ok (.invokevirtual 305, 3) := fx_dat dk_M_unknown 30 rfl
theorem d_M_unknown_59 : decode prog_15_method_48_code 59 = .ok (.return_, 1) := fx_dat dk_M_unknown 31 rfl
def m_M_unknown (Q : AH → Prop) (r0 : Nat) (x1 : Int32) (h : AH) : Prop := hp_k h r0 = 13 ∧ m_M_wrap (fun h1 => fx_ext h h1 → ∀ h2 : AH, h2 = up_I h1 r0 47 x1 → m_M_put_IJ (fun h3 => fx_ext h2 h3 → m_M_put_IJ (fun h4 => fx_ext h3 h4 → m_M_put_IJ (fun h5 => fx_ext h4 h5 → m_M_put_IJ (fun h6 => fx_ext h5 h6 → m_M_put_IJ (fun h7 => fx_ext h6 h7 → m_M_wrap (fun h8 => fx_ext h7 h8 → Q h8) r0 (48 : Int32) x1 h7) r0 (4 : Int32) (67241216 : Int64) h6) r0 (3 : Int32) (66047 : Int64) h5) r0 (8 : Int32) (432631443803152129 : Int64) h4) r0 (1 : Int32) (43 : Int64) h3) r0 (2 : Int32) (1545 : Int64) h2) r0 (4 : Int32) x1 h
theorem b_M_unknown_0 {p : Program} {l : Launch} {e : Env} {R : Room} {s : State} {m : MethodId} {args : Array Value} {below : List Frame} {meth : Method} {c : Code} {D : DD} {h0 : AH} {Q : AH → Prop} (C : fx_CX D y_M_unknown prog_15_method_48_code 2 2 30 (none) [] h0 p R s m meth c) (hl : l.flags = flags0) (r0 : Nat) (x1 : Int32) (h : AH) (hw : m_M_unknown Q r0 x1 h) : ∀ (ls : Array Slot) (H : Heap) (locs : List Loc) (cells slots : Nat), lv_has ls 2 [(0, .ref r0), (1, .int x1)] → fx_F D h0 h H locs cells slots → W p l e R s m args below meth c H locs cells slots (fx_Z D below s h0 (fx_oV Q fx_no)) (F0 m 0 ls []) := by
  unfold m_M_unknown at hw
  intro ls H locs cells slots hv F
  refine lv_aload_n C.ex C.by d_M_unknown_0 rfl (lv_at hv 0 rfl) ?_
  refine lv_iconst (v := (4 : Int32)) C.ex C.by d_M_unknown_1 (by decide) ?_
  refine lv_iload_n C.ex C.by d_M_unknown_2 rfl (lv_at hv 1 rfl) ?_
  obtain ⟨hk1, hw⟩ := hw
  refine fx_callV C F (c_M_wrap hl hw) hm_M_wrap hi_M_wrap hv.1 (by decide) (Nat.le_of_ble_eq_true rfl) (iv_M_wrap C F lm_M_305 hk1 d_M_unknown_3) (fx_out0 _) fx_eno (fun h1 H locs cells slots hw hx1 F => ?_)
  replace hw := hw hx1
  have hk1 := (hx1).k hk1
  refine lv_aload_n C.ex C.by d_M_unknown_6 rfl (lv_at hv 0 rfl) ?_
  refine lv_iload_n C.ex C.by d_M_unknown_7 rfl (lv_at hv 1 rfl) ?_
  let h2 : AH := up_I h1 r0 47 x1
  replace hw := hw h2 rfl
  refine fx_putI C F lf_M_292 hk1 rfl rfl (fx_mayF.no rfl rfl) d_M_unknown_8 (fun H locs (F : fx_F D h0 h2 H locs _ _) => ?_)
  refine lv_aload_n C.ex C.by d_M_unknown_11 rfl (lv_at hv 0 rfl) ?_
  refine lv_iconst (v := (2 : Int32)) C.ex C.by d_M_unknown_12 (by decide) ?_
  refine lv_ldc2 (v := (1545 : Int64)) C.ex C.by C.ow (C.tw.at (fx_m7 (List.mem_of_getElem? (i := 122) rfl)) rfl rfl) d_M_unknown_13 ?_
  refine fx_callV C F (c_M_put_IJ hl hw) hm_M_put_IJ hi_M_put_IJ hv.1 (by decide) (Nat.le_of_ble_eq_true rfl) (iv_M_put_IJ C F lm_M_300 hk1 d_M_unknown_16) (fx_out0 _) fx_eno (fun h3 H locs cells slots hw hx2 F => ?_)
  replace hw := hw hx2
  have hk1 := (hx2).k hk1
  refine lv_aload_n C.ex C.by d_M_unknown_19 rfl (lv_at hv 0 rfl) ?_
  refine lv_iconst (v := (1 : Int32)) C.ex C.by d_M_unknown_20 (by decide) ?_
  refine lv_ldc2 (v := (43 : Int64)) C.ex C.by C.ow (C.tw.at (fx_m7 (List.mem_of_getElem? (i := 123) rfl)) rfl rfl) d_M_unknown_21 ?_
  refine fx_callV C F (c_M_put_IJ hl hw) hm_M_put_IJ hi_M_put_IJ hv.1 (by decide) (Nat.le_of_ble_eq_true rfl) (iv_M_put_IJ C F lm_M_300 hk1 d_M_unknown_24) (fx_out0 _) fx_eno (fun h4 H locs cells slots hw hx3 F => ?_)
  replace hw := hw hx3
  have hk1 := (hx3).k hk1
  refine lv_aload_n C.ex C.by d_M_unknown_27 rfl (lv_at hv 0 rfl) ?_
  refine lv_bipush (v := (8 : Int32)) C.ex C.by d_M_unknown_28 (by decide) ?_
  refine lv_ldc2 (v := (432631443803152129 : Int64)) C.ex C.by C.ow (C.tw.at (fx_m7 (List.mem_of_getElem? (i := 124) rfl)) rfl rfl) d_M_unknown_30 ?_
  refine fx_callV C F (c_M_put_IJ hl hw) hm_M_put_IJ hi_M_put_IJ hv.1 (by decide) (Nat.le_of_ble_eq_true rfl) (iv_M_put_IJ C F lm_M_300 hk1 d_M_unknown_33) (fx_out0 _) fx_eno (fun h5 H locs cells slots hw hx4 F => ?_)
  replace hw := hw hx4
  have hk1 := (hx4).k hk1
  refine lv_aload_n C.ex C.by d_M_unknown_36 rfl (lv_at hv 0 rfl) ?_
  refine lv_iconst (v := (3 : Int32)) C.ex C.by d_M_unknown_37 (by decide) ?_
  refine lv_ldc2 (v := (66047 : Int64)) C.ex C.by C.ow (C.tw.at (fx_m7 (List.mem_of_getElem? (i := 104) rfl)) rfl rfl) d_M_unknown_38 ?_
  refine fx_callV C F (c_M_put_IJ hl hw) hm_M_put_IJ hi_M_put_IJ hv.1 (by decide) (Nat.le_of_ble_eq_true rfl) (iv_M_put_IJ C F lm_M_300 hk1 d_M_unknown_41) (fx_out0 _) fx_eno (fun h6 H locs cells slots hw hx5 F => ?_)
  replace hw := hw hx5
  have hk1 := (hx5).k hk1
  refine lv_aload_n C.ex C.by d_M_unknown_44 rfl (lv_at hv 0 rfl) ?_
  refine lv_iconst (v := (4 : Int32)) C.ex C.by d_M_unknown_45 (by decide) ?_
  refine lv_ldc2 (v := (67241216 : Int64)) C.ex C.by C.ow (C.tw.at (fx_m7 (List.mem_of_getElem? (i := 125) rfl)) rfl rfl) d_M_unknown_46 ?_
  refine fx_callV C F (c_M_put_IJ hl hw) hm_M_put_IJ hi_M_put_IJ hv.1 (by decide) (Nat.le_of_ble_eq_true rfl) (iv_M_put_IJ C F lm_M_300 hk1 d_M_unknown_49) (fx_out0 _) fx_eno (fun h7 H locs cells slots hw hx6 F => ?_)
  replace hw := hw hx6
  have hk1 := (hx6).k hk1
  refine lv_aload_n C.ex C.by d_M_unknown_52 rfl (lv_at hv 0 rfl) ?_
  refine lv_bipush (v := (48 : Int32)) C.ex C.by d_M_unknown_53 (by decide) ?_
  refine lv_iload_n C.ex C.by d_M_unknown_55 rfl (lv_at hv 1 rfl) ?_
  refine fx_callV C F (c_M_wrap hl hw) hm_M_wrap hi_M_wrap hv.1 (by decide) (Nat.le_of_ble_eq_true rfl) (iv_M_wrap C F lm_M_305 hk1 d_M_unknown_56) (fx_out0 _) fx_eno (fun h8 H locs cells slots hw hx7 F => ?_)
  replace hw := hw hx7
  have hk1 := (hx7).k hk1
  exact fx_vret C F d_M_unknown_59 (Or.inl ⟨rfl, hw⟩)
theorem hm_M_unknown : fx_hd y_M_unknown prog_15_method_48_code 2 (none) [] ∈ tables_1 := (fx_m7 (List.mem_of_getElem? (i := 121) rfl))
theorem hi_M_unknown : Cond.initialized y_M_unknown.cls ∈ tables_1 := (fx_m1 (List.mem_of_getElem? (i := 15) rfl))
theorem c_M_unknown {l : Launch} (hl : l.flags = flags0) {D : DD} {Q : AH → Prop} {r0 : Nat} {x1 : Int32} {h : AH} (hw : m_M_unknown Q r0 x1 h) : fx_Mt l D y_M_unknown (fx_hd y_M_unknown prog_15_method_48_code 2 (none) []) 2 30 [.ref r0, .int x1] h (fx_oV Q fx_no) := by
  refine fx_ofW (plainFor_of_name (by decide)) (fun p e s m below meth c C F => ?_)
  have hv := lv_entry ([.ref r0, .int x1]) (n := 2) (Nat.le_of_ble_eq_true rfl)
  rw [lg_entry_eq]
  generalize (lg_sl ([.ref r0, .int x1]) ++ List.replicate (2 - (lg_sl ([.ref r0, .int x1])).length) Slot.unset).toArray = ls at hv ⊢
  have hv : lv_has ls 2 [(0, .ref r0), (1, .int x1)] := hv
  exact b_M_unknown_0 C hl _ _ _ hw _ _ _ _ _ hv F
