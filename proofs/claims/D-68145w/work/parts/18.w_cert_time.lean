set_option maxRecDepth 10000
/-! ChainJudge$Certificate.time(I)J: frames 8, words 108, throws -/
abbrev y_Cert_time : MethodName := ⟨"ChainJudge$Certificate", "time", "(I)J"⟩
theorem lm_Cert_161 : Cond.methodLink "ChainJudge$Certificate" 161 y_Cert_digits ∈ tables_1 ∨ ∃ host, Cond.methodLinkNest "ChainJudge$Certificate" 161 y_Cert_digits host ∈ tables_1 := Or.inl (fx_m3 (List.mem_of_getElem? (i := 189) rfl))
theorem lm_Cert_164 : Cond.methodLink "ChainJudge$Certificate" 164 y_J_monthDays ∈ tables_1 ∨ ∃ host, Cond.methodLinkNest "ChainJudge$Certificate" 164 y_J_monthDays host ∈ tables_1 := Or.inr ⟨_, (fx_m3 (List.mem_of_getElem? (i := 193) rfl))⟩
theorem lm_Cert_169 : Cond.methodLink "ChainJudge$Certificate" 169 y_J_days ∈ tables_1 ∨ ∃ host, Cond.methodLinkNest "ChainJudge$Certificate" 169 y_J_days host ∈ tables_1 := Or.inr ⟨_, (fx_m3 (List.mem_of_getElem? (i := 196) rfl))⟩
section
variable {p : Program} {l : Launch} {e : Env} {R : Room} {s : State} {m : MethodId} {args : Array Value} {below : List Frame} {meth : Method} {c : Code} {H : Heap} {locs : List Loc} {cells slots : Nat}
variable {D : DD} {y : MethodName} {cc : ByteArray} {nL kf kw : Nat} {ret : Option FieldType} {hh : List (Nat × Nat × Nat × Nat)} {h0 h : AH} {pc : Nat} {ls : Array Slot} {rest : List Value} {b idx : Nat}
theorem iv_J_days {x0 : Int32} {x1 : Int32} {x2 : Int32} (C : fx_CX D y cc nL kf kw ret hh h0 p R s m meth c) (F : fx_F D h0 h H locs cells slots) (hw1 : Cond.methodLink y.cls idx y_J_days ∈ tables_1 ∨ ∃ host, Cond.methodLinkNest y.cls idx y_J_days host ∈ tables_1) (hd : decode cc pc = .ok (.invokestatic idx, 3)) : fx_IV p l e R s m args below meth c H locs cells slots (F0 m pc ls (.int x2 :: .int x1 :: .int x0 :: rest)) rest y_J_days [.int x0, .int x1, .int x2] 3 := fun T hT X => fx_invS (As := [.int x0, .int x1, .int x2]) C X hw1 (fx_m3 (List.mem_of_getElem? (i := 197) rfl)) hi_J_days hm_J_days ⟨by decide, by decide⟩ rfl (n := 3) (by decide +kernel) rfl rfl hd
theorem iv_J_monthDays {x0 : Int32} {x1 : Int32} (C : fx_CX D y cc nL kf kw ret hh h0 p R s m meth c) (F : fx_F D h0 h H locs cells slots) (hw1 : Cond.methodLink y.cls idx y_J_monthDays ∈ tables_1 ∨ ∃ host, Cond.methodLinkNest y.cls idx y_J_monthDays host ∈ tables_1) (hd : decode cc pc = .ok (.invokestatic idx, 3)) : fx_IV p l e R s m args below meth c H locs cells slots (F0 m pc ls (.int x1 :: .int x0 :: rest)) rest y_J_monthDays [.int x0, .int x1] 3 := fun T hT X => fx_invS (As := [.int x0, .int x1]) C X hw1 (fx_m3 (List.mem_of_getElem? (i := 194) rfl)) hi_J_monthDays hm_J_monthDays ⟨by decide, by decide⟩ rfl (n := 2) (by decide +kernel) rfl rfl hd
theorem iv_Cert_digits {x1 : Int32} {x2 : Int32} (C : fx_CX D y cc nL kf kw ret hh h0 p R s m meth c) (F : fx_F D h0 h H locs cells slots) (hw1 : Cond.methodLink y.cls idx y_Cert_digits ∈ tables_1 ∨ ∃ host, Cond.methodLinkNest y.cls idx y_Cert_digits host ∈ tables_1) (hk : hp_k h b = 8) (hd : decode cc pc = .ok (.invokevirtual idx, 3)) : fx_IV p l e R s m args below meth c H locs cells slots (F0 m pc ls (.int x2 :: .int x1 :: .ref b :: rest)) rest y_Cert_digits [.ref b, .int x1, .int x2] 3 := fun T hT X => fx_invV (As := [.int x1, .int x2]) (Cn := "ChainJudge$Certificate") C X hw1 (fx_m3 (List.mem_of_getElem? (i := 191) rfl)) (fx_selP C ⟨by decide, by decide⟩ (fx_m1 (List.mem_of_getElem? (i := 197) rfl)) (fx_m3 (List.mem_of_getElem? (i := 190) rfl)) (fx_m3 (List.mem_of_getElem? (i := 191) rfl))) hm_Cert_digits ⟨by decide, by decide⟩ (by rw [hT]; exact fx_clsO (ci := 7) (r := ("ChainJudge$Certificate", fx_T7, 29)) C F rfl (by decide) hk) rfl (n := 2) (by decide +kernel) rfl rfl hd
end
def dl_Cert_time : List (Nat × Instr × Nat) := [(0, .aload_n 0, 1), (1, .getfield 10, 3), (4, .iload_n 1, 1), (5, .invokevirtual 155, 3), (8, .bipush 24, 2), (10, .if_icmp .ne 7, 3), (13, .iconst 1, 1), (14, .goto 4, 3), (17, .iconst 0, 1), (18, .istore_n 2, 1), (19, .aload_n 0, 1), (20, .getfield 10, 3), (23, .iload_n 2, 1), (24, .ifCond .eq 8, 3), (27, .bipush 24, 2), (29, .goto 5, 3), (32, .bipush 23, 2), (34, .iload_n 1, 1), (35, .invokevirtual 115, 3), (38, .istore_n 3, 1), (39, .iload_n 3, 1), (40, .aload_n 0, 1), (41, .getfield 10, 3), (44, .getfield 106, 3), (47, .isub, 1), (48, .iload_n 2, 1), (49, .ifCond .eq 8, 3), (52, .bipush 15, 2), (54, .goto 5, 3), (57, .bipush 13, 2), (59, .if_icmp .ne 16, 3), (62, .aload_n 0, 1), (63, .getfield 16, 3), (66, .iload_n 3, 1), (67, .iconst 1, 1), (68, .isub, 1), (69, .baload, 1), (70, .bipush 90, 2), (72, .if_icmp .eq 7, 3), (75, .invokestatic 128, 3), (78, .athrow, 1), (79, .iload_n 3, 1), (80, .bipush 11, 2), (82, .isub, 1), (83, .istore 4, 2), (85, .iload_n 2, 1), (86, .ifCond .eq 18, 3), (89, .aload_n 0, 1), (90, .aload_n 0, 1), (91, .getfield 10, 3), (94, .getfield 106, 3), (97, .iconst 4, 1), (98, .invokevirtual 161, 3), (101, .goto 15, 3), (104, .aload_n 0, 1), (105, .aload_n 0, 1), (106, .getfield 10, 3), (109, .getfield 106, 3), (112, .iconst 2, 1), (113, .invokevirtual 161, 3), (116, .istore 5, 2), (118, .iload_n 2, 1), (119, .ifCond .eq 15, 3), (122, .iload 5, 2), (124, .sipush 2050, 3), (127, .if_icmp .ge 7, 3), (130, .invokestatic 128, 3), (133, .athrow, 1), (134, .iload_n 2, 1), (135, .ifCond .ne 24, 3), (138, .iload 5, 2), (140, .iload 5, 2), (142, .bipush 50, 2), (144, .if_icmp .ge 9, 3), (147, .sipush 2000, 3), (150, .goto 6, 3), (153, .sipush 1900, 3), (156, .iadd, 1), (157, .istore 5, 2), (159, .aload_n 0, 1), (160, .iload 4, 2), (162, .iconst 2, 1), (163, .invokevirtual 161, 3), (166, .istore 6, 2), (168, .aload_n 0, 1), (169, .iload 4, 2), (171, .iconst 2, 1), (172, .iadd, 1), (173, .iconst 2, 1), (174, .invokevirtual 161, 3), (177, .istore 7, 2), (179, .aload_n 0, 1), (180, .iload 4, 2), (182, .iconst 4, 1), (183, .iadd, 1), (184, .iconst 2, 1), (185, .invokevirtual 161, 3), (188, .istore 8, 2), (190, .aload_n 0, 1), (191, .iload 4, 2), (193, .bipush 6, 2), (195, .iadd, 1), (196, .iconst 2, 1), (197, .invokevirtual 161, 3), (200, .istore 9, 2), (202, .aload_n 0, 1), (203, .iload 4, 2), (205, .bipush 8, 2), (207, .iadd, 1), (208, .iconst 2, 1), (209, .invokevirtual 161, 3), (212, .istore 10, 2), (214, .iload 6, 2), (216, .iconst 1, 1), (217, .if_icmp .lt 49, 3), (220, .iload 6, 2), (222, .bipush 12, 2), (224, .if_icmp .gt 42, 3), (227, .iload 7, 2), (229, .iconst 1, 1), (230, .if_icmp .lt 36, 3), (233, .iload 7, 2), (235, .iload 5, 2), (237, .iload 6, 2), (239, .invokestatic 164, 3), (242, .if_icmp .gt 24, 3), (245, .iload 8, 2), (247, .bipush 23, 2), (249, .if_icmp .gt 17, 3), (252, .iload 9, 2), (254, .bipush 59, 2), (256, .if_icmp .gt 10, 3), (259, .iload 10, 2), (261, .bipush 59, 2), (263, .if_icmp .le 7, 3), (266, .invokestatic 128, 3), (269, .athrow, 1), (270, .aload_n 0, 1), (271, .getfield 10, 3), (274, .iload_n 3, 1), (275, .putfield 106, 3), (278, .iload 5, 2), (280, .iload 6, 2), (282, .iload 7, 2), (284, .invokestatic 169, 3), (287, .ldc2_w 173, 3), (290, .lmul, 1), (291, .iload 8, 2), (293, .i2l, 1), (294, .ladd, 1), (295, .ldc2_w 175, 3), (298, .lmul, 1), (299, .iload 9, 2), (301, .i2l, 1), (302, .ladd, 1), (303, .ldc2_w 175, 3), (306, .lmul, 1), (307, .iload 10, 2), (309, .i2l, 1), (310, .ladd, 1), (311, .lreturn, 1)]
theorem dk_Cert_time : fx_dec prog_2_method_7_code dl_Cert_time = true := by decide +kernel
theorem d_Cert_time_0 : decode prog_2_method_7_code 0 = .ok (.aload_n 0, 1) := fx_dat dk_Cert_time 0 rfl
theorem d_Cert_time_1 : decode prog_2_method_7_code 1 = .ok (.getfield 10, 3) := fx_dat dk_Cert_time 1 rfl
theorem d_Cert_time_4 : decode prog_2_method_7_code 4 = .ok (.iload_n 1, 1) := fx_dat dk_Cert_time 2 rfl
theorem d_Cert_time_5 : decode prog_2_method_7_code 5 = .ok (.invokevirtual 155, 3) := fx_dat dk_Cert_time 3 rfl
theorem d_Cert_time_8 : decode prog_2_method_7_code 8 = .ok (.bipush 24, 2) := fx_dat dk_Cert_time 4 rfl
theorem d_Cert_time_10 : decode prog_2_method_7_code 10 = .ok (.if_icmp .ne 7, 3) := fx_dat dk_Cert_time 5 rfl
theorem d_Cert_time_13 : decode prog_2_method_7_code 13 = .ok (.iconst 1, 1) := fx_dat dk_Cert_time 6 rfl
theorem d_Cert_time_14 : decode prog_2_method_7_code 14 = .ok (.goto 4, 3) := fx_dat dk_Cert_time 7 rfl
theorem d_Cert_time_17 : decode prog_2_method_7_code 17 = .ok (.iconst 0, 1) := fx_dat dk_Cert_time 8 rfl
theorem d_Cert_time_18 : decode prog_2_method_7_code 18 = .ok (.istore_n 2, 1) := fx_dat dk_Cert_time 9 rfl
theorem d_Cert_time_19 : decode prog_2_method_7_code 19 = .ok (.aload_n 0, 1) := fx_dat dk_Cert_time 10 rfl
theorem d_Cert_time_20 : decode prog_2_method_7_code 20 = .ok (.getfield 10, 3) := fx_dat dk_Cert_time 11 rfl
theorem d_Cert_time_23 : decode prog_2_method_7_code 23 = .ok (.iload_n 2, 1) := fx_dat dk_Cert_time 12 rfl
theorem d_Cert_time_24 : decode prog_2_method_7_code 24 = .ok (.ifCond .eq 8, 3) := fx_dat dk_Cert_time 13 rfl
theorem d_Cert_time_27 : decode prog_2_method_7_code 27 = .ok (.bipush 24, 2) := fx_dat dk_Cert_time 14 rfl
theorem d_Cert_time_29 : decode prog_2_method_7_code 29 = .ok (.goto 5, 3) := fx_dat dk_Cert_time 15 rfl
theorem d_Cert_time_32 : decode prog_2_method_7_code 32 = .ok (.bipush 23, 2) := fx_dat dk_Cert_time 16 rfl
theorem d_Cert_time_34 : decode prog_2_method_7_code 34 = .ok (.iload_n 1, 1) := fx_dat dk_Cert_time 17 rfl
theorem d_Cert_time_35 : decode prog_2_method_7_code 35 = .ok (.invokevirtual 115, 3) := fx_dat dk_Cert_time 18 rfl
theorem d_Cert_time_38 : decode prog_2_method_7_code 38 = .ok (.istore_n 3, 1) := fx_dat dk_Cert_time 19 rfl
theorem d_Cert_time_39 : decode prog_2_method_7_code 39 = .ok (.iload_n 3, 1) := fx_dat dk_Cert_time 20 rfl
theorem d_Cert_time_40 : decode prog_2_method_7_code 40 = .ok (.aload_n 0, 1) := fx_dat dk_Cert_time 21 rfl
theorem d_Cert_time_41 : decode prog_2_method_7_code 41 = .ok (.getfield 10, 3) := fx_dat dk_Cert_time 22 rfl
theorem d_Cert_time_44 : decode prog_2_method_7_code 44 = .ok (.getfield 106, 3) := fx_dat dk_Cert_time 23 rfl
theorem d_Cert_time_47 : decode prog_2_method_7_code 47 = .ok (.isub, 1) := fx_dat dk_Cert_time 24 rfl
theorem d_Cert_time_48 : decode prog_2_method_7_code 48 = .ok (.iload_n 2, 1) := fx_dat dk_Cert_time 25 rfl
theorem d_Cert_time_49 : decode prog_2_method_7_code 49 = .ok (.ifCond .eq 8, 3) := fx_dat dk_Cert_time 26 rfl
theorem d_Cert_time_52 : decode prog_2_method_7_code 52 = .ok (.bipush 15, 2) := fx_dat dk_Cert_time 27 rfl
theorem d_Cert_time_54 : decode prog_2_method_7_code 54 = .ok (.goto 5, 3) := fx_dat dk_Cert_time 28 rfl
theorem d_Cert_time_57 : decode prog_2_method_7_code 57 = .ok (.bipush 13, 2) := fx_dat dk_Cert_time 29 rfl
theorem d_Cert_time_59 : decode prog_2_method_7_code 59 = .ok (.if_icmp .ne 16, 3) := fx_dat dk_Cert_time 30 rfl
theorem d_Cert_time_62 : decode prog_2_method_7_code 62 = .ok (.aload_n 0, 1) := fx_dat dk_Cert_time 31 rfl
theorem d_Cert_time_63 : decode prog_2_method_7_code 63 = .ok (.getfield 16, 3) := fx_dat dk_Cert_time 32 rfl
theorem d_Cert_time_66 : decode prog_2_method_7_code 66 = .ok (.iload_n 3, 1) := fx_dat dk_Cert_time 33 rfl
theorem d_Cert_time_67 : decode prog_2_method_7_code 67 = .ok (.iconst 1, 1) := fx_dat dk_Cert_time 34 rfl
theorem d_Cert_time_68 : decode prog_2_method_7_code 68 = .ok (.isub, 1) := fx_dat dk_Cert_time 35 rfl
theorem d_Cert_time_69 : decode prog_2_method_7_code 69 = .ok (.baload, 1) := fx_dat dk_Cert_time 36 rfl
theorem d_Cert_time_70 : decode prog_2_method_7_code 70 = .ok (.bipush 90, 2) := fx_dat dk_Cert_time 37 rfl
theorem d_Cert_time_72 : decode prog_2_method_7_code 72 = .ok (.if_icmp .eq 7, 3) := fx_dat dk_Cert_time 38 rfl
theorem d_Cert_time_75 : decode prog_2_method_7_code 75 = .ok (.invokestatic 128, 3) := fx_dat dk_Cert_time 39 rfl
theorem d_Cert_time_78 : decode prog_2_method_7_code 78 = .ok (.athrow, 1) := fx_dat dk_Cert_time 40 rfl
theorem d_Cert_time_79 : decode prog_2_method_7_code 79 = .ok (.iload_n 3, 1) := fx_dat dk_Cert_time 41 rfl
theorem d_Cert_time_80 : decode prog_2_method_7_code 80 = .ok (.bipush 11, 2) := fx_dat dk_Cert_time 42 rfl
theorem d_Cert_time_82 : decode prog_2_method_7_code 82 = .ok (.isub, 1) := fx_dat dk_Cert_time 43 rfl
theorem d_Cert_time_83 : decode prog_2_method_7_code 83 = .ok (.istore 4, 2) := fx_dat dk_Cert_time 44 rfl
theorem d_Cert_time_85 : decode prog_2_method_7_code 85 = .ok (.iload_n 2, 1) := fx_dat dk_Cert_time 45 rfl
theorem d_Cert_time_86 : decode prog_2_method_7_code 86 = .ok (.ifCond .eq 18, 3) := fx_dat dk_Cert_time 46 rfl
theorem d_Cert_time_89 : decode prog_2_method_7_code 89 = .ok (.aload_n 0, 1) := fx_dat dk_Cert_time 47 rfl
theorem d_Cert_time_90 : decode prog_2_method_7_code 90 = .ok (.aload_n 0, 1) := fx_dat dk_Cert_time 48 rfl
theorem d_Cert_time_91 : decode prog_2_method_7_code 91 = .ok (.getfield 10, 3) := fx_dat dk_Cert_time 49 rfl
theorem d_Cert_time_94 : decode prog_2_method_7_code 94 = .ok (.getfield 106, 3) := fx_dat dk_Cert_time 50 rfl
theorem d_Cert_time_97 : decode prog_2_method_7_code 97 = .ok (.iconst 4, 1) := fx_dat dk_Cert_time 51 rfl
theorem d_Cert_time_98 : decode prog_2_method_7_code 98 = .ok (.invokevirtual 161, 3) := fx_dat dk_Cert_time 52 rfl
theorem d_Cert_time_101 : decode prog_2_method_7_code 101 = .ok (.goto 15, 3) := fx_dat dk_Cert_time 53 rfl
theorem d_Cert_time_104 : decode prog_2_method_7_code 104 = .ok (.aload_n 0, 1) := fx_dat dk_Cert_time 54 rfl
theorem d_Cert_time_105 : decode prog_2_method_7_code 105 = .ok (.aload_n 0, 1) := fx_dat dk_Cert_time 55 rfl
theorem d_Cert_time_106 : decode prog_2_method_7_code 106 = .ok (.getfield 10, 3) := fx_dat dk_Cert_time 56 rfl
theorem d_Cert_time_109 : decode prog_2_method_7_code 109 = .ok (.getfield 106, 3) := fx_dat dk_Cert_time 57 rfl
theorem d_Cert_time_112 : decode prog_2_method_7_code 112 = .ok (.iconst 2, 1) := fx_dat dk_Cert_time 58 rfl
theorem d_Cert_time_113 : decode prog_2_method_7_code 113 = .ok (.invokevirtual 161, 3) := fx_dat dk_Cert_time 59 rfl
theorem d_Cert_time_116 : decode prog_2_method_7_code 116 = .ok (.istore 5, 2) := fx_dat dk_Cert_time 60 rfl
theorem d_Cert_time_118 : decode prog_2_method_7_code 118 = .ok (.iload_n 2, 1) := fx_dat dk_Cert_time 61 rfl
theorem d_Cert_time_119 : decode prog_2_method_7_code 119 = .ok (.ifCond .eq 15, 3) := fx_dat dk_Cert_time 62 rfl
theorem d_Cert_time_122 : decode prog_2_method_7_code 122 = .ok (.iload 5, 2) := fx_dat dk_Cert_time 63 rfl
theorem d_Cert_time_124 : decode prog_2_method_7_code 124 = .ok (.sipush 2050, 3) := fx_dat dk_Cert_time 64 rfl
theorem d_Cert_time_127 : decode prog_2_method_7_code 127 = .ok (.if_icmp .ge 7, 3) := fx_dat dk_Cert_time 65 rfl
theorem d_Cert_time_130 : decode prog_2_method_7_code 130 = .ok (.invokestatic 128, 3) := fx_dat dk_Cert_time 66 rfl
theorem d_Cert_time_133 : decode prog_2_method_7_code 133 = .ok (.athrow, 1) := fx_dat dk_Cert_time 67 rfl
theorem d_Cert_time_134 : decode prog_2_method_7_code 134 = .ok (.iload_n 2, 1) := fx_dat dk_Cert_time 68 rfl
theorem d_Cert_time_135 : decode prog_2_method_7_code 135 = .ok (.ifCond .ne 24, 3) := fx_dat dk_Cert_time 69 rfl
theorem d_Cert_time_138 : decode prog_2_method_7_code 138 = .ok (.iload 5, 2) := fx_dat dk_Cert_time 70 rfl
theorem d_Cert_time_140 : decode prog_2_method_7_code 140 = .ok (.iload 5, 2) := fx_dat dk_Cert_time 71 rfl
theorem d_Cert_time_142 : decode prog_2_method_7_code 142 = .ok (.bipush 50, 2) := fx_dat dk_Cert_time 72 rfl
theorem d_Cert_time_144 : decode prog_2_method_7_code 144 = .ok (.if_icmp .ge 9, 3) := fx_dat dk_Cert_time 73 rfl
theorem d_Cert_time_147 : decode prog_2_method_7_code 147 = .ok (.sipush 2000, 3) := fx_dat dk_Cert_time 74 rfl
theorem d_Cert_time_150 : decode prog_2_method_7_code 150 = .ok (.goto 6, 3) := fx_dat dk_Cert_time 75 rfl
theorem d_Cert_time_153 : decode prog_2_method_7_code 153 = .ok (.sipush 1900, 3) := fx_dat dk_Cert_time 76 rfl
theorem d_Cert_time_156 : decode prog_2_method_7_code 156 = .ok (.iadd, 1) := fx_dat dk_Cert_time 77 rfl
theorem d_Cert_time_157 : decode prog_2_method_7_code 157 = .ok (.istore 5, 2) := fx_dat dk_Cert_time 78 rfl
theorem d_Cert_time_159 : decode prog_2_method_7_code 159 = .ok (.aload_n 0, 1) := fx_dat dk_Cert_time 79 rfl
theorem d_Cert_time_160 : decode prog_2_method_7_code 160 = .ok (.iload 4, 2) := fx_dat dk_Cert_time 80 rfl
theorem d_Cert_time_162 : decode prog_2_method_7_code 162 = .ok (.iconst 2, 1) := fx_dat dk_Cert_time 81 rfl
theorem d_Cert_time_163 : decode prog_2_method_7_code 163 = .ok (.invokevirtual 161, 3) := fx_dat dk_Cert_time 82 rfl
theorem d_Cert_time_166 : decode prog_2_method_7_code 166 = .ok (.istore 6, 2) := fx_dat dk_Cert_time 83 rfl
theorem d_Cert_time_168 : decode prog_2_method_7_code 168 = .ok (.aload_n 0, 1) := fx_dat dk_Cert_time 84 rfl
theorem d_Cert_time_169 : decode prog_2_method_7_code 169 = .ok (.iload 4, 2) := fx_dat dk_Cert_time 85 rfl
theorem d_Cert_time_171 : decode prog_2_method_7_code 171 = .ok (.iconst 2, 1) := fx_dat dk_Cert_time 86 rfl
theorem d_Cert_time_172 : decode prog_2_method_7_code 172 = .ok (.iadd, 1) := fx_dat dk_Cert_time 87 rfl
theorem d_Cert_time_173 : decode prog_2_method_7_code 173 = .ok (.iconst 2, 1) := fx_dat dk_Cert_time 88 rfl
theorem d_Cert_time_174 : decode prog_2_method_7_code 174 = .ok (.invokevirtual 161, 3) := fx_dat dk_Cert_time 89 rfl
theorem d_Cert_time_177 : decode prog_2_method_7_code 177 = .ok (.istore 7, 2) := fx_dat dk_Cert_time 90 rfl
theorem d_Cert_time_179 : decode prog_2_method_7_code 179 = .ok (.aload_n 0, 1) := fx_dat dk_Cert_time 91 rfl
theorem d_Cert_time_180 : decode prog_2_method_7_code 180 = .ok (.iload 4, 2) := fx_dat dk_Cert_time 92 rfl
theorem d_Cert_time_182 : decode prog_2_method_7_code 182 = .ok (.iconst 4, 1) := fx_dat dk_Cert_time 93 rfl
theorem d_Cert_time_183 : decode prog_2_method_7_code 183 = .ok (.iadd, 1) := fx_dat dk_Cert_time 94 rfl
theorem d_Cert_time_184 : decode prog_2_method_7_code 184 = .ok (.iconst 2, 1) := fx_dat dk_Cert_time 95 rfl
theorem d_Cert_time_185 : decode prog_2_method_7_code 185 = .ok (.invokevirtual 161, 3) := fx_dat dk_Cert_time 96 rfl
theorem d_Cert_time_188 : decode prog_2_method_7_code 188 = .ok (.istore 8, 2) := fx_dat dk_Cert_time 97 rfl
theorem d_Cert_time_190 : decode prog_2_method_7_code 190 = .ok (.aload_n 0, 1) := fx_dat dk_Cert_time 98 rfl
theorem d_Cert_time_191 : decode prog_2_method_7_code 191 = .ok (.iload 4, 2) := fx_dat dk_Cert_time 99 rfl
theorem d_Cert_time_193 : decode prog_2_method_7_code 193 = .ok (.bipush 6, 2) := fx_dat dk_Cert_time 100 rfl
theorem d_Cert_time_195 : decode prog_2_method_7_code 195 = .ok (.iadd, 1) := fx_dat dk_Cert_time 101 rfl
theorem d_Cert_time_196 : decode prog_2_method_7_code 196 = .ok (.iconst 2, 1) := fx_dat dk_Cert_time 102 rfl
theorem d_Cert_time_197 : decode prog_2_method_7_code 197 = .ok (.invokevirtual 161, 3) := fx_dat dk_Cert_time 103 rfl
theorem d_Cert_time_200 : decode prog_2_method_7_code 200 = .ok (.istore 9, 2) := fx_dat dk_Cert_time 104 rfl
theorem d_Cert_time_202 : decode prog_2_method_7_code 202 = .ok (.aload_n 0, 1) := fx_dat dk_Cert_time 105 rfl
theorem d_Cert_time_203 : decode prog_2_method_7_code 203 = .ok (.iload 4, 2) := fx_dat dk_Cert_time 106 rfl
theorem d_Cert_time_205 : decode prog_2_method_7_code 205 = .ok (.bipush 8, 2) := fx_dat dk_Cert_time 107 rfl
theorem d_Cert_time_207 : decode prog_2_method_7_code 207 = .ok (.iadd, 1) := fx_dat dk_Cert_time 108 rfl
theorem d_Cert_time_208 : decode prog_2_method_7_code 208 = .ok (.iconst 2, 1) := fx_dat dk_Cert_time 109 rfl
theorem d_Cert_time_209 : decode prog_2_method_7_code 209 = .ok (.invokevirtual 161, 3) := fx_dat dk_Cert_time 110 rfl
theorem d_Cert_time_212 : decode prog_2_method_7_code 212 = .ok (.istore 10, 2) := fx_dat dk_Cert_time 111 rfl
theorem d_Cert_time_214 : decode prog_2_method_7_code 214 = .ok (.iload 6, 2) := fx_dat dk_Cert_time 112 rfl
theorem d_Cert_time_216 : decode prog_2_method_7_code 216 = .ok (.iconst 1, 1) := fx_dat dk_Cert_time 113 rfl
theorem d_Cert_time_217 : decode prog_2_method_7_code 217 = .ok (.if_icmp .lt 49, 3) := fx_dat dk_Cert_time 114 rfl
theorem d_Cert_time_220 : decode prog_2_method_7_code 220 = .ok (.iload 6, 2) := fx_dat dk_Cert_time 115 rfl
theorem d_Cert_time_222 : decode prog_2_method_7_code 222 = .ok (.bipush 12, 2) := fx_dat dk_Cert_time 116 rfl
theorem d_Cert_time_224 : decode prog_2_method_7_code 224 = .ok (.if_icmp .gt 42, 3) := fx_dat dk_Cert_time 117 rfl
theorem d_Cert_time_227 : decode prog_2_method_7_code 227 = .ok (.iload 7, 2) := fx_dat dk_Cert_time 118 rfl
theorem d_Cert_time_229 : decode prog_2_method_7_code 229 = .ok (.iconst 1, 1) := fx_dat dk_Cert_time 119 rfl
theorem d_Cert_time_230 : decode prog_2_method_7_code 230 = .ok (.if_icmp .lt 36, 3) := fx_dat dk_Cert_time 120 rfl
theorem d_Cert_time_233 : decode prog_2_method_7_code 233 = .ok (.iload 7, 2) := fx_dat dk_Cert_time 121 rfl
theorem d_Cert_time_235 : decode prog_2_method_7_code 235 = .ok (.iload 5, 2) := fx_dat dk_Cert_time 122 rfl
theorem d_Cert_time_237 : decode prog_2_method_7_code 237 = .ok (.iload 6, 2) := fx_dat dk_Cert_time 123 rfl
theorem d_Cert_time_239 : decode prog_2_method_7_code 239 = .ok (.invokestatic 164, 3) := fx_dat dk_Cert_time 124 rfl
theorem d_Cert_time_242 : decode prog_2_method_7_code 242 = .ok (.if_icmp .gt 24, 3) := fx_dat dk_Cert_time 125 rfl
theorem d_Cert_time_245 : decode prog_2_method_7_code 245 = .ok (.iload 8, 2) := fx_dat dk_Cert_time 126 rfl
theorem d_Cert_time_247 : decode prog_2_method_7_code 247 = .ok (.bipush 23, 2) := fx_dat dk_Cert_time 127 rfl
theorem d_Cert_time_249 : decode prog_2_method_7_code 249 = .ok (.if_icmp .gt 17, 3) := fx_dat dk_Cert_time 128 rfl
theorem d_Cert_time_252 : decode prog_2_method_7_code 252 = .ok (.iload 9, 2) := fx_dat dk_Cert_time 129 rfl
theorem d_Cert_time_254 : decode prog_2_method_7_code 254 = .ok (.bipush 59, 2) := fx_dat dk_Cert_time 130 rfl
theorem d_Cert_time_256 : decode prog_2_method_7_code 256 = .ok (.if_icmp .gt 10, 3) := fx_dat dk_Cert_time 131 rfl
theorem d_Cert_time_259 : decode prog_2_method_7_code 259 = .ok (.iload 10, 2) := fx_dat dk_Cert_time 132 rfl
theorem d_Cert_time_261 : decode prog_2_method_7_code 261 = .ok (.bipush 59, 2) := fx_dat dk_Cert_time 133 rfl
theorem d_Cert_time_263 : decode prog_2_method_7_code 263 = .ok (.if_icmp .le 7, 3) := fx_dat dk_Cert_time 134 rfl
theorem d_Cert_time_266 : decode prog_2_method_7_code 266 = .ok (.invokestatic 128, 3) := fx_dat dk_Cert_time 135 rfl
theorem d_Cert_time_269 : decode prog_2_method_7_code 269 = .ok (.athrow, 1) := fx_dat dk_Cert_time 136 rfl
theorem d_Cert_time_270 : decode prog_2_method_7_code 270 = .ok (.aload_n 0, 1) := fx_dat dk_Cert_time 137 rfl
theorem d_Cert_time_271 : decode prog_2_method_7_code 271 = .ok (.getfield 10, 3) := fx_dat dk_Cert_time 138 rfl
theorem d_Cert_time_274 : decode prog_2_method_7_code 274 = .ok (.iload_n 3, 1) := fx_dat dk_Cert_time 139 rfl
theorem d_Cert_time_275 : decode prog_2_method_7_code 275 = .ok (.putfield 106, 3) := fx_dat dk_Cert_time 140 rfl
theorem d_Cert_time_278 : decode prog_2_method_7_code 278 = .ok (.iload 5, 2) := fx_dat dk_Cert_time 141 rfl
theorem d_Cert_time_280 : decode prog_2_method_7_code 280 = .ok (.iload 6, 2) := fx_dat dk_Cert_time 142 rfl
theorem d_Cert_time_282 : decode prog_2_method_7_code 282 = .ok (.iload 7, 2) := fx_dat dk_Cert_time 143 rfl
theorem d_Cert_time_284 : decode prog_2_method_7_code 284 = .ok (.invokestatic 169, 3) := fx_dat dk_Cert_time 144 rfl
theorem d_Cert_time_287 : decode prog_2_method_7_code 287 = .ok (.ldc2_w 173, 3) := fx_dat dk_Cert_time 145 rfl
theorem d_Cert_time_290 : decode prog_2_method_7_code 290 = .ok (.lmul, 1) := fx_dat dk_Cert_time 146 rfl
theorem d_Cert_time_291 : decode prog_2_method_7_code 291 = .ok (.iload 8, 2) := fx_dat dk_Cert_time 147 rfl
theorem d_Cert_time_293 : decode prog_2_method_7_code 293 = .ok (.i2l, 1) := fx_dat dk_Cert_time 148 rfl
theorem d_Cert_time_294 : decode prog_2_method_7_code 294 = .ok (.ladd, 1) := fx_dat dk_Cert_time 149 rfl
theorem d_Cert_time_295 : decode prog_2_method_7_code 295 = .ok (.ldc2_w 175, 3) := fx_dat dk_Cert_time 150 rfl
theorem d_Cert_time_298 : decode prog_2_method_7_code 298 = .ok (.lmul, 1) := fx_dat dk_Cert_time 151 rfl
theorem d_Cert_time_299 : decode prog_2_method_7_code 299 = .ok (.iload 9, 2) := fx_dat dk_Cert_time 152 rfl
theorem d_Cert_time_301 : decode prog_2_method_7_code 301 = .ok (.i2l, 1) := fx_dat dk_Cert_time 153 rfl
theorem d_Cert_time_302 : decode prog_2_method_7_code 302 = .ok (.ladd, 1) := fx_dat dk_Cert_time 154 rfl
theorem d_Cert_time_303 : decode prog_2_method_7_code 303 = .ok (.ldc2_w 175, 3) := fx_dat dk_Cert_time 155 rfl
theorem d_Cert_time_306 : decode prog_2_method_7_code 306 = .ok (.lmul, 1) := fx_dat dk_Cert_time 156 rfl
theorem d_Cert_time_307 : decode prog_2_method_7_code 307 = .ok (.iload 10, 2) := fx_dat dk_Cert_time 157 rfl
theorem d_Cert_time_309 : decode prog_2_method_7_code 309 = .ok (.i2l, 1) := fx_dat dk_Cert_time 158 rfl
theorem d_Cert_time_310 : decode prog_2_method_7_code 310 = .ok (.ladd, 1) := fx_dat dk_Cert_time 159 rfl
theorem d_Cert_time_311 : decode prog_2_method_7_code 311 = .ok (.lreturn, 1) := fx_dat dk_Cert_time 160 rfl
def m_Cert_time_75 (Q : Int64 → AH → Prop) (E : Nat → AH → Prop) (h : AH) : Prop := m_Rd_bad (fun q1 h1 => fx_ext h h1 → E q1 h1) h
def m_Cert_time_266 (Q : Int64 → AH → Prop) (E : Nat → AH → Prop) (h : AH) : Prop := m_Rd_bad (fun q1 h1 => fx_ext h h1 → E q1 h1) h
def m_Cert_time_159 (Q : Int64 → AH → Prop) (E : Nat → AH → Prop) (r0 : Nat) (x3 : Int32) (x4 : Int32) (x5 : Int32) (h : AH) : Prop := hp_k h r0 = 8 ∧ m_Cert_digits (fun v1 h1 => fx_ext h h1 → m_Cert_digits (fun v2 h2 => fx_ext h1 h2 → m_Cert_digits (fun v3 h3 => fx_ext h2 h3 → m_Cert_digits (fun v4 h4 => fx_ext h3 h4 → m_Cert_digits (fun v5 h5 => fx_ext h4 h5 → (v1 < (1 : Int32) → m_Cert_time_266 Q E h5) ∧ (¬ v1 < (1 : Int32) → ((12 : Int32) < v1 → m_Cert_time_266 Q E h5) ∧ (¬ (12 : Int32) < v1 → (v2 < (1 : Int32) → m_Cert_time_266 Q E h5) ∧ (¬ v2 < (1 : Int32) → m_J_monthDays (fun v6 h6 => fx_ext h5 h6 → (v6 < v2 → m_Cert_time_266 Q E h6) ∧ (¬ v6 < v2 → ((23 : Int32) < v3 → m_Cert_time_266 Q E h6) ∧ (¬ (23 : Int32) < v3 → ((59 : Int32) < v4 → m_Cert_time_266 Q E h6) ∧ (¬ (59 : Int32) < v4 → (v5 ≤ (59 : Int32) → ∃ b1, hp_R h6 r0 1 = some b1 ∧ hp_k h6 b1 = 9 ∧ ∀ h7 : AH, h7 = up_I h6 b1 1 x3 → m_J_days (fun u1 h8 => fx_ext h7 h8 → Q ((((((u1 * (24 : Int64)) + ((v3).toInt64)) * (60 : Int64)) + ((v4).toInt64)) * (60 : Int64)) + ((v5).toInt64)) h8) x5 v1 v2 h7) ∧ (¬ v5 ≤ (59 : Int32) → m_Cert_time_266 Q E h6))))) x5 v1 h5)))) (fun a ht => fx_ext h4 ht → E a ht) r0 (x4 + (8 : Int32)) (2 : Int32) h4) (fun a ht => fx_ext h3 ht → E a ht) r0 (x4 + (6 : Int32)) (2 : Int32) h3) (fun a ht => fx_ext h2 ht → E a ht) r0 (x4 + (4 : Int32)) (2 : Int32) h2) (fun a ht => fx_ext h1 ht → E a ht) r0 (x4 + (2 : Int32)) (2 : Int32) h1) (fun a ht => fx_ext h ht → E a ht) r0 x4 (2 : Int32) h
def m_Cert_time_156 (Q : Int64 → AH → Prop) (E : Nat → AH → Prop) (r0 : Nat) (x3 : Int32) (x4 : Int32) (sx0 : Int32) (sx1 : Int32) (h : AH) : Prop := ∀ v1 : Int32, v1 = (sx0 + sx1) → m_Cert_time_159 Q E r0 x3 x4 v1 h
def m_Cert_time_134 (Q : Int64 → AH → Prop) (E : Nat → AH → Prop) (r0 : Nat) (x2 : Int32) (x3 : Int32) (x4 : Int32) (x5 : Int32) (h : AH) : Prop := (¬ x2 = 0 → m_Cert_time_159 Q E r0 x3 x4 x5 h) ∧ (x2 = 0 → ((50 : Int32) ≤ x5 → m_Cert_time_156 Q E r0 x3 x4 x5 (1900 : Int32) h) ∧ (¬ (50 : Int32) ≤ x5 → m_Cert_time_156 Q E r0 x3 x4 x5 (2000 : Int32) h))
def m_Cert_time_116 (Q : Int64 → AH → Prop) (E : Nat → AH → Prop) (r0 : Nat) (x2 : Int32) (x3 : Int32) (x4 : Int32) (sx0 : Int32) (h : AH) : Prop := (x2 = 0 → m_Cert_time_134 Q E r0 x2 x3 x4 sx0 h) ∧ (¬ x2 = 0 → ((2050 : Int32) ≤ sx0 → m_Cert_time_134 Q E r0 x2 x3 x4 sx0 h) ∧ (¬ (2050 : Int32) ≤ sx0 → m_Rd_bad (fun q1 h1 => fx_ext h h1 → E q1 h1) h))
def m_Cert_time_59 (Q : Int64 → AH → Prop) (E : Nat → AH → Prop) (r0 : Nat) (x2 : Int32) (x3 : Int32) (sx0 : Int32) (sx1 : Int32) (h : AH) : Prop := (¬ sx0 = sx1 → m_Cert_time_75 Q E h) ∧ (sx0 = sx1 → hp_k h r0 = 8 ∧ ∃ b1, hp_R h r0 2 = some b1 ∧ bk (hp_k h b1) ∧ vp_in (x3 - (1 : Int32)) (hp_n h b1) ∧ (by8 (hp_I h b1 ((x3 - (1 : Int32))).toNatClampNeg) → ((hp_I h b1 ((x3 - (1 : Int32))).toNatClampNeg) = (90 : Int32) → ∀ v1 : Int32, v1 = (x3 - (11 : Int32)) → (x2 = 0 → ∃ b2, hp_R h r0 1 = some b2 ∧ hp_k h b2 = 9 ∧ m_Cert_digits (fun v2 h1 => fx_ext h h1 → m_Cert_time_116 Q E r0 x2 x3 v1 v2 h1) (fun a ht => fx_ext h ht → E a ht) r0 (hp_I h b2 1) (2 : Int32) h) ∧ (¬ x2 = 0 → ∃ b3, hp_R h r0 1 = some b3 ∧ hp_k h b3 = 9 ∧ m_Cert_digits (fun v3 h2 => fx_ext h h2 → m_Cert_time_116 Q E r0 x2 x3 v1 v3 h2) (fun a ht => fx_ext h ht → E a ht) r0 (hp_I h b3 1) (4 : Int32) h)) ∧ (¬ (hp_I h b1 ((x3 - (1 : Int32))).toNatClampNeg) = (90 : Int32) → m_Cert_time_75 Q E h)))
def m_Cert_time_34 (Q : Int64 → AH → Prop) (E : Nat → AH → Prop) (r0 : Nat) (x1 : Int32) (x2 : Int32) (sr0 : Nat) (sx1 : Int32) (h : AH) : Prop := hp_k h sr0 = 9 ∧ m_Rd_enter (fun v1 h1 => fx_ext h h1 → hp_k h1 r0 = 8 ∧ ∃ b1, hp_R h1 r0 1 = some b1 ∧ hp_k h1 b1 = 9 ∧ (x2 = 0 → m_Cert_time_59 Q E r0 x2 v1 (v1 - (hp_I h1 b1 1)) (13 : Int32) h1) ∧ (¬ x2 = 0 → m_Cert_time_59 Q E r0 x2 v1 (v1 - (hp_I h1 b1 1)) (15 : Int32) h1)) (fun a ht => fx_ext h ht → E a ht) sr0 sx1 x1 h
def m_Cert_time_18 (Q : Int64 → AH → Prop) (E : Nat → AH → Prop) (r0 : Nat) (x1 : Int32) (sx0 : Int32) (h : AH) : Prop := hp_k h r0 = 8 ∧ ∃ b1, hp_R h r0 1 = some b1 ∧ (sx0 = 0 → m_Cert_time_34 Q E r0 x1 sx0 b1 (23 : Int32) h) ∧ (¬ sx0 = 0 → m_Cert_time_34 Q E r0 x1 sx0 b1 (24 : Int32) h)
def m_Cert_time (Q : Int64 → AH → Prop) (E : Nat → AH → Prop) (r0 : Nat) (x1 : Int32) (h : AH) : Prop := hp_k h r0 = 8 ∧ ∃ b1, hp_R h r0 1 = some b1 ∧ hp_k h b1 = 9 ∧ m_Rd_tag (fun v1 h1 => fx_ext h h1 → (¬ v1 = (24 : Int32) → m_Cert_time_18 Q E r0 x1 (0 : Int32) h1) ∧ (v1 = (24 : Int32) → m_Cert_time_18 Q E r0 x1 (1 : Int32) h1)) b1 x1 h
theorem b_Cert_time_75 {p : Program} {l : Launch} {e : Env} {R : Room} {s : State} {m : MethodId} {args : Array Value} {below : List Frame} {meth : Method} {c : Code} {D : DD} {h0 : AH} {Q : Int64 → AH → Prop} {E : Nat → AH → Prop} (C : fx_CX D y_Cert_time prog_2_method_7_code 11 8 108 (Option.some FieldType.long) [] h0 p R s m meth c) (hl : l.flags = flags0) (h : AH) (hw : m_Cert_time_75 Q E h) : ∀ (ls : Array Slot) (H : Heap) (locs : List Loc) (cells slots : Nat), lv_has ls 11 [] → fx_F D h0 h H locs cells slots → W p l e R s m args below meth c H locs cells slots (fx_Z D below s h0 (fx_oL Q E)) (F0 m 75 ls []) := by
  unfold m_Cert_time_75 at hw
  intro ls H locs cells slots hv F
  refine fx_callR C F (c_Rd_bad hl hw) hm_Rd_bad hi_Rd_bad hv.1 (by decide) (Nat.le_of_ble_eq_true rfl) (iv_Rd_bad C F lm_Cert_128 d_Cert_time_75) (fx_out0 _) fx_eno (fun q1 h1 H locs cells slots hw hx1 F => ?_)
  replace hw := hw hx1
  exact fx_athrow C F (fx_out0 _) d_Cert_time_78 (Or.inr ⟨_, rfl, hw⟩)
theorem b_Cert_time_266 {p : Program} {l : Launch} {e : Env} {R : Room} {s : State} {m : MethodId} {args : Array Value} {below : List Frame} {meth : Method} {c : Code} {D : DD} {h0 : AH} {Q : Int64 → AH → Prop} {E : Nat → AH → Prop} (C : fx_CX D y_Cert_time prog_2_method_7_code 11 8 108 (Option.some FieldType.long) [] h0 p R s m meth c) (hl : l.flags = flags0) (h : AH) (hw : m_Cert_time_266 Q E h) : ∀ (ls : Array Slot) (H : Heap) (locs : List Loc) (cells slots : Nat), lv_has ls 11 [] → fx_F D h0 h H locs cells slots → W p l e R s m args below meth c H locs cells slots (fx_Z D below s h0 (fx_oL Q E)) (F0 m 266 ls []) := by
  unfold m_Cert_time_266 at hw
  intro ls H locs cells slots hv F
  refine fx_callR C F (c_Rd_bad hl hw) hm_Rd_bad hi_Rd_bad hv.1 (by decide) (Nat.le_of_ble_eq_true rfl) (iv_Rd_bad C F lm_Cert_128 d_Cert_time_266) (fx_out0 _) fx_eno (fun q1 h1 H locs cells slots hw hx1 F => ?_)
  replace hw := hw hx1
  exact fx_athrow C F (fx_out0 _) d_Cert_time_269 (Or.inr ⟨_, rfl, hw⟩)
theorem b_Cert_time_159 {p : Program} {l : Launch} {e : Env} {R : Room} {s : State} {m : MethodId} {args : Array Value} {below : List Frame} {meth : Method} {c : Code} {D : DD} {h0 : AH} {Q : Int64 → AH → Prop} {E : Nat → AH → Prop} (C : fx_CX D y_Cert_time prog_2_method_7_code 11 8 108 (Option.some FieldType.long) [] h0 p R s m meth c) (hl : l.flags = flags0) (r0 : Nat) (x3 : Int32) (x4 : Int32) (x5 : Int32) (h : AH) (hw : m_Cert_time_159 Q E r0 x3 x4 x5 h) : ∀ (ls : Array Slot) (H : Heap) (locs : List Loc) (cells slots : Nat), lv_has ls 11 [(0, .ref r0), (3, .int x3), (4, .int x4), (5, .int x5)] → fx_F D h0 h H locs cells slots → W p l e R s m args below meth c H locs cells slots (fx_Z D below s h0 (fx_oL Q E)) (F0 m 159 ls []) := by
  unfold m_Cert_time_159 at hw
  intro ls H locs cells slots hv F
  refine lv_aload_n C.ex C.by d_Cert_time_159 rfl (lv_at hv 0 rfl) ?_
  refine lv_iload C.ex C.by d_Cert_time_160 (lv_at hv 2 rfl) ?_
  refine lv_iconst (v := (2 : Int32)) C.ex C.by d_Cert_time_162 (by decide) ?_
  obtain ⟨hk1, hw⟩ := hw
  refine fx_callI C F (c_Cert_digits hl hw) hm_Cert_digits hi_Cert_digits hv.1 (by decide) (Nat.le_of_ble_eq_true rfl) (iv_Cert_digits C F lm_Cert_161 hk1 d_Cert_time_163) (fx_out0 _) (fun _ _ hE hx => Or.inr ⟨_, rfl, hE hx⟩) (fun v1 h1 H locs cells slots hw hx1 F => ?_)
  replace hw := hw hx1
  have hk1 := (hx1).k hk1
  refine lv_istore (lv' := [(6, .int v1), (0, .ref r0), (3, .int x3), (4, .int x4), (5, .int x5)]) C.ex C.by d_Cert_time_166 hv (by decide) rfl (fun ls hv => ?_)
  refine lv_aload_n C.ex C.by d_Cert_time_168 rfl (lv_at hv 1 rfl) ?_
  refine lv_iload C.ex C.by d_Cert_time_169 (lv_at hv 3 rfl) ?_
  refine lv_iconst (v := (2 : Int32)) C.ex C.by d_Cert_time_171 (by decide) ?_
  refine lv_iadd C.ex C.by d_Cert_time_172 ?_
  refine lv_iconst (v := (2 : Int32)) C.ex C.by d_Cert_time_173 (by decide) ?_
  refine fx_callI C F (c_Cert_digits hl hw) hm_Cert_digits hi_Cert_digits hv.1 (by decide) (Nat.le_of_ble_eq_true rfl) (iv_Cert_digits C F lm_Cert_161 hk1 d_Cert_time_174) (fx_out0 _) (fun _ _ hE hx => Or.inr ⟨_, rfl, hE hx⟩) (fun v2 h2 H locs cells slots hw hx2 F => ?_)
  replace hw := hw hx2
  have hk1 := (hx2).k hk1
  refine lv_istore (lv' := [(7, .int v2), (6, .int v1), (0, .ref r0), (3, .int x3), (4, .int x4), (5, .int x5)]) C.ex C.by d_Cert_time_177 hv (by decide) rfl (fun ls hv => ?_)
  refine lv_aload_n C.ex C.by d_Cert_time_179 rfl (lv_at hv 2 rfl) ?_
  refine lv_iload C.ex C.by d_Cert_time_180 (lv_at hv 4 rfl) ?_
  refine lv_iconst (v := (4 : Int32)) C.ex C.by d_Cert_time_182 (by decide) ?_
  refine lv_iadd C.ex C.by d_Cert_time_183 ?_
  refine lv_iconst (v := (2 : Int32)) C.ex C.by d_Cert_time_184 (by decide) ?_
  refine fx_callI C F (c_Cert_digits hl hw) hm_Cert_digits hi_Cert_digits hv.1 (by decide) (Nat.le_of_ble_eq_true rfl) (iv_Cert_digits C F lm_Cert_161 hk1 d_Cert_time_185) (fx_out0 _) (fun _ _ hE hx => Or.inr ⟨_, rfl, hE hx⟩) (fun v3 h3 H locs cells slots hw hx3 F => ?_)
  replace hw := hw hx3
  have hk1 := (hx3).k hk1
  refine lv_istore (lv' := [(8, .int v3), (7, .int v2), (6, .int v1), (0, .ref r0), (3, .int x3), (4, .int x4), (5, .int x5)]) C.ex C.by d_Cert_time_188 hv (by decide) rfl (fun ls hv => ?_)
  refine lv_aload_n C.ex C.by d_Cert_time_190 rfl (lv_at hv 3 rfl) ?_
  refine lv_iload C.ex C.by d_Cert_time_191 (lv_at hv 5 rfl) ?_
  refine lv_bipush (v := (6 : Int32)) C.ex C.by d_Cert_time_193 (by decide) ?_
  refine lv_iadd C.ex C.by d_Cert_time_195 ?_
  refine lv_iconst (v := (2 : Int32)) C.ex C.by d_Cert_time_196 (by decide) ?_
  refine fx_callI C F (c_Cert_digits hl hw) hm_Cert_digits hi_Cert_digits hv.1 (by decide) (Nat.le_of_ble_eq_true rfl) (iv_Cert_digits C F lm_Cert_161 hk1 d_Cert_time_197) (fx_out0 _) (fun _ _ hE hx => Or.inr ⟨_, rfl, hE hx⟩) (fun v4 h4 H locs cells slots hw hx4 F => ?_)
  replace hw := hw hx4
  have hk1 := (hx4).k hk1
  refine lv_istore (lv' := [(9, .int v4), (8, .int v3), (7, .int v2), (6, .int v1), (0, .ref r0), (3, .int x3), (4, .int x4), (5, .int x5)]) C.ex C.by d_Cert_time_200 hv (by decide) rfl (fun ls hv => ?_)
  refine lv_aload_n C.ex C.by d_Cert_time_202 rfl (lv_at hv 4 rfl) ?_
  refine lv_iload C.ex C.by d_Cert_time_203 (lv_at hv 6 rfl) ?_
  refine lv_bipush (v := (8 : Int32)) C.ex C.by d_Cert_time_205 (by decide) ?_
  refine lv_iadd C.ex C.by d_Cert_time_207 ?_
  refine lv_iconst (v := (2 : Int32)) C.ex C.by d_Cert_time_208 (by decide) ?_
  refine fx_callI C F (c_Cert_digits hl hw) hm_Cert_digits hi_Cert_digits hv.1 (by decide) (Nat.le_of_ble_eq_true rfl) (iv_Cert_digits C F lm_Cert_161 hk1 d_Cert_time_209) (fx_out0 _) (fun _ _ hE hx => Or.inr ⟨_, rfl, hE hx⟩) (fun v5 h5 H locs cells slots hw hx5 F => ?_)
  replace hw := hw hx5
  have hk1 := (hx5).k hk1
  refine lv_istore (lv' := [(10, .int v5), (9, .int v4), (8, .int v3), (7, .int v2), (6, .int v1), (0, .ref r0), (3, .int x3), (4, .int x4), (5, .int x5)]) C.ex C.by d_Cert_time_212 hv (by decide) rfl (fun ls hv => ?_)
  refine lv_iload C.ex C.by d_Cert_time_214 (lv_at hv 4 rfl) ?_
  refine lv_iconst (v := (1 : Int32)) C.ex C.by d_Cert_time_216 (by decide) ?_
  refine lv_icmp_lt C.ex C.by d_Cert_time_217 rfl (fun hc => ?_) (fun hc => ?_)
  · replace hw := hw.1 hc
    exact b_Cert_time_266 C hl _ hw _ _ _ _ _ (lv_sub hv [] rfl) F
  · replace hw := hw.2 hc
    refine lv_iload C.ex C.by d_Cert_time_220 (lv_at hv 4 rfl) ?_
    refine lv_bipush (v := (12 : Int32)) C.ex C.by d_Cert_time_222 (by decide) ?_
    refine lv_icmp_gt C.ex C.by d_Cert_time_224 rfl (fun hc => ?_) (fun hc => ?_)
    · replace hw := hw.1 hc
      exact b_Cert_time_266 C hl _ hw _ _ _ _ _ (lv_sub hv [] rfl) F
    · replace hw := hw.2 hc
      refine lv_iload C.ex C.by d_Cert_time_227 (lv_at hv 3 rfl) ?_
      refine lv_iconst (v := (1 : Int32)) C.ex C.by d_Cert_time_229 (by decide) ?_
      refine lv_icmp_lt C.ex C.by d_Cert_time_230 rfl (fun hc => ?_) (fun hc => ?_)
      · replace hw := hw.1 hc
        exact b_Cert_time_266 C hl _ hw _ _ _ _ _ (lv_sub hv [] rfl) F
      · replace hw := hw.2 hc
        refine lv_iload C.ex C.by d_Cert_time_233 (lv_at hv 3 rfl) ?_
        refine lv_iload C.ex C.by d_Cert_time_235 (lv_at hv 8 rfl) ?_
        refine lv_iload C.ex C.by d_Cert_time_237 (lv_at hv 4 rfl) ?_
        refine fx_callI C F (c_J_monthDays hl hw) hm_J_monthDays hi_J_monthDays hv.1 (by decide) (Nat.le_of_ble_eq_true rfl) (iv_J_monthDays C F lm_Cert_164 d_Cert_time_239) (fx_out0 _) fx_eno (fun v6 h6 H locs cells slots hw hx6 F => ?_)
        replace hw := hw hx6
        have hk1 := (hx6).k hk1
        refine lv_icmp_gt C.ex C.by d_Cert_time_242 rfl (fun hc => ?_) (fun hc => ?_)
        · replace hw := hw.1 hc
          exact b_Cert_time_266 C hl _ hw _ _ _ _ _ (lv_sub hv [] rfl) F
        · replace hw := hw.2 hc
          refine lv_iload C.ex C.by d_Cert_time_245 (lv_at hv 2 rfl) ?_
          refine lv_bipush (v := (23 : Int32)) C.ex C.by d_Cert_time_247 (by decide) ?_
          refine lv_icmp_gt C.ex C.by d_Cert_time_249 rfl (fun hc => ?_) (fun hc => ?_)
          · replace hw := hw.1 hc
            exact b_Cert_time_266 C hl _ hw _ _ _ _ _ (lv_sub hv [] rfl) F
          · replace hw := hw.2 hc
            refine lv_iload C.ex C.by d_Cert_time_252 (lv_at hv 1 rfl) ?_
            refine lv_bipush (v := (59 : Int32)) C.ex C.by d_Cert_time_254 (by decide) ?_
            refine lv_icmp_gt C.ex C.by d_Cert_time_256 rfl (fun hc => ?_) (fun hc => ?_)
            · replace hw := hw.1 hc
              exact b_Cert_time_266 C hl _ hw _ _ _ _ _ (lv_sub hv [] rfl) F
            · replace hw := hw.2 hc
              refine lv_iload C.ex C.by d_Cert_time_259 (lv_at hv 0 rfl) ?_
              refine lv_bipush (v := (59 : Int32)) C.ex C.by d_Cert_time_261 (by decide) ?_
              refine lv_icmp_le C.ex C.by d_Cert_time_263 rfl (fun hc => ?_) (fun hc => ?_)
              · replace hw := hw.1 hc
                refine lv_aload_n C.ex C.by d_Cert_time_270 rfl (lv_at hv 5 rfl) ?_
                obtain ⟨b1, hb1, hw⟩ := hw
                refine fx_getR C F lf_Cert_10 hk1 rfl hb1 d_Cert_time_271 ?_
                refine lv_iload_n C.ex C.by d_Cert_time_274 rfl (lv_at hv 6 rfl) ?_
                obtain ⟨hk2, hw⟩ := hw
                let h7 : AH := up_I h6 b1 1 x3
                replace hw := hw h7 rfl
                refine fx_putI C F lf_Cert_106 hk2 rfl rfl (fx_mayF.no rfl rfl) d_Cert_time_275 (fun H locs (F : fx_F D h0 h7 H locs _ _) => ?_)
                refine lv_iload C.ex C.by d_Cert_time_278 (lv_at hv 8 rfl) ?_
                refine lv_iload C.ex C.by d_Cert_time_280 (lv_at hv 4 rfl) ?_
                refine lv_iload C.ex C.by d_Cert_time_282 (lv_at hv 3 rfl) ?_
                refine fx_callL C F (c_J_days hl hw) hm_J_days hi_J_days hv.1 (by decide) (Nat.le_of_ble_eq_true rfl) (iv_J_days C F lm_Cert_169 d_Cert_time_284) (fx_out0 _) fx_eno (fun u1 h8 H locs cells slots hw hx7 F => ?_)
                replace hw := hw hx7
                have hk2 := (hx7).k hk2
                have hk1 := (hx7).k hk1
                refine lv_ldc2 (v := (24 : Int64)) C.ex C.by C.ow (C.tw.at (fx_m3 (List.mem_of_getElem? (i := 201) rfl)) rfl rfl) d_Cert_time_287 ?_
                refine lv_lmul C.ex C.by d_Cert_time_290 ?_
                refine lv_iload C.ex C.by d_Cert_time_291 (lv_at hv 2 rfl) ?_
                refine lv_i2l (v := ((v3).toInt64)) C.ex C.by d_Cert_time_293 rfl ?_
                refine lv_ladd C.ex C.by d_Cert_time_294 ?_
                refine lv_ldc2 (v := (60 : Int64)) C.ex C.by C.ow (C.tw.at (fx_m3 (List.mem_of_getElem? (i := 202) rfl)) rfl rfl) d_Cert_time_295 ?_
                refine lv_lmul C.ex C.by d_Cert_time_298 ?_
                refine lv_iload C.ex C.by d_Cert_time_299 (lv_at hv 1 rfl) ?_
                refine lv_i2l (v := ((v4).toInt64)) C.ex C.by d_Cert_time_301 rfl ?_
                refine lv_ladd C.ex C.by d_Cert_time_302 ?_
                refine lv_ldc2 (v := (60 : Int64)) C.ex C.by C.ow (C.tw.at (fx_m3 (List.mem_of_getElem? (i := 202) rfl)) rfl rfl) d_Cert_time_303 ?_
                refine lv_lmul C.ex C.by d_Cert_time_306 ?_
                refine lv_iload C.ex C.by d_Cert_time_307 (lv_at hv 0 rfl) ?_
                refine lv_i2l (v := ((v5).toInt64)) C.ex C.by d_Cert_time_309 rfl ?_
                refine lv_ladd C.ex C.by d_Cert_time_310 ?_
                exact fx_lret C F d_Cert_time_311 (Or.inl ⟨_, rfl, hw⟩)
              · replace hw := hw.2 hc
                exact b_Cert_time_266 C hl _ hw _ _ _ _ _ (lv_sub hv [] rfl) F
theorem b_Cert_time_156 {p : Program} {l : Launch} {e : Env} {R : Room} {s : State} {m : MethodId} {args : Array Value} {below : List Frame} {meth : Method} {c : Code} {D : DD} {h0 : AH} {Q : Int64 → AH → Prop} {E : Nat → AH → Prop} (C : fx_CX D y_Cert_time prog_2_method_7_code 11 8 108 (Option.some FieldType.long) [] h0 p R s m meth c) (hl : l.flags = flags0) (r0 : Nat) (x3 : Int32) (x4 : Int32) (sx0 : Int32) (sx1 : Int32) (h : AH) (hw : m_Cert_time_156 Q E r0 x3 x4 sx0 sx1 h) : ∀ (ls : Array Slot) (H : Heap) (locs : List Loc) (cells slots : Nat), lv_has ls 11 [(0, .ref r0), (3, .int x3), (4, .int x4)] → fx_F D h0 h H locs cells slots → W p l e R s m args below meth c H locs cells slots (fx_Z D below s h0 (fx_oL Q E)) (F0 m 156 ls [.int sx1, .int sx0]) := by
  unfold m_Cert_time_156 at hw
  intro ls H locs cells slots hv F
  refine lv_iadd C.ex C.by d_Cert_time_156 ?_
  let v1 : Int32 := (sx0 + sx1)
  replace hw := hw v1 rfl
  refine lv_istore (lv' := [(5, .int v1), (0, .ref r0), (3, .int x3), (4, .int x4)]) C.ex C.by d_Cert_time_157 hv (by decide) rfl (fun ls hv => ?_)
  exact b_Cert_time_159 C hl _ _ _ _ _ hw _ _ _ _ _ (lv_sub hv [1, 2, 3, 0] rfl) F
theorem b_Cert_time_134 {p : Program} {l : Launch} {e : Env} {R : Room} {s : State} {m : MethodId} {args : Array Value} {below : List Frame} {meth : Method} {c : Code} {D : DD} {h0 : AH} {Q : Int64 → AH → Prop} {E : Nat → AH → Prop} (C : fx_CX D y_Cert_time prog_2_method_7_code 11 8 108 (Option.some FieldType.long) [] h0 p R s m meth c) (hl : l.flags = flags0) (r0 : Nat) (x2 : Int32) (x3 : Int32) (x4 : Int32) (x5 : Int32) (h : AH) (hw : m_Cert_time_134 Q E r0 x2 x3 x4 x5 h) : ∀ (ls : Array Slot) (H : Heap) (locs : List Loc) (cells slots : Nat), lv_has ls 11 [(0, .ref r0), (2, .int x2), (3, .int x3), (4, .int x4), (5, .int x5)] → fx_F D h0 h H locs cells slots → W p l e R s m args below meth c H locs cells slots (fx_Z D below s h0 (fx_oL Q E)) (F0 m 134 ls []) := by
  unfold m_Cert_time_134 at hw
  intro ls H locs cells slots hv F
  refine lv_iload_n C.ex C.by d_Cert_time_134 rfl (lv_at hv 1 rfl) ?_
  refine lv_if_ne C.ex C.by d_Cert_time_135 rfl (fun hc => ?_) (fun hc => ?_)
  · replace hw := hw.1 hc
    exact b_Cert_time_159 C hl _ _ _ _ _ hw _ _ _ _ _ (lv_sub hv [0, 2, 3, 4] rfl) F
  · replace hw := hw.2 hc
    refine lv_iload C.ex C.by d_Cert_time_138 (lv_at hv 4 rfl) ?_
    refine lv_iload C.ex C.by d_Cert_time_140 (lv_at hv 4 rfl) ?_
    refine lv_bipush (v := (50 : Int32)) C.ex C.by d_Cert_time_142 (by decide) ?_
    refine lv_icmp_ge C.ex C.by d_Cert_time_144 rfl (fun hc => ?_) (fun hc => ?_)
    · replace hw := hw.1 hc
      refine lv_sipush (v := (1900 : Int32)) C.ex C.by d_Cert_time_153 (by decide) ?_
      exact b_Cert_time_156 C hl _ _ _ _ _ _ hw _ _ _ _ _ (lv_sub hv [0, 2, 3] rfl) F
    · replace hw := hw.2 hc
      refine lv_sipush (v := (2000 : Int32)) C.ex C.by d_Cert_time_147 (by decide) ?_
      refine lv_goto C.ex C.by d_Cert_time_150 rfl ?_
      exact b_Cert_time_156 C hl _ _ _ _ _ _ hw _ _ _ _ _ (lv_sub hv [0, 2, 3] rfl) F
theorem b_Cert_time_116 {p : Program} {l : Launch} {e : Env} {R : Room} {s : State} {m : MethodId} {args : Array Value} {below : List Frame} {meth : Method} {c : Code} {D : DD} {h0 : AH} {Q : Int64 → AH → Prop} {E : Nat → AH → Prop} (C : fx_CX D y_Cert_time prog_2_method_7_code 11 8 108 (Option.some FieldType.long) [] h0 p R s m meth c) (hl : l.flags = flags0) (r0 : Nat) (x2 : Int32) (x3 : Int32) (x4 : Int32) (sx0 : Int32) (h : AH) (hw : m_Cert_time_116 Q E r0 x2 x3 x4 sx0 h) : ∀ (ls : Array Slot) (H : Heap) (locs : List Loc) (cells slots : Nat), lv_has ls 11 [(0, .ref r0), (2, .int x2), (3, .int x3), (4, .int x4)] → fx_F D h0 h H locs cells slots → W p l e R s m args below meth c H locs cells slots (fx_Z D below s h0 (fx_oL Q E)) (F0 m 116 ls [.int sx0]) := by
  unfold m_Cert_time_116 at hw
  intro ls H locs cells slots hv F
  refine lv_istore (lv' := [(5, .int sx0), (0, .ref r0), (2, .int x2), (3, .int x3), (4, .int x4)]) C.ex C.by d_Cert_time_116 hv (by decide) rfl (fun ls hv => ?_)
  refine lv_iload_n C.ex C.by d_Cert_time_118 rfl (lv_at hv 2 rfl) ?_
  refine lv_if_eq C.ex C.by d_Cert_time_119 rfl (fun hc => ?_) (fun hc => ?_)
  · replace hw := hw.1 hc
    exact b_Cert_time_134 C hl _ _ _ _ _ _ hw _ _ _ _ _ (lv_sub hv [1, 2, 3, 4, 0] rfl) F
  · replace hw := hw.2 hc
    refine lv_iload C.ex C.by d_Cert_time_122 (lv_at hv 0 rfl) ?_
    refine lv_sipush (v := (2050 : Int32)) C.ex C.by d_Cert_time_124 (by decide) ?_
    refine lv_icmp_ge C.ex C.by d_Cert_time_127 rfl (fun hc => ?_) (fun hc => ?_)
    · replace hw := hw.1 hc
      exact b_Cert_time_134 C hl _ _ _ _ _ _ hw _ _ _ _ _ (lv_sub hv [1, 2, 3, 4, 0] rfl) F
    · replace hw := hw.2 hc
      refine fx_callR C F (c_Rd_bad hl hw) hm_Rd_bad hi_Rd_bad hv.1 (by decide) (Nat.le_of_ble_eq_true rfl) (iv_Rd_bad C F lm_Cert_128 d_Cert_time_130) (fx_out0 _) fx_eno (fun q1 h1 H locs cells slots hw hx1 F => ?_)
      replace hw := hw hx1
      exact fx_athrow C F (fx_out0 _) d_Cert_time_133 (Or.inr ⟨_, rfl, hw⟩)
theorem b_Cert_time_59 {p : Program} {l : Launch} {e : Env} {R : Room} {s : State} {m : MethodId} {args : Array Value} {below : List Frame} {meth : Method} {c : Code} {D : DD} {h0 : AH} {Q : Int64 → AH → Prop} {E : Nat → AH → Prop} (C : fx_CX D y_Cert_time prog_2_method_7_code 11 8 108 (Option.some FieldType.long) [] h0 p R s m meth c) (hl : l.flags = flags0) (r0 : Nat) (x2 : Int32) (x3 : Int32) (sx0 : Int32) (sx1 : Int32) (h : AH) (hw : m_Cert_time_59 Q E r0 x2 x3 sx0 sx1 h) : ∀ (ls : Array Slot) (H : Heap) (locs : List Loc) (cells slots : Nat), lv_has ls 11 [(0, .ref r0), (2, .int x2), (3, .int x3)] → fx_F D h0 h H locs cells slots → W p l e R s m args below meth c H locs cells slots (fx_Z D below s h0 (fx_oL Q E)) (F0 m 59 ls [.int sx1, .int sx0]) := by
  unfold m_Cert_time_59 at hw
  intro ls H locs cells slots hv F
  refine lv_icmp_ne C.ex C.by d_Cert_time_59 rfl (fun hc => ?_) (fun hc => ?_)
  · replace hw := hw.1 hc
    exact b_Cert_time_75 C hl _ hw _ _ _ _ _ (lv_sub hv [] rfl) F
  · replace hw := hw.2 hc
    refine lv_aload_n C.ex C.by d_Cert_time_62 rfl (lv_at hv 0 rfl) ?_
    obtain ⟨hk1, hw⟩ := hw
    obtain ⟨b1, hb1, hw⟩ := hw
    refine fx_getR C F lf_Cert_16 hk1 rfl hb1 d_Cert_time_63 ?_
    refine lv_iload_n C.ex C.by d_Cert_time_66 rfl (lv_at hv 2 rfl) ?_
    refine lv_iconst (v := (1 : Int32)) C.ex C.by d_Cert_time_67 (by decide) ?_
    refine lv_isub C.ex C.by d_Cert_time_68 ?_
    obtain ⟨hk2, hw⟩ := hw
    obtain ⟨hi1, hw⟩ := hw
    refine fx_bald C F hk2 hi1 d_Cert_time_69 (fun h8 => ?_)
    replace hw := hw h8
    refine lv_bipush (v := (90 : Int32)) C.ex C.by d_Cert_time_70 (by decide) ?_
    refine lv_icmp_eq C.ex C.by d_Cert_time_72 rfl (fun hc => ?_) (fun hc => ?_)
    · replace hw := hw.1 hc
      refine lv_iload_n C.ex C.by d_Cert_time_79 rfl (lv_at hv 2 rfl) ?_
      refine lv_bipush (v := (11 : Int32)) C.ex C.by d_Cert_time_80 (by decide) ?_
      refine lv_isub C.ex C.by d_Cert_time_82 ?_
      let v1 : Int32 := (x3 - (11 : Int32))
      replace hw := hw v1 rfl
      refine lv_istore (lv' := [(4, .int v1), (0, .ref r0), (2, .int x2), (3, .int x3)]) C.ex C.by d_Cert_time_83 hv (by decide) rfl (fun ls hv => ?_)
      refine lv_iload_n C.ex C.by d_Cert_time_85 rfl (lv_at hv 2 rfl) ?_
      refine lv_if_eq C.ex C.by d_Cert_time_86 rfl (fun hc => ?_) (fun hc => ?_)
      · replace hw := hw.1 hc
        refine lv_aload_n C.ex C.by d_Cert_time_104 rfl (lv_at hv 1 rfl) ?_
        refine lv_aload_n C.ex C.by d_Cert_time_105 rfl (lv_at hv 1 rfl) ?_
        obtain ⟨b2, hb2, hw⟩ := hw
        refine fx_getR C F lf_Cert_10 hk1 rfl hb2 d_Cert_time_106 ?_
        obtain ⟨hk3, hw⟩ := hw
        refine fx_getI C F lf_Cert_106 hk3 rfl d_Cert_time_109 ?_
        refine lv_iconst (v := (2 : Int32)) C.ex C.by d_Cert_time_112 (by decide) ?_
        refine fx_callI C F (c_Cert_digits hl hw) hm_Cert_digits hi_Cert_digits hv.1 (by decide) (Nat.le_of_ble_eq_true rfl) (iv_Cert_digits C F lm_Cert_161 hk1 d_Cert_time_113) (fx_out0 _) (fun _ _ hE hx => Or.inr ⟨_, rfl, hE hx⟩) (fun v2 h1 H locs cells slots hw hx1 F => ?_)
        replace hw := hw hx1
        have hk2 := (hx1).gb hk2
        have hk3 := (hx1).k hk3
        have hk1 := (hx1).k hk1
        exact b_Cert_time_116 C hl _ _ _ _ _ _ hw _ _ _ _ _ (lv_sub hv [1, 2, 3, 0] rfl) F
      · replace hw := hw.2 hc
        refine lv_aload_n C.ex C.by d_Cert_time_89 rfl (lv_at hv 1 rfl) ?_
        refine lv_aload_n C.ex C.by d_Cert_time_90 rfl (lv_at hv 1 rfl) ?_
        obtain ⟨b3, hb3, hw⟩ := hw
        refine fx_getR C F lf_Cert_10 hk1 rfl hb3 d_Cert_time_91 ?_
        obtain ⟨hk4, hw⟩ := hw
        refine fx_getI C F lf_Cert_106 hk4 rfl d_Cert_time_94 ?_
        refine lv_iconst (v := (4 : Int32)) C.ex C.by d_Cert_time_97 (by decide) ?_
        refine fx_callI C F (c_Cert_digits hl hw) hm_Cert_digits hi_Cert_digits hv.1 (by decide) (Nat.le_of_ble_eq_true rfl) (iv_Cert_digits C F lm_Cert_161 hk1 d_Cert_time_98) (fx_out0 _) (fun _ _ hE hx => Or.inr ⟨_, rfl, hE hx⟩) (fun v3 h2 H locs cells slots hw hx2 F => ?_)
        replace hw := hw hx2
        have hk2 := (hx2).gb hk2
        have hk4 := (hx2).k hk4
        have hk1 := (hx2).k hk1
        refine lv_goto C.ex C.by d_Cert_time_101 rfl ?_
        exact b_Cert_time_116 C hl _ _ _ _ _ _ hw _ _ _ _ _ (lv_sub hv [1, 2, 3, 0] rfl) F
    · replace hw := hw.2 hc
      exact b_Cert_time_75 C hl _ hw _ _ _ _ _ (lv_sub hv [] rfl) F
theorem b_Cert_time_34 {p : Program} {l : Launch} {e : Env} {R : Room} {s : State} {m : MethodId} {args : Array Value} {below : List Frame} {meth : Method} {c : Code} {D : DD} {h0 : AH} {Q : Int64 → AH → Prop} {E : Nat → AH → Prop} (C : fx_CX D y_Cert_time prog_2_method_7_code 11 8 108 (Option.some FieldType.long) [] h0 p R s m meth c) (hl : l.flags = flags0) (r0 : Nat) (x1 : Int32) (x2 : Int32) (sr0 : Nat) (sx1 : Int32) (h : AH) (hw : m_Cert_time_34 Q E r0 x1 x2 sr0 sx1 h) : ∀ (ls : Array Slot) (H : Heap) (locs : List Loc) (cells slots : Nat), lv_has ls 11 [(0, .ref r0), (1, .int x1), (2, .int x2)] → fx_F D h0 h H locs cells slots → W p l e R s m args below meth c H locs cells slots (fx_Z D below s h0 (fx_oL Q E)) (F0 m 34 ls [.int sx1, .ref sr0]) := by
  unfold m_Cert_time_34 at hw
  intro ls H locs cells slots hv F
  refine lv_iload_n C.ex C.by d_Cert_time_34 rfl (lv_at hv 1 rfl) ?_
  obtain ⟨hk1, hw⟩ := hw
  refine fx_callI C F (c_Rd_enter hl hw) hm_Rd_enter hi_Rd_enter hv.1 (by decide) (Nat.le_of_ble_eq_true rfl) (iv_Rd_enter C F lm_Cert_115 hk1 d_Cert_time_35) (fx_out0 _) (fun _ _ hE hx => Or.inr ⟨_, rfl, hE hx⟩) (fun v1 h1 H locs cells slots hw hx1 F => ?_)
  replace hw := hw hx1
  have hk1 := (hx1).k hk1
  refine lv_istore_n (lv' := [(3, .int v1), (0, .ref r0), (1, .int x1), (2, .int x2)]) C.ex C.by d_Cert_time_38 rfl hv (by decide) rfl (fun ls hv => ?_)
  refine lv_iload_n C.ex C.by d_Cert_time_39 rfl (lv_at hv 0 rfl) ?_
  refine lv_aload_n C.ex C.by d_Cert_time_40 rfl (lv_at hv 1 rfl) ?_
  obtain ⟨hk2, hw⟩ := hw
  obtain ⟨b1, hb1, hw⟩ := hw
  refine fx_getR C F lf_Cert_10 hk2 rfl hb1 d_Cert_time_41 ?_
  obtain ⟨hk3, hw⟩ := hw
  refine fx_getI C F lf_Cert_106 hk3 rfl d_Cert_time_44 ?_
  refine lv_isub C.ex C.by d_Cert_time_47 ?_
  refine lv_iload_n C.ex C.by d_Cert_time_48 rfl (lv_at hv 3 rfl) ?_
  refine lv_if_eq C.ex C.by d_Cert_time_49 rfl (fun hc => ?_) (fun hc => ?_)
  · replace hw := hw.1 hc
    refine lv_bipush (v := (13 : Int32)) C.ex C.by d_Cert_time_57 (by decide) ?_
    exact b_Cert_time_59 C hl _ _ _ _ _ _ hw _ _ _ _ _ (lv_sub hv [1, 3, 0] rfl) F
  · replace hw := hw.2 hc
    refine lv_bipush (v := (15 : Int32)) C.ex C.by d_Cert_time_52 (by decide) ?_
    refine lv_goto C.ex C.by d_Cert_time_54 rfl ?_
    exact b_Cert_time_59 C hl _ _ _ _ _ _ hw _ _ _ _ _ (lv_sub hv [1, 3, 0] rfl) F
theorem b_Cert_time_18 {p : Program} {l : Launch} {e : Env} {R : Room} {s : State} {m : MethodId} {args : Array Value} {below : List Frame} {meth : Method} {c : Code} {D : DD} {h0 : AH} {Q : Int64 → AH → Prop} {E : Nat → AH → Prop} (C : fx_CX D y_Cert_time prog_2_method_7_code 11 8 108 (Option.some FieldType.long) [] h0 p R s m meth c) (hl : l.flags = flags0) (r0 : Nat) (x1 : Int32) (sx0 : Int32) (h : AH) (hw : m_Cert_time_18 Q E r0 x1 sx0 h) : ∀ (ls : Array Slot) (H : Heap) (locs : List Loc) (cells slots : Nat), lv_has ls 11 [(0, .ref r0), (1, .int x1)] → fx_F D h0 h H locs cells slots → W p l e R s m args below meth c H locs cells slots (fx_Z D below s h0 (fx_oL Q E)) (F0 m 18 ls [.int sx0]) := by
  unfold m_Cert_time_18 at hw
  intro ls H locs cells slots hv F
  refine lv_istore_n (lv' := [(2, .int sx0), (0, .ref r0), (1, .int x1)]) C.ex C.by d_Cert_time_18 rfl hv (by decide) rfl (fun ls hv => ?_)
  refine lv_aload_n C.ex C.by d_Cert_time_19 rfl (lv_at hv 1 rfl) ?_
  obtain ⟨hk1, hw⟩ := hw
  obtain ⟨b1, hb1, hw⟩ := hw
  refine fx_getR C F lf_Cert_10 hk1 rfl hb1 d_Cert_time_20 ?_
  refine lv_iload_n C.ex C.by d_Cert_time_23 rfl (lv_at hv 0 rfl) ?_
  refine lv_if_eq C.ex C.by d_Cert_time_24 rfl (fun hc => ?_) (fun hc => ?_)
  · replace hw := hw.1 hc
    refine lv_bipush (v := (23 : Int32)) C.ex C.by d_Cert_time_32 (by decide) ?_
    exact b_Cert_time_34 C hl _ _ _ _ _ _ hw _ _ _ _ _ (lv_sub hv [1, 2, 0] rfl) F
  · replace hw := hw.2 hc
    refine lv_bipush (v := (24 : Int32)) C.ex C.by d_Cert_time_27 (by decide) ?_
    refine lv_goto C.ex C.by d_Cert_time_29 rfl ?_
    exact b_Cert_time_34 C hl _ _ _ _ _ _ hw _ _ _ _ _ (lv_sub hv [1, 2, 0] rfl) F
theorem b_Cert_time_0 {p : Program} {l : Launch} {e : Env} {R : Room} {s : State} {m : MethodId} {args : Array Value} {below : List Frame} {meth : Method} {c : Code} {D : DD} {h0 : AH} {Q : Int64 → AH → Prop} {E : Nat → AH → Prop} (C : fx_CX D y_Cert_time prog_2_method_7_code 11 8 108 (Option.some FieldType.long) [] h0 p R s m meth c) (hl : l.flags = flags0) (r0 : Nat) (x1 : Int32) (h : AH) (hw : m_Cert_time Q E r0 x1 h) : ∀ (ls : Array Slot) (H : Heap) (locs : List Loc) (cells slots : Nat), lv_has ls 11 [(0, .ref r0), (1, .int x1)] → fx_F D h0 h H locs cells slots → W p l e R s m args below meth c H locs cells slots (fx_Z D below s h0 (fx_oL Q E)) (F0 m 0 ls []) := by
  unfold m_Cert_time at hw
  intro ls H locs cells slots hv F
  refine lv_aload_n C.ex C.by d_Cert_time_0 rfl (lv_at hv 0 rfl) ?_
  obtain ⟨hk1, hw⟩ := hw
  obtain ⟨b1, hb1, hw⟩ := hw
  refine fx_getR C F lf_Cert_10 hk1 rfl hb1 d_Cert_time_1 ?_
  refine lv_iload_n C.ex C.by d_Cert_time_4 rfl (lv_at hv 1 rfl) ?_
  obtain ⟨hk2, hw⟩ := hw
  refine fx_callI C F (c_Rd_tag hl hw) hm_Rd_tag hi_Rd_tag hv.1 (by decide) (Nat.le_of_ble_eq_true rfl) (iv_Rd_tag C F lm_Cert_155 hk2 d_Cert_time_5) (fx_out0 _) fx_eno (fun v1 h1 H locs cells slots hw hx1 F => ?_)
  replace hw := hw hx1
  have hk2 := (hx1).k hk2
  have hk1 := (hx1).k hk1
  refine lv_bipush (v := (24 : Int32)) C.ex C.by d_Cert_time_8 (by decide) ?_
  refine lv_icmp_ne C.ex C.by d_Cert_time_10 rfl (fun hc => ?_) (fun hc => ?_)
  · replace hw := hw.1 hc
    refine lv_iconst (v := (0 : Int32)) C.ex C.by d_Cert_time_17 (by decide) ?_
    exact b_Cert_time_18 C hl _ _ _ _ hw _ _ _ _ _ hv F
  · replace hw := hw.2 hc
    refine lv_iconst (v := (1 : Int32)) C.ex C.by d_Cert_time_13 (by decide) ?_
    refine lv_goto C.ex C.by d_Cert_time_14 rfl ?_
    exact b_Cert_time_18 C hl _ _ _ _ hw _ _ _ _ _ hv F
theorem hm_Cert_time : fx_hd y_Cert_time prog_2_method_7_code 11 (Option.some FieldType.long) [] ∈ tables_1 := (fx_m3 (List.mem_of_getElem? (i := 188) rfl))
theorem hi_Cert_time : Cond.initialized y_Cert_time.cls ∈ tables_1 := (fx_m1 (List.mem_of_getElem? (i := 11) rfl))
theorem c_Cert_time {l : Launch} (hl : l.flags = flags0) {D : DD} {Q : Int64 → AH → Prop} {E : Nat → AH → Prop} {r0 : Nat} {x1 : Int32} {h : AH} (hw : m_Cert_time Q E r0 x1 h) : fx_Mt l D y_Cert_time (fx_hd y_Cert_time prog_2_method_7_code 11 (Option.some FieldType.long) []) 8 108 [.ref r0, .int x1] h (fx_oL Q E) := by
  refine fx_ofW (plainFor_of_name (by decide)) (fun p e s m below meth c C F => ?_)
  have hv := lv_entry ([.ref r0, .int x1]) (n := 11) (Nat.le_of_ble_eq_true rfl)
  rw [lg_entry_eq]
  generalize (lg_sl ([.ref r0, .int x1]) ++ List.replicate (11 - (lg_sl ([.ref r0, .int x1])).length) Slot.unset).toArray = ls at hv ⊢
  have hv : lv_has ls 11 [(0, .ref r0), (1, .int x1)] := hv
  exact b_Cert_time_0 C hl _ _ _ hw _ _ _ _ _ hv F
/-! ChainJudge$KeyedMarks.ofKey(LChainJudge$Reader;I)I: frames 10, words 140, throws -/
abbrev y_KM_ofKey : MethodName := ⟨"ChainJudge$KeyedMarks", "ofKey", "(LChainJudge$Reader;I)I"⟩
def dl_KM_ofKey : List (Nat × Instr × Nat) := [(0, .aload_n 0, 1), (1, .aload_n 1, 1), (2, .iload_n 2, 1), (3, .invokevirtual 52, 3), (6, .ireturn, 1)]
theorem dk_KM_ofKey : fx_dec prog_7_method_4_code dl_KM_ofKey = true := by decide +kernel
theorem d_KM_ofKey_0 : decode prog_7_method_4_code 0 = .ok (.aload_n 0, 1) := fx_dat dk_KM_ofKey 0 rfl
theorem d_KM_ofKey_1 : decode prog_7_method_4_code 1 = .ok (.aload_n 1, 1) := fx_dat dk_KM_ofKey 1 rfl
theorem d_KM_ofKey_2 : decode prog_7_method_4_code 2 = .ok (.iload_n 2, 1) := fx_dat dk_KM_ofKey 2 rfl
theorem d_KM_ofKey_3 : decode prog_7_method_4_code 3 = .ok (.invokevirtual 52, 3) := fx_dat dk_KM_ofKey 3 rfl
theorem d_KM_ofKey_6 : decode prog_7_method_4_code 6 = .ok (.ireturn, 1) := fx_dat dk_KM_ofKey 4 rfl
def m_KM_ofKey (Q : Int32 → AH → Prop) (E : Nat → AH → Prop) (r0 : Nat) (r1 : Nat) (x2 : Int32) (h : AH) : Prop := hp_k h r0 = 4 ∧ m_KM_algorithm (fun v1 h1 => fx_ext h h1 → Q v1 h1) (fun a ht => fx_ext h ht → E a ht) r0 r1 x2 h
theorem b_KM_ofKey_0 {p : Program} {l : Launch} {e : Env} {R : Room} {s : State} {m : MethodId} {args : Array Value} {below : List Frame} {meth : Method} {c : Code} {D : DD} {h0 : AH} {Q : Int32 → AH → Prop} {E : Nat → AH → Prop} (C : fx_CX D y_KM_ofKey prog_7_method_4_code 3 10 140 (Option.some FieldType.int) [] h0 p R s m meth c) (hl : l.flags = flags0) (r0 : Nat) (r1 : Nat) (x2 : Int32) (h : AH) (hw : m_KM_ofKey Q E r0 r1 x2 h) : ∀ (ls : Array Slot) (H : Heap) (locs : List Loc) (cells slots : Nat), lv_has ls 3 [(0, .ref r0), (1, .ref r1), (2, .int x2)] → fx_F D h0 h H locs cells slots → W p l e R s m args below meth c H locs cells slots (fx_Z D below s h0 (fx_oI Q E)) (F0 m 0 ls []) := by
  unfold m_KM_ofKey at hw
  intro ls H locs cells slots hv F
  refine lv_aload_n C.ex C.by d_KM_ofKey_0 rfl (lv_at hv 0 rfl) ?_
  refine lv_aload_n C.ex C.by d_KM_ofKey_1 rfl (lv_at hv 1 rfl) ?_
  refine lv_iload_n C.ex C.by d_KM_ofKey_2 rfl (lv_at hv 2 rfl) ?_
  obtain ⟨hk1, hw⟩ := hw
  refine fx_callI C F (c_KM_algorithm hl hw) hm_KM_algorithm hi_KM_algorithm hv.1 (by decide) (Nat.le_of_ble_eq_true rfl) (iv_KM_algorithm C F lm_KM_52 hk1 d_KM_ofKey_3) (fx_out0 _) (fun _ _ hE hx => Or.inr ⟨_, rfl, hE hx⟩) (fun v1 h1 H locs cells slots hw hx1 F => ?_)
  replace hw := hw hx1
  have hk1 := (hx1).k hk1
  exact fx_iret C F d_KM_ofKey_6 (Or.inl ⟨_, rfl, hw⟩)
theorem hm_KM_ofKey : fx_hd y_KM_ofKey prog_7_method_4_code 3 (Option.some FieldType.int) [] ∈ tables_1 := (fx_m3 (List.mem_of_getElem? (i := 211) rfl))
theorem hi_KM_ofKey : Cond.initialized y_KM_ofKey.cls ∈ tables_1 := (fx_m1 (List.mem_of_getElem? (i := 6) rfl))
theorem c_KM_ofKey {l : Launch} (hl : l.flags = flags0) {D : DD} {Q : Int32 → AH → Prop} {E : Nat → AH → Prop} {r0 : Nat} {r1 : Nat} {x2 : Int32} {h : AH} (hw : m_KM_ofKey Q E r0 r1 x2 h) : fx_Mt l D y_KM_ofKey (fx_hd y_KM_ofKey prog_7_method_4_code 3 (Option.some FieldType.int) []) 10 140 [.ref r0, .ref r1, .int x2] h (fx_oI Q E) := by
  refine fx_ofW (plainFor_of_name (by decide)) (fun p e s m below meth c C F => ?_)
  have hv := lv_entry ([.ref r0, .ref r1, .int x2]) (n := 3) (Nat.le_of_ble_eq_true rfl)
  rw [lg_entry_eq]
  generalize (lg_sl ([.ref r0, .ref r1, .int x2]) ++ List.replicate (3 - (lg_sl ([.ref r0, .ref r1, .int x2])).length) Slot.unset).toArray = ls at hv ⊢
  have hv : lv_has ls 3 [(0, .ref r0), (1, .ref r1), (2, .int x2)] := hv
  exact b_KM_ofKey_0 C hl _ _ _ _ hw _ _ _ _ _ hv F
/-! ChainJudge$KeyedMarks.key(I[BII)Z: frames 0, words 0 -/
abbrev y_KM_key : MethodName := ⟨"ChainJudge$KeyedMarks", "key", "(I[BII)Z"⟩
def dl_KM_key : List (Nat × Instr × Nat) := [(0, .iload 4, 2), (2, .bipush 32, 2), (4, .if_icmp .ne 7, 3), (7, .iconst 1, 1), (8, .goto 4, 3), (11, .iconst 0, 1), (12, .ireturn, 1)]
theorem dk_KM_key : fx_dec prog_7_method_5_code dl_KM_key = true := by decide +kernel
theorem d_KM_key_0 : decode prog_7_method_5_code 0 = .ok (.iload 4, 2) := fx_dat dk_KM_key 0 rfl
theorem d_KM_key_2 : decode prog_7_method_5_code 2 = .ok (.bipush 32, 2) := fx_dat dk_KM_key 1 rfl
theorem d_KM_key_4 : decode prog_7_method_5_code 4 = .ok (.if_icmp .ne 7, 3) := fx_dat dk_KM_key 2 rfl
theorem d_KM_key_7 : decode prog_7_method_5_code 7 = .ok (.iconst 1, 1) := fx_dat dk_KM_key 3 rfl
theorem d_KM_key_8 : decode prog_7_method_5_code 8 = .ok (.goto 4, 3) := fx_dat dk_KM_key 4 rfl
theorem d_KM_key_11 : decode prog_7_method_5_code 11 = .ok (.iconst 0, 1) := fx_dat dk_KM_key 5 rfl
theorem d_KM_key_12 : decode prog_7_method_5_code 12 = .ok (.ireturn, 1) := fx_dat dk_KM_key 6 rfl
def m_KM_key_12 (Q : Int32 → AH → Prop) (sx0 : Int32) (h : AH) : Prop := zb sx0 ∧ Q sx0 h
def m_KM_key (Q : Int32 → AH → Prop) (r0 : Nat) (x1 : Int32) (r2 : Nat) (x3 : Int32) (x4 : Int32) (h : AH) : Prop := (¬ x4 = (32 : Int32) → m_KM_key_12 Q (0 : Int32) h) ∧ (x4 = (32 : Int32) → m_KM_key_12 Q (1 : Int32) h)
theorem b_KM_key_12 {p : Program} {l : Launch} {e : Env} {R : Room} {s : State} {m : MethodId} {args : Array Value} {below : List Frame} {meth : Method} {c : Code} {D : DD} {h0 : AH} {Q : Int32 → AH → Prop} (C : fx_CX D y_KM_key prog_7_method_5_code 5 0 0 (Option.some FieldType.boolean) [] h0 p R s m meth c) (hl : l.flags = flags0) (sx0 : Int32) (h : AH) (hw : m_KM_key_12 Q sx0 h) : ∀ (ls : Array Slot) (H : Heap) (locs : List Loc) (cells slots : Nat), lv_has ls 5 [] → fx_F D h0 h H locs cells slots → W p l e R s m args below meth c H locs cells slots (fx_Z D below s h0 (fx_oZ Q fx_no)) (F0 m 12 ls [.int sx0]) := by
  unfold m_KM_key_12 at hw
  intro ls H locs cells slots hv F
  exact fx_zret C F d_KM_key_12 hw.1 (Or.inl ⟨_, rfl, hw.1, hw.2⟩)
theorem b_KM_key_0 {p : Program} {l : Launch} {e : Env} {R : Room} {s : State} {m : MethodId} {args : Array Value} {below : List Frame} {meth : Method} {c : Code} {D : DD} {h0 : AH} {Q : Int32 → AH → Prop} (C : fx_CX D y_KM_key prog_7_method_5_code 5 0 0 (Option.some FieldType.boolean) [] h0 p R s m meth c) (hl : l.flags = flags0) (r0 : Nat) (x1 : Int32) (r2 : Nat) (x3 : Int32) (x4 : Int32) (h : AH) (hw : m_KM_key Q r0 x1 r2 x3 x4 h) : ∀ (ls : Array Slot) (H : Heap) (locs : List Loc) (cells slots : Nat), lv_has ls 5 [(0, .ref r0), (1, .int x1), (2, .ref r2), (3, .int x3), (4, .int x4)] → fx_F D h0 h H locs cells slots → W p l e R s m args below meth c H locs cells slots (fx_Z D below s h0 (fx_oZ Q fx_no)) (F0 m 0 ls []) := by
  unfold m_KM_key at hw
  intro ls H locs cells slots hv F
  refine lv_iload C.ex C.by d_KM_key_0 (lv_at hv 4 rfl) ?_
  refine lv_bipush (v := (32 : Int32)) C.ex C.by d_KM_key_2 (by decide) ?_
  refine lv_icmp_ne C.ex C.by d_KM_key_4 rfl (fun hc => ?_) (fun hc => ?_)
  · replace hw := hw.1 hc
    refine lv_iconst (v := (0 : Int32)) C.ex C.by d_KM_key_11 (by decide) ?_
    exact b_KM_key_12 C hl _ _ hw _ _ _ _ _ (lv_sub hv [] rfl) F
  · replace hw := hw.2 hc
    refine lv_iconst (v := (1 : Int32)) C.ex C.by d_KM_key_7 (by decide) ?_
    refine lv_goto C.ex C.by d_KM_key_8 rfl ?_
    exact b_KM_key_12 C hl _ _ hw _ _ _ _ _ (lv_sub hv [] rfl) F
theorem hm_KM_key : fx_hd y_KM_key prog_7_method_5_code 5 (Option.some FieldType.boolean) [] ∈ tables_1 := (fx_m3 (List.mem_of_getElem? (i := 220) rfl))
theorem hi_KM_key : Cond.initialized y_KM_key.cls ∈ tables_1 := (fx_m1 (List.mem_of_getElem? (i := 6) rfl))
theorem c_KM_key {l : Launch} (hl : l.flags = flags0) {D : DD} {Q : Int32 → AH → Prop} {r0 : Nat} {x1 : Int32} {r2 : Nat} {x3 : Int32} {x4 : Int32} {h : AH} (hw : m_KM_key Q r0 x1 r2 x3 x4 h) : fx_Mt l D y_KM_key (fx_hd y_KM_key prog_7_method_5_code 5 (Option.some FieldType.boolean) []) 0 0 [.ref r0, .int x1, .ref r2, .int x3, .int x4] h (fx_oZ Q fx_no) := by
  refine fx_ofW (plainFor_of_name (by decide)) (fun p e s m below meth c C F => ?_)
  have hv := lv_entry ([.ref r0, .int x1, .ref r2, .int x3, .int x4]) (n := 5) (Nat.le_of_ble_eq_true rfl)
  rw [lg_entry_eq]
  generalize (lg_sl ([.ref r0, .int x1, .ref r2, .int x3, .int x4]) ++ List.replicate (5 - (lg_sl ([.ref r0, .int x1, .ref r2, .int x3, .int x4])).length) Slot.unset).toArray = ls at hv ⊢
  have hv : lv_has ls 5 [(0, .ref r0), (1, .int x1), (2, .ref r2), (3, .int x3), (4, .int x4)] := hv
  exact b_KM_key_0 C hl _ _ _ _ _ _ hw _ _ _ _ _ hv F
/-! ChainJudge$Certificate.twice(IIII)Z: frames 9, words 124, throws -/
abbrev y_Cert_twice : MethodName := ⟨"ChainJudge$Certificate", "twice", "(IIII)Z"⟩
def dl_Cert_twice : List (Nat × Instr × Nat) := [(0, .aload_n 0, 1), (1, .getfield 10, 3), (4, .getfield 106, 3), (7, .istore 5, 2), (9, .iconst 0, 1), (10, .istore 6, 2), (12, .aload_n 0, 1), (13, .getfield 10, 3), (16, .iload_n 1, 1), (17, .putfield 106, 3), (20, .aload_n 0, 1), (21, .getfield 10, 3), (24, .getfield 106, 3), (27, .iload_n 2, 1), (28, .if_icmp .ge 118, 3), (31, .aload_n 0, 1), (32, .getfield 10, 3), (35, .bipush 48, 2), (37, .iload_n 2, 1), (38, .invokevirtual 115, 3), (41, .istore 7, 2), (43, .aload_n 0, 1), (44, .getfield 10, 3), (47, .iload 7, 2), (49, .invokevirtual 152, 3), (52, .istore 8, 2), (54, .aload_n 0, 1), (55, .getfield 10, 3), (58, .getfield 106, 3), (61, .iload 8, 2), (63, .isub, 1), (64, .iload 4, 2), (66, .if_icmp .ne 7, 3), (69, .iconst 1, 1), (70, .goto 4, 3), (73, .iconst 0, 1), (74, .istore 9, 2), (76, .iconst 0, 1), (77, .istore 10, 2), (79, .iload 9, 2), (81, .ifCond .eq 45, 3), (84, .iload 10, 2), (86, .iload 4, 2), (88, .if_icmp .ge 38, 3), (91, .aload_n 0, 1), (92, .getfield 16, 3), (95, .iload 8, 2), (97, .iload 10, 2), (99, .iadd, 1), (100, .baload, 1), (101, .aload_n 0, 1), (102, .getfield 16, 3), (105, .iload_n 3, 1), (106, .iload 10, 2), (108, .iadd, 1), (109, .baload, 1), (110, .if_icmp .ne 7, 3), (113, .iconst 1, 1), (114, .goto 4, 3), (117, .iconst 0, 1), (118, .istore 9, 2), (120, .iinc 10 1, 3), (123, .goto (-44), 3), (126, .iload 9, 2), (128, .ifCond .eq 6, 3), (131, .iconst 1, 1), (132, .istore 6, 2), (134, .aload_n 0, 1), (135, .getfield 10, 3), (138, .iload 7, 2), (140, .putfield 106, 3), (143, .goto (-123), 3), (146, .aload_n 0, 1), (147, .getfield 10, 3), (150, .iload 5, 2), (152, .putfield 106, 3), (155, .iload 6, 2), (157, .ireturn, 1)]
theorem dk_Cert_twice : fx_dec prog_2_method_10_code dl_Cert_twice = true := by decide +kernel
theorem d_Cert_twice_0 : decode prog_2_method_10_code 0 = .ok (.aload_n 0, 1) := fx_dat dk_Cert_twice 0 rfl
theorem d_Cert_twice_1 : decode prog_2_method_10_code 1 = .ok (.getfield 10, 3) := fx_dat dk_Cert_twice 1 rfl
theorem d_Cert_twice_4 : decode prog_2_method_10_code 4 = .ok (.getfield 106, 3) := fx_dat dk_Cert_twice 2 rfl
theorem d_Cert_twice_7 : decode prog_2_method_10_code 7 = .ok (.istore 5, 2) := fx_dat dk_Cert_twice 3 rfl
theorem d_Cert_twice_9 : decode prog_2_method_10_code 9 = .ok (.iconst 0, 1) := fx_dat dk_Cert_twice 4 rfl
theorem d_Cert_twice_10 : decode prog_2_method_10_code 10 = .ok (.istore 6, 2) := fx_dat dk_Cert_twice 5 rfl
theorem d_Cert_twice_12 : decode prog_2_method_10_code 12 = .ok (.aload_n 0, 1) := fx_dat dk_Cert_twice 6 rfl
theorem d_Cert_twice_13 : decode prog_2_method_10_code 13 = .ok (.getfield 10, 3) := fx_dat dk_Cert_twice 7 rfl
theorem d_Cert_twice_16 : decode prog_2_method_10_code 16 = .ok (.iload_n 1, 1) := fx_dat dk_Cert_twice 8 rfl
theorem d_Cert_twice_17 : decode prog_2_method_10_code 17 = .ok (.putfield 106, 3) := fx_dat dk_Cert_twice 9 rfl
theorem d_Cert_twice_20 : decode prog_2_method_10_code 20 = .ok (.aload_n 0, 1) := fx_dat dk_Cert_twice 10 rfl
theorem d_Cert_twice_21 : decode prog_2_method_10_code 21 = .ok (.getfield 10, 3) := fx_dat dk_Cert_twice 11 rfl
theorem d_Cert_twice_24 : decode prog_2_method_10_code 24 = .ok (.getfield 106, 3) := fx_dat dk_Cert_twice 12 rfl
theorem d_Cert_twice_27 : decode prog_2_method_10_code 27 = .ok (.iload_n 2, 1) := fx_dat dk_Cert_twice 13 rfl
theorem d_Cert_twice_28 : decode prog_2_method_10_code 28 = .ok (.if_icmp .ge 118, 3) := fx_dat dk_Cert_twice 14 rfl
theorem d_Cert_twice_31 : decode prog_2_method_10_code 31 = .ok (.aload_n 0, 1) := fx_dat dk_Cert_twice 15 rfl
theorem d_Cert_twice_32 : decode prog_2_method_10_code 32 = .ok (.getfield 10, 3) := fx_dat dk_Cert_twice 16 rfl
theorem d_Cert_twice_35 : decode prog_2_method_10_code 35 = .ok (.bipush 48, 2) := fx_dat dk_Cert_twice 17 rfl
theorem d_Cert_twice_37 : decode prog_2_method_10_code 37 = .ok (.iload_n 2, 1) := fx_dat dk_Cert_twice 18 rfl
theorem d_Cert_twice_38 : decode prog_2_method_10_code 38 = .ok (.invokevirtual 115, 3) := fx_dat dk_Cert_twice 19 rfl
theorem d_Cert_twice_41 : decode prog_2_method_10_code 41 = .ok (.istore 7, 2) := fx_dat dk_Cert_twice 20 rfl
theorem d_Cert_twice_43 : decode prog_2_method_10_code 43 = .ok (.aload_n 0, 1) := fx_dat dk_Cert_twice 21 rfl
theorem d_Cert_twice_44 : decode prog_2_method_10_code 44 = .ok (.getfield 10, 3) := fx_dat dk_Cert_twice 22 rfl
theorem d_Cert_twice_47 : decode prog_2_method_10_code 47 = .ok (.iload 7, 2) := fx_dat dk_Cert_twice 23 rfl
theorem d_Cert_twice_49 : decode prog_2_method_10_code 49 = .ok (.invokevirtual 152, 3) := fx_dat dk_Cert_twice 24 rfl
theorem d_Cert_twice_52 : decode prog_2_method_10_code 52 = .ok (.istore 8, 2) := fx_dat dk_Cert_twice 25 rfl
theorem d_Cert_twice_54 : decode prog_2_method_10_code 54 = .ok (.aload_n 0, 1) := fx_dat dk_Cert_twice 26 rfl
theorem d_Cert_twice_55 : decode prog_2_method_10_code 55 = .ok (.getfield 10, 3) := fx_dat dk_Cert_twice 27 rfl
theorem d_Cert_twice_58 : decode prog_2_method_10_code 58 = .ok (.getfield 106, 3) := fx_dat dk_Cert_twice 28 rfl
theorem d_Cert_twice_61 : decode prog_2_method_10_code 61 = .ok (.iload 8, 2) := fx_dat dk_Cert_twice 29 rfl
theorem d_Cert_twice_63 : decode prog_2_method_10_code 63 = .ok (.isub, 1) := fx_dat dk_Cert_twice 30 rfl
theorem d_Cert_twice_64 : decode prog_2_method_10_code 64 = .ok (.iload 4, 2) := fx_dat dk_Cert_twice 31 rfl
theorem d_Cert_twice_66 : decode prog_2_method_10_code 66 = .ok (.if_icmp .ne 7, 3) := fx_dat dk_Cert_twice 32 rfl
theorem d_Cert_twice_69 : decode prog_2_method_10_code 69 = .ok (.iconst 1, 1) := fx_dat dk_Cert_twice 33 rfl
theorem d_Cert_twice_70 : decode prog_2_method_10_code 70 = .ok (.goto 4, 3) := fx_dat dk_Cert_twice 34 rfl
theorem d_Cert_twice_73 : decode prog_2_method_10_code 73 = .ok (.iconst 0, 1) := fx_dat dk_Cert_twice 35 rfl
theorem d_Cert_twice_74 : decode prog_2_method_10_code 74 = .ok (.istore 9, 2) := fx_dat dk_Cert_twice 36 rfl
theorem d_Cert_twice_76 : decode prog_2_method_10_code 76 = .ok (.iconst 0, 1) := fx_dat dk_Cert_twice 37 rfl
theorem d_Cert_twice_77 : decode prog_2_method_10_code 77 = .ok (.istore 10, 2) := fx_dat dk_Cert_twice 38 rfl
theorem d_Cert_twice_79 : decode prog_2_method_10_code 79 = .ok (.iload 9, 2) := fx_dat dk_Cert_twice 39 rfl
theorem d_Cert_twice_81 : decode prog_2_method_10_code 81 = .ok (.ifCond .eq 45, 3) := fx_dat dk_Cert_twice 40 rfl
theorem d_Cert_twice_84 : decode prog_2_method_10_code 84 = .ok (.iload 10, 2) := fx_dat dk_Cert_twice 41 rfl
theorem d_Cert_twice_86 : decode prog_2_method_10_code 86 = .ok (.iload 4, 2) := fx_dat dk_Cert_twice 42 rfl
theorem d_Cert_twice_88 : decode prog_2_method_10_code 88 = .ok (.if_icmp .ge 38, 3) := fx_dat dk_Cert_twice 43 rfl
theorem d_Cert_twice_91 : decode prog_2_method_10_code 91 = .ok (.aload_n 0, 1) := fx_dat dk_Cert_twice 44 rfl
theorem d_Cert_twice_92 : decode prog_2_method_10_code 92 = .ok (.getfield 16, 3) := fx_dat dk_Cert_twice 45 rfl
theorem d_Cert_twice_95 : decode prog_2_method_10_code 95 = .ok (.iload 8, 2) := fx_dat dk_Cert_twice 46 rfl
theorem d_Cert_twice_97 : decode prog_2_method_10_code 97 = .ok (.iload 10, 2) := fx_dat dk_Cert_twice 47 rfl
theorem d_Cert_twice_99 : decode prog_2_method_10_code 99 = .ok (.iadd, 1) := fx_dat dk_Cert_twice 48 rfl
theorem d_Cert_twice_100 : decode prog_2_method_10_code 100 = .ok (.baload, 1) := fx_dat dk_Cert_twice 49 rfl
theorem d_Cert_twice_101 : decode prog_2_method_10_code 101 = .ok (.aload_n 0, 1) := fx_dat dk_Cert_twice 50 rfl
theorem d_Cert_twice_102 : decode prog_2_method_10_code 102 = .ok (.getfield 16, 3) := fx_dat dk_Cert_twice 51 rfl
theorem d_Cert_twice_105 : decode prog_2_method_10_code 105 = .ok (.iload_n 3, 1) := fx_dat dk_Cert_twice 52 rfl
theorem d_Cert_twice_106 : decode prog_2_method_10_code 106 = .ok (.iload 10, 2) := fx_dat dk_Cert_twice 53 rfl
theorem d_Cert_twice_108 : decode prog_2_method_10_code 108 = .ok (.iadd, 1) := fx_dat dk_Cert_twice 54 rfl
theorem d_Cert_twice_109 : decode prog_2_method_10_code 109 = .ok (.baload, 1) := fx_dat dk_Cert_twice 55 rfl
theorem d_Cert_twice_110 : decode prog_2_method_10_code 110 = .ok (.if_icmp .ne 7, 3) := fx_dat dk_Cert_twice 56 rfl
theorem d_Cert_twice_113 : decode prog_2_method_10_code 113 = .ok (.iconst 1, 1) := fx_dat dk_Cert_twice 57 rfl
theorem d_Cert_twice_114 : decode prog_2_method_10_code 114 = .ok (.goto 4, 3) := fx_dat dk_Cert_twice 58 rfl
theorem d_Cert_twice_117 : decode prog_2_method_10_code 117 = .ok (.iconst 0, 1) := fx_dat dk_Cert_twice 59 rfl
theorem d_Cert_twice_118 : decode prog_2_method_10_code 118 = .ok (.istore 9, 2) := fx_dat dk_Cert_twice 60 rfl
theorem d_Cert_twice_120 : decode prog_2_method_10_code 120 = .ok (.iinc 10 1, 3) := fx_dat dk_Cert_twice 61 rfl
theorem d_Cert_twice_123 : decode prog_2_method_10_code 123 = .ok (.goto (-44), 3) := fx_dat dk_Cert_twice 62 rfl
theorem d_Cert_twice_126 : decode prog_2_method_10_code 126 = .ok (.iload 9, 2) := fx_dat dk_Cert_twice 63 rfl
theorem d_Cert_twice_128 : decode prog_2_method_10_code 128 = .ok (.ifCond .eq 6, 3) := fx_dat dk_Cert_twice 64 rfl
theorem d_Cert_twice_131 : decode prog_2_method_10_code 131 = .ok (.iconst 1, 1) := fx_dat dk_Cert_twice 65 rfl
theorem d_Cert_twice_132 : decode prog_2_method_10_code 132 = .ok (.istore 6, 2) := fx_dat dk_Cert_twice 66 rfl
theorem d_Cert_twice_134 : decode prog_2_method_10_code 134 = .ok (.aload_n 0, 1) := fx_dat dk_Cert_twice 67 rfl
theorem d_Cert_twice_135 : decode prog_2_method_10_code 135 = .ok (.getfield 10, 3) := fx_dat dk_Cert_twice 68 rfl
theorem d_Cert_twice_138 : decode prog_2_method_10_code 138 = .ok (.iload 7, 2) := fx_dat dk_Cert_twice 69 rfl
theorem d_Cert_twice_140 : decode prog_2_method_10_code 140 = .ok (.putfield 106, 3) := fx_dat dk_Cert_twice 70 rfl
theorem d_Cert_twice_143 : decode prog_2_method_10_code 143 = .ok (.goto (-123), 3) := fx_dat dk_Cert_twice 71 rfl
theorem d_Cert_twice_146 : decode prog_2_method_10_code 146 = .ok (.aload_n 0, 1) := fx_dat dk_Cert_twice 72 rfl
theorem d_Cert_twice_147 : decode prog_2_method_10_code 147 = .ok (.getfield 10, 3) := fx_dat dk_Cert_twice 73 rfl
theorem d_Cert_twice_150 : decode prog_2_method_10_code 150 = .ok (.iload 5, 2) := fx_dat dk_Cert_twice 74 rfl
theorem d_Cert_twice_152 : decode prog_2_method_10_code 152 = .ok (.putfield 106, 3) := fx_dat dk_Cert_twice 75 rfl
theorem d_Cert_twice_155 : decode prog_2_method_10_code 155 = .ok (.iload 6, 2) := fx_dat dk_Cert_twice 76 rfl
theorem d_Cert_twice_157 : decode prog_2_method_10_code 157 = .ok (.ireturn, 1) := fx_dat dk_Cert_twice 77 rfl
def m_Cert_twice_134 (Q : Int32 → AH → Prop) (E : Nat → AH → Prop) (X20 : Int32 × AH → Prop) (r0 : Nat) (x2 : Int32) (x3 : Int32) (x4 : Int32) (x5 : Int32) (x6 : Int32) (x7 : Int32) (h : AH) : Prop := hp_k h r0 = 8 ∧ ∃ b1, hp_R h r0 1 = some b1 ∧ hp_k h b1 = 9 ∧ ∀ h1 : AH, h1 = up_I h b1 1 x7 → X20 (x6, h1)
def m_Cert_twice_126 (Q : Int32 → AH → Prop) (E : Nat → AH → Prop) (X20 : Int32 × AH → Prop) (r0 : Nat) (x2 : Int32) (x3 : Int32) (x4 : Int32) (x5 : Int32) (x6 : Int32) (x7 : Int32) (x9 : Int32) (h : AH) : Prop := (x9 = 0 → m_Cert_twice_134 Q E X20 r0 x2 x3 x4 x5 x6 x7 h) ∧ (¬ x9 = 0 → m_Cert_twice_134 Q E X20 r0 x2 x3 x4 x5 (1 : Int32) x7 h)
def m_Cert_twice_118 (Q : Int32 → AH → Prop) (E : Nat → AH → Prop) (X20 : Int32 × AH → Prop) (X79 : Int32 × Int32 × AH → Prop) (r0 : Nat) (x2 : Int32) (x3 : Int32) (x4 : Int32) (x5 : Int32) (x6 : Int32) (x7 : Int32) (x8 : Int32) (x10 : Int32) (sx0 : Int32) (h : AH) : Prop := ∀ v1 : Int32, v1 = (x10 + (1 : Int32)) → X79 (sx0, v1, h)
def m_Cert_twice_79_b (Q : Int32 → AH → Prop) (E : Nat → AH → Prop) (X20 : Int32 × AH → Prop) (X79 : Int32 × Int32 × AH → Prop) (r0 : Nat) (x2 : Int32) (x3 : Int32) (x4 : Int32) (x5 : Int32) (x6 : Int32) (x7 : Int32) (x8 : Int32) (x9 : Int32) (x10 : Int32) (h : AH) : Prop := (x9 = 0 → m_Cert_twice_126 Q E X20 r0 x2 x3 x4 x5 x6 x7 x9 h) ∧ (¬ x9 = 0 → (x4 ≤ x10 → m_Cert_twice_126 Q E X20 r0 x2 x3 x4 x5 x6 x7 x9 h) ∧ (¬ x4 ≤ x10 → hp_k h r0 = 8 ∧ ∃ b1, hp_R h r0 2 = some b1 ∧ bk (hp_k h b1) ∧ vp_in (x8 + x10) (hp_n h b1) ∧ (by8 (hp_I h b1 ((x8 + x10)).toNatClampNeg) → vp_in (x3 + x10) (hp_n h b1) ∧ (by8 (hp_I h b1 ((x3 + x10)).toNatClampNeg) → (¬ (hp_I h b1 ((x8 + x10)).toNatClampNeg) = (hp_I h b1 ((x3 + x10)).toNatClampNeg) → m_Cert_twice_118 Q E X20 X79 r0 x2 x3 x4 x5 x6 x7 x8 x10 (0 : Int32) h) ∧ ((hp_I h b1 ((x8 + x10)).toNatClampNeg) = (hp_I h b1 ((x3 + x10)).toNatClampNeg) → m_Cert_twice_118 Q E X20 X79 r0 x2 x3 x4 x5 x6 x7 x8 x10 (1 : Int32) h)))))
def m_Cert_twice_79 (Q : Int32 → AH → Prop) (E : Nat → AH → Prop) (X20 : Int32 × AH → Prop) (r0 : Nat) (x2 : Int32) (x3 : Int32) (x4 : Int32) (x5 : Int32) (x6 : Int32) (x7 : Int32) (x8 : Int32) (x9 : Int32) (x10 : Int32) (h : AH) : Prop := fx_loop (fun (X79 : Int32 × Int32 × AH → Prop) (st : Int32 × Int32 × AH) => m_Cert_twice_79_b Q E X20 X79 r0 x2 x3 x4 x5 x6 x7 x8 st.1 st.2.1 st.2.2) (x9, x10, h)
def m_Cert_twice_74 (Q : Int32 → AH → Prop) (E : Nat → AH → Prop) (X20 : Int32 × AH → Prop) (r0 : Nat) (x2 : Int32) (x3 : Int32) (x4 : Int32) (x5 : Int32) (x6 : Int32) (x7 : Int32) (x8 : Int32) (sx0 : Int32) (h : AH) : Prop := m_Cert_twice_79 Q E X20 r0 x2 x3 x4 x5 x6 x7 x8 sx0 (0 : Int32) h
def m_Cert_twice_20_b (Q : Int32 → AH → Prop) (E : Nat → AH → Prop) (X20 : Int32 × AH → Prop) (r0 : Nat) (x2 : Int32) (x3 : Int32) (x4 : Int32) (x5 : Int32) (x6 : Int32) (h : AH) : Prop := hp_k h r0 = 8 ∧ ∃ b1, hp_R h r0 1 = some b1 ∧ hp_k h b1 = 9 ∧ (x2 ≤ (hp_I h b1 1) → ∀ h1 : AH, h1 = up_I h b1 1 x5 → zb x6 ∧ Q x6 h1) ∧ (¬ x2 ≤ (hp_I h b1 1) → m_Rd_enter (fun v1 h2 => fx_ext h h2 → ∃ b2, hp_R h2 r0 1 = some b2 ∧ hp_k h2 b2 = 9 ∧ m_Rd_oid (fun v2 h3 => fx_ext h2 h3 → ∃ b3, hp_R h3 r0 1 = some b3 ∧ hp_k h3 b3 = 9 ∧ (¬ ((hp_I h3 b3 1) - v2) = x4 → m_Cert_twice_74 Q E X20 r0 x2 x3 x4 x5 x6 v1 v2 (0 : Int32) h3) ∧ (((hp_I h3 b3 1) - v2) = x4 → m_Cert_twice_74 Q E X20 r0 x2 x3 x4 x5 x6 v1 v2 (1 : Int32) h3)) (fun a ht => fx_ext h2 ht → E a ht) b2 v1 h2) (fun a ht => fx_ext h ht → E a ht) b1 (48 : Int32) x2 h)
def m_Cert_twice_20 (Q : Int32 → AH → Prop) (E : Nat → AH → Prop) (r0 : Nat) (x2 : Int32) (x3 : Int32) (x4 : Int32) (x5 : Int32) (x6 : Int32) (h : AH) : Prop := fx_loop (fun (X20 : Int32 × AH → Prop) (st : Int32 × AH) => m_Cert_twice_20_b Q E X20 r0 x2 x3 x4 x5 st.1 st.2) (x6, h)
def m_Cert_twice (Q : Int32 → AH → Prop) (E : Nat → AH → Prop) (r0 : Nat) (x1 : Int32) (x2 : Int32) (x3 : Int32) (x4 : Int32) (h : AH) : Prop := hp_k h r0 = 8 ∧ ∃ b1, hp_R h r0 1 = some b1 ∧ hp_k h b1 = 9 ∧ ∀ v1 : Int32, v1 = (hp_I h b1 1) → ∀ h1 : AH, h1 = up_I h b1 1 x1 → m_Cert_twice_20 Q E r0 x2 x3 x4 v1 (0 : Int32) h1
theorem b_Cert_twice_134 {p : Program} {l : Launch} {e : Env} {R : Room} {s : State} {m : MethodId} {args : Array Value} {below : List Frame} {meth : Method} {c : Code} {D : DD} {h0 : AH} {Q : Int32 → AH → Prop} {E : Nat → AH → Prop} {X20 : Int32 × AH → Prop} (C : fx_CX D y_Cert_twice prog_2_method_10_code 11 9 124 (Option.some FieldType.boolean) [] h0 p R s m meth c) (hl : l.flags = flags0) (r0 : Nat) (x2 : Int32) (x3 : Int32) (x4 : Int32) (x5 : Int32) (x6 : Int32) (x7 : Int32) (h : AH) (hX20 : ∀ st, X20 st → ∀ (ls : Array Slot) (H : Heap) (locs : List Loc) (cells slots : Nat), lv_has ls 11 [(0, .ref r0), (2, .int x2), (3, .int x3), (4, .int x4), (5, .int x5), (6, .int st.1)] → fx_F D h0 st.2 H locs cells slots → W p l e R s m args below meth c H locs cells slots (fx_Z D below s h0 (fx_oZ Q E)) (F0 m 20 ls [])) (hw : m_Cert_twice_134 Q E X20 r0 x2 x3 x4 x5 x6 x7 h) : ∀ (ls : Array Slot) (H : Heap) (locs : List Loc) (cells slots : Nat), lv_has ls 11 [(0, .ref r0), (2, .int x2), (3, .int x3), (4, .int x4), (5, .int x5), (6, .int x6), (7, .int x7)] → fx_F D h0 h H locs cells slots → W p l e R s m args below meth c H locs cells slots (fx_Z D below s h0 (fx_oZ Q E)) (F0 m 134 ls []) := by
  unfold m_Cert_twice_134 at hw
  intro ls H locs cells slots hv F
  refine lv_aload_n C.ex C.by d_Cert_twice_134 rfl (lv_at hv 0 rfl) ?_
  obtain ⟨hk1, hw⟩ := hw
  obtain ⟨b1, hb1, hw⟩ := hw
  refine fx_getR C F lf_Cert_10 hk1 rfl hb1 d_Cert_twice_135 ?_
  refine lv_iload C.ex C.by d_Cert_twice_138 (lv_at hv 6 rfl) ?_
  obtain ⟨hk2, hw⟩ := hw
  let h1 : AH := up_I h b1 1 x7
  replace hw := hw h1 rfl
  refine fx_putI C F lf_Cert_106 hk2 rfl rfl (fx_mayF.no rfl rfl) d_Cert_twice_140 (fun H locs (F : fx_F D h0 h1 H locs _ _) => ?_)
  refine lv_goto C.ex C.by d_Cert_twice_143 rfl ?_
  exact hX20 _ hw _ _ _ _ _ (lv_sub hv [0, 1, 2, 3, 4, 5] rfl) F
theorem b_Cert_twice_126 {p : Program} {l : Launch} {e : Env} {R : Room} {s : State} {m : MethodId} {args : Array Value} {below : List Frame} {meth : Method} {c : Code} {D : DD} {h0 : AH} {Q : Int32 → AH → Prop} {E : Nat → AH → Prop} {X20 : Int32 × AH → Prop} (C : fx_CX D y_Cert_twice prog_2_method_10_code 11 9 124 (Option.some FieldType.boolean) [] h0 p R s m meth c) (hl : l.flags = flags0) (r0 : Nat) (x2 : Int32) (x3 : Int32) (x4 : Int32) (x5 : Int32) (x6 : Int32) (x7 : Int32) (x9 : Int32) (h : AH) (hX20 : ∀ st, X20 st → ∀ (ls : Array Slot) (H : Heap) (locs : List Loc) (cells slots : Nat), lv_has ls 11 [(0, .ref r0), (2, .int x2), (3, .int x3), (4, .int x4), (5, .int x5), (6, .int st.1)] → fx_F D h0 st.2 H locs cells slots → W p l e R s m args below meth c H locs cells slots (fx_Z D below s h0 (fx_oZ Q E)) (F0 m 20 ls [])) (hw : m_Cert_twice_126 Q E X20 r0 x2 x3 x4 x5 x6 x7 x9 h) : ∀ (ls : Array Slot) (H : Heap) (locs : List Loc) (cells slots : Nat), lv_has ls 11 [(0, .ref r0), (2, .int x2), (3, .int x3), (4, .int x4), (5, .int x5), (6, .int x6), (7, .int x7), (9, .int x9)] → fx_F D h0 h H locs cells slots → W p l e R s m args below meth c H locs cells slots (fx_Z D below s h0 (fx_oZ Q E)) (F0 m 126 ls []) := by
  unfold m_Cert_twice_126 at hw
  intro ls H locs cells slots hv F
  refine lv_iload C.ex C.by d_Cert_twice_126 (lv_at hv 7 rfl) ?_
  refine lv_if_eq C.ex C.by d_Cert_twice_128 rfl (fun hc => ?_) (fun hc => ?_)
  · replace hw := hw.1 hc
    exact b_Cert_twice_134 C hl _ _ _ _ _ _ _ _ hX20 hw _ _ _ _ _ (lv_sub hv [0, 1, 2, 3, 4, 5, 6] rfl) F
  · replace hw := hw.2 hc
    refine lv_iconst (v := (1 : Int32)) C.ex C.by d_Cert_twice_131 (by decide) ?_
    refine lv_istore (lv' := [(6, .int (1 : Int32)), (0, .ref r0), (2, .int x2), (3, .int x3), (4, .int x4), (5, .int x5), (7, .int x7), (9, .int x9)]) C.ex C.by d_Cert_twice_132 hv (by decide) rfl (fun ls hv => ?_)
    exact b_Cert_twice_134 C hl _ _ _ _ _ _ _ _ hX20 hw _ _ _ _ _ (lv_sub hv [1, 2, 3, 4, 5, 0, 6] rfl) F
theorem b_Cert_twice_118 {p : Program} {l : Launch} {e : Env} {R : Room} {s : State} {m : MethodId} {args : Array Value} {below : List Frame} {meth : Method} {c : Code} {D : DD} {h0 : AH} {Q : Int32 → AH → Prop} {E : Nat → AH → Prop} {X20 : Int32 × AH → Prop} {X79 : Int32 × Int32 × AH → Prop} (C : fx_CX D y_Cert_twice prog_2_method_10_code 11 9 124 (Option.some FieldType.boolean) [] h0 p R s m meth c) (hl : l.flags = flags0) (r0 : Nat) (x2 : Int32) (x3 : Int32) (x4 : Int32) (x5 : Int32) (x6 : Int32) (x7 : Int32) (x8 : Int32) (x10 : Int32) (sx0 : Int32) (h : AH) (hX20 : ∀ st, X20 st → ∀ (ls : Array Slot) (H : Heap) (locs : List Loc) (cells slots : Nat), lv_has ls 11 [(0, .ref r0), (2, .int x2), (3, .int x3), (4, .int x4), (5, .int x5), (6, .int st.1)] → fx_F D h0 st.2 H locs cells slots → W p l e R s m args below meth c H locs cells slots (fx_Z D below s h0 (fx_oZ Q E)) (F0 m 20 ls [])) (hX79 : ∀ st, X79 st → ∀ (ls : Array Slot) (H : Heap) (locs : List Loc) (cells slots : Nat), lv_has ls 11 [(0, .ref r0), (2, .int x2), (3, .int x3), (4, .int x4), (5, .int x5), (6, .int x6), (7, .int x7), (8, .int x8), (9, .int st.1), (10, .int st.2.1)] → fx_F D h0 st.2.2 H locs cells slots → W p l e R s m args below meth c H locs cells slots (fx_Z D below s h0 (fx_oZ Q E)) (F0 m 79 ls [])) (hw : m_Cert_twice_118 Q E X20 X79 r0 x2 x3 x4 x5 x6 x7 x8 x10 sx0 h) : ∀ (ls : Array Slot) (H : Heap) (locs : List Loc) (cells slots : Nat), lv_has ls 11 [(0, .ref r0), (2, .int x2), (3, .int x3), (4, .int x4), (5, .int x5), (6, .int x6), (7, .int x7), (8, .int x8), (10, .int x10)] → fx_F D h0 h H locs cells slots → W p l e R s m args below meth c H locs cells slots (fx_Z D below s h0 (fx_oZ Q E)) (F0 m 118 ls [.int sx0]) := by
  unfold m_Cert_twice_118 at hw
  intro ls H locs cells slots hv F
  refine lv_istore (lv' := [(9, .int sx0), (0, .ref r0), (2, .int x2), (3, .int x3), (4, .int x4), (5, .int x5), (6, .int x6), (7, .int x7), (8, .int x8), (10, .int x10)]) C.ex C.by d_Cert_twice_118 hv (by decide) rfl (fun ls hv => ?_)
  let v1 : Int32 := (x10 + (1 : Int32))
  replace hw := hw v1 rfl
  refine lv_iinc (v := v1) (k := 9) (lv' := [(10, .int v1), (9, .int sx0), (0, .ref r0), (2, .int x2), (3, .int x3), (4, .int x4), (5, .int x5), (6, .int x6), (7, .int x7), (8, .int x8)]) C.ex C.by d_Cert_twice_120 hv rfl (congrArg (fun z => x10 + z) (by decide)) (by decide) rfl (fun ls hv => ?_)
  refine lv_goto C.ex C.by d_Cert_twice_123 rfl ?_
  exact hX79 _ hw _ _ _ _ _ (lv_sub hv [2, 3, 4, 5, 6, 7, 8, 9, 1, 0] rfl) F
theorem b_Cert_twice_79 {p : Program} {l : Launch} {e : Env} {R : Room} {s : State} {m : MethodId} {args : Array Value} {below : List Frame} {meth : Method} {c : Code} {D : DD} {h0 : AH} {Q : Int32 → AH → Prop} {E : Nat → AH → Prop} {X20 : Int32 × AH → Prop} (C : fx_CX D y_Cert_twice prog_2_method_10_code 11 9 124 (Option.some FieldType.boolean) [] h0 p R s m meth c) (hl : l.flags = flags0) (r0 : Nat) (x2 : Int32) (x3 : Int32) (x4 : Int32) (x5 : Int32) (x6 : Int32) (x7 : Int32) (x8 : Int32) (x9 : Int32) (x10 : Int32) (h : AH) (hX20 : ∀ st, X20 st → ∀ (ls : Array Slot) (H : Heap) (locs : List Loc) (cells slots : Nat), lv_has ls 11 [(0, .ref r0), (2, .int x2), (3, .int x3), (4, .int x4), (5, .int x5), (6, .int st.1)] → fx_F D h0 st.2 H locs cells slots → W p l e R s m args below meth c H locs cells slots (fx_Z D below s h0 (fx_oZ Q E)) (F0 m 20 ls [])) (hw : m_Cert_twice_79 Q E X20 r0 x2 x3 x4 x5 x6 x7 x8 x9 x10 h) : ∀ (ls : Array Slot) (H : Heap) (locs : List Loc) (cells slots : Nat), lv_has ls 11 [(0, .ref r0), (2, .int x2), (3, .int x3), (4, .int x4), (5, .int x5), (6, .int x6), (7, .int x7), (8, .int x8), (9, .int x9), (10, .int x10)] → fx_F D h0 h H locs cells slots → W p l e R s m args below meth c H locs cells slots (fx_Z D below s h0 (fx_oZ Q E)) (F0 m 79 ls []) := by
  refine fx_loop.use hw (fun st => ∀ (ls : Array Slot) (H : Heap) (locs : List Loc) (cells slots : Nat), lv_has ls 11 [(0, .ref r0), (2, .int x2), (3, .int x3), (4, .int x4), (5, .int x5), (6, .int x6), (7, .int x7), (8, .int x8), (9, .int st.1), (10, .int st.2.1)] → fx_F D h0 st.2.2 H locs cells slots → W p l e R s m args below meth c H locs cells slots (fx_Z D below s h0 (fx_oZ Q E)) (F0 m 79 ls [])) (fun X79 st hX79 hw => ?_)
  obtain ⟨x9, x10, h⟩ := st
  replace hw : m_Cert_twice_79_b Q E X20 X79 r0 x2 x3 x4 x5 x6 x7 x8 x9 x10 h := hw
  unfold m_Cert_twice_79_b at hw
  intro ls H locs cells slots hv F
  refine lv_iload C.ex C.by d_Cert_twice_79 (lv_at hv 8 rfl) ?_
  refine lv_if_eq C.ex C.by d_Cert_twice_81 rfl (fun hc => ?_) (fun hc => ?_)
  · replace hw := hw.1 hc
    exact b_Cert_twice_126 C hl _ _ _ _ _ _ _ _ _ hX20 hw _ _ _ _ _ (lv_sub hv [0, 1, 2, 3, 4, 5, 6, 8] rfl) F
  · replace hw := hw.2 hc
    refine lv_iload C.ex C.by d_Cert_twice_84 (lv_at hv 9 rfl) ?_
    refine lv_iload C.ex C.by d_Cert_twice_86 (lv_at hv 3 rfl) ?_
    refine lv_icmp_ge C.ex C.by d_Cert_twice_88 rfl (fun hc => ?_) (fun hc => ?_)
    · replace hw := hw.1 hc
      exact b_Cert_twice_126 C hl _ _ _ _ _ _ _ _ _ hX20 hw _ _ _ _ _ (lv_sub hv [0, 1, 2, 3, 4, 5, 6, 8] rfl) F
    · replace hw := hw.2 hc
      refine lv_aload_n C.ex C.by d_Cert_twice_91 rfl (lv_at hv 0 rfl) ?_
      obtain ⟨hk1, hw⟩ := hw
      obtain ⟨b1, hb1, hw⟩ := hw
      refine fx_getR C F lf_Cert_16 hk1 rfl hb1 d_Cert_twice_92 ?_
      refine lv_iload C.ex C.by d_Cert_twice_95 (lv_at hv 7 rfl) ?_
      refine lv_iload C.ex C.by d_Cert_twice_97 (lv_at hv 9 rfl) ?_
      refine lv_iadd C.ex C.by d_Cert_twice_99 ?_
      obtain ⟨hk2, hw⟩ := hw
      obtain ⟨hi1, hw⟩ := hw
      refine fx_bald C F hk2 hi1 d_Cert_twice_100 (fun h8 => ?_)
      replace hw := hw h8
      refine lv_aload_n C.ex C.by d_Cert_twice_101 rfl (lv_at hv 0 rfl) ?_
      refine fx_getR C F lf_Cert_16 hk1 rfl hb1 d_Cert_twice_102 ?_
      refine lv_iload_n C.ex C.by d_Cert_twice_105 rfl (lv_at hv 2 rfl) ?_
      refine lv_iload C.ex C.by d_Cert_twice_106 (lv_at hv 9 rfl) ?_
      refine lv_iadd C.ex C.by d_Cert_twice_108 ?_
      obtain ⟨hi2, hw⟩ := hw
      refine fx_bald C F hk2 hi2 d_Cert_twice_109 (fun h8 => ?_)
      replace hw := hw h8
      refine lv_icmp_ne C.ex C.by d_Cert_twice_110 rfl (fun hc => ?_) (fun hc => ?_)
      · replace hw := hw.1 hc
        refine lv_iconst (v := (0 : Int32)) C.ex C.by d_Cert_twice_117 (by decide) ?_
        exact b_Cert_twice_118 C hl _ _ _ _ _ _ _ _ _ _ _ hX20 hX79 hw _ _ _ _ _ (lv_sub hv [0, 1, 2, 3, 4, 5, 6, 7, 9] rfl) F
      · replace hw := hw.2 hc
        refine lv_iconst (v := (1 : Int32)) C.ex C.by d_Cert_twice_113 (by decide) ?_
        refine lv_goto C.ex C.by d_Cert_twice_114 rfl ?_
        exact b_Cert_twice_118 C hl _ _ _ _ _ _ _ _ _ _ _ hX20 hX79 hw _ _ _ _ _ (lv_sub hv [0, 1, 2, 3, 4, 5, 6, 7, 9] rfl) F
theorem b_Cert_twice_74 {p : Program} {l : Launch} {e : Env} {R : Room} {s : State} {m : MethodId} {args : Array Value} {below : List Frame} {meth : Method} {c : Code} {D : DD} {h0 : AH} {Q : Int32 → AH → Prop} {E : Nat → AH → Prop} {X20 : Int32 × AH → Prop} (C : fx_CX D y_Cert_twice prog_2_method_10_code 11 9 124 (Option.some FieldType.boolean) [] h0 p R s m meth c) (hl : l.flags = flags0) (r0 : Nat) (x2 : Int32) (x3 : Int32) (x4 : Int32) (x5 : Int32) (x6 : Int32) (x7 : Int32) (x8 : Int32) (sx0 : Int32) (h : AH) (hX20 : ∀ st, X20 st → ∀ (ls : Array Slot) (H : Heap) (locs : List Loc) (cells slots : Nat), lv_has ls 11 [(0, .ref r0), (2, .int x2), (3, .int x3), (4, .int x4), (5, .int x5), (6, .int st.1)] → fx_F D h0 st.2 H locs cells slots → W p l e R s m args below meth c H locs cells slots (fx_Z D below s h0 (fx_oZ Q E)) (F0 m 20 ls [])) (hw : m_Cert_twice_74 Q E X20 r0 x2 x3 x4 x5 x6 x7 x8 sx0 h) : ∀ (ls : Array Slot) (H : Heap) (locs : List Loc) (cells slots : Nat), lv_has ls 11 [(0, .ref r0), (2, .int x2), (3, .int x3), (4, .int x4), (5, .int x5), (6, .int x6), (7, .int x7), (8, .int x8)] → fx_F D h0 h H locs cells slots → W p l e R s m args below meth c H locs cells slots (fx_Z D below s h0 (fx_oZ Q E)) (F0 m 74 ls [.int sx0]) := by
  unfold m_Cert_twice_74 at hw
  intro ls H locs cells slots hv F
  refine lv_istore (lv' := [(9, .int sx0), (0, .ref r0), (2, .int x2), (3, .int x3), (4, .int x4), (5, .int x5), (6, .int x6), (7, .int x7), (8, .int x8)]) C.ex C.by d_Cert_twice_74 hv (by decide) rfl (fun ls hv => ?_)
  refine lv_iconst (v := (0 : Int32)) C.ex C.by d_Cert_twice_76 (by decide) ?_
  refine lv_istore (lv' := [(10, .int (0 : Int32)), (9, .int sx0), (0, .ref r0), (2, .int x2), (3, .int x3), (4, .int x4), (5, .int x5), (6, .int x6), (7, .int x7), (8, .int x8)]) C.ex C.by d_Cert_twice_77 hv (by decide) rfl (fun ls hv => ?_)
  exact b_Cert_twice_79 C hl _ _ _ _ _ _ _ _ _ _ _ hX20 hw _ _ _ _ _ (lv_sub hv [2, 3, 4, 5, 6, 7, 8, 9, 1, 0] rfl) F
theorem b_Cert_twice_20 {p : Program} {l : Launch} {e : Env} {R : Room} {s : State} {m : MethodId} {args : Array Value} {below : List Frame} {meth : Method} {c : Code} {D : DD} {h0 : AH} {Q : Int32 → AH → Prop} {E : Nat → AH → Prop} (C : fx_CX D y_Cert_twice prog_2_method_10_code 11 9 124 (Option.some FieldType.boolean) [] h0 p R s m meth c) (hl : l.flags = flags0) (r0 : Nat) (x2 : Int32) (x3 : Int32) (x4 : Int32) (x5 : Int32) (x6 : Int32) (h : AH) (hw : m_Cert_twice_20 Q E r0 x2 x3 x4 x5 x6 h) : ∀ (ls : Array Slot) (H : Heap) (locs : List Loc) (cells slots : Nat), lv_has ls 11 [(0, .ref r0), (2, .int x2), (3, .int x3), (4, .int x4), (5, .int x5), (6, .int x6)] → fx_F D h0 h H locs cells slots → W p l e R s m args below meth c H locs cells slots (fx_Z D below s h0 (fx_oZ Q E)) (F0 m 20 ls []) := by
  refine fx_loop.use hw (fun st => ∀ (ls : Array Slot) (H : Heap) (locs : List Loc) (cells slots : Nat), lv_has ls 11 [(0, .ref r0), (2, .int x2), (3, .int x3), (4, .int x4), (5, .int x5), (6, .int st.1)] → fx_F D h0 st.2 H locs cells slots → W p l e R s m args below meth c H locs cells slots (fx_Z D below s h0 (fx_oZ Q E)) (F0 m 20 ls [])) (fun X20 st hX20 hw => ?_)
  obtain ⟨x6, h⟩ := st
  replace hw : m_Cert_twice_20_b Q E X20 r0 x2 x3 x4 x5 x6 h := hw
  unfold m_Cert_twice_20_b at hw
  intro ls H locs cells slots hv F
  refine lv_aload_n C.ex C.by d_Cert_twice_20 rfl (lv_at hv 0 rfl) ?_
  obtain ⟨hk1, hw⟩ := hw
  obtain ⟨b1, hb1, hw⟩ := hw
  refine fx_getR C F lf_Cert_10 hk1 rfl hb1 d_Cert_twice_21 ?_
  obtain ⟨hk2, hw⟩ := hw
  refine fx_getI C F lf_Cert_106 hk2 rfl d_Cert_twice_24 ?_
  refine lv_iload_n C.ex C.by d_Cert_twice_27 rfl (lv_at hv 1 rfl) ?_
  refine lv_icmp_ge C.ex C.by d_Cert_twice_28 rfl (fun hc => ?_) (fun hc => ?_)
  · replace hw := hw.1 hc
    refine lv_aload_n C.ex C.by d_Cert_twice_146 rfl (lv_at hv 0 rfl) ?_
    refine fx_getR C F lf_Cert_10 hk1 rfl hb1 d_Cert_twice_147 ?_
    refine lv_iload C.ex C.by d_Cert_twice_150 (lv_at hv 4 rfl) ?_
    let h1 : AH := up_I h b1 1 x5
    replace hw := hw h1 rfl
    refine fx_putI C F lf_Cert_106 hk2 rfl rfl (fx_mayF.no rfl rfl) d_Cert_twice_152 (fun H locs (F : fx_F D h0 h1 H locs _ _) => ?_)
    refine lv_iload C.ex C.by d_Cert_twice_155 (lv_at hv 5 rfl) ?_
    exact fx_zret C F d_Cert_twice_157 hw.1 (Or.inl ⟨_, rfl, hw.1, hw.2⟩)
  · replace hw := hw.2 hc
    refine lv_aload_n C.ex C.by d_Cert_twice_31 rfl (lv_at hv 0 rfl) ?_
    refine fx_getR C F lf_Cert_10 hk1 rfl hb1 d_Cert_twice_32 ?_
    refine lv_bipush (v := (48 : Int32)) C.ex C.by d_Cert_twice_35 (by decide) ?_
    refine lv_iload_n C.ex C.by d_Cert_twice_37 rfl (lv_at hv 1 rfl) ?_
    refine fx_callI C F (c_Rd_enter hl hw) hm_Rd_enter hi_Rd_enter hv.1 (by decide) (Nat.le_of_ble_eq_true rfl) (iv_Rd_enter C F lm_Cert_115 hk2 d_Cert_twice_38) (fx_out0 _) (fun _ _ hE hx => Or.inr ⟨_, rfl, hE hx⟩) (fun v1 h2 H locs cells slots hw hx1 F => ?_)
    replace hw := hw hx1
    have hk2 := (hx1).k hk2
    have hk1 := (hx1).k hk1
    refine lv_istore (lv' := [(7, .int v1), (0, .ref r0), (2, .int x2), (3, .int x3), (4, .int x4), (5, .int x5), (6, .int x6)]) C.ex C.by d_Cert_twice_41 hv (by decide) rfl (fun ls hv => ?_)
    refine lv_aload_n C.ex C.by d_Cert_twice_43 rfl (lv_at hv 1 rfl) ?_
    obtain ⟨b2, hb2, hw⟩ := hw
    refine fx_getR C F lf_Cert_10 hk1 rfl hb2 d_Cert_twice_44 ?_
    refine lv_iload C.ex C.by d_Cert_twice_47 (lv_at hv 0 rfl) ?_
    obtain ⟨hk3, hw⟩ := hw
    refine fx_callI C F (c_Rd_oid hl hw) hm_Rd_oid hi_Rd_oid hv.1 (by decide) (Nat.le_of_ble_eq_true rfl) (iv_Rd_oid C F lm_Cert_152 hk3 d_Cert_twice_49) (fx_out0 _) (fun _ _ hE hx => Or.inr ⟨_, rfl, hE hx⟩) (fun v2 h3 H locs cells slots hw hx2 F => ?_)
    replace hw := hw hx2
    have hk2 := (hx2).k hk2
    have hk3 := (hx2).k hk3
    have hk1 := (hx2).k hk1
    refine lv_istore (lv' := [(8, .int v2), (7, .int v1), (0, .ref r0), (2, .int x2), (3, .int x3), (4, .int x4), (5, .int x5), (6, .int x6)]) C.ex C.by d_Cert_twice_52 hv (by decide) rfl (fun ls hv => ?_)
    refine lv_aload_n C.ex C.by d_Cert_twice_54 rfl (lv_at hv 2 rfl) ?_
    obtain ⟨b3, hb3, hw⟩ := hw
    refine fx_getR C F lf_Cert_10 hk1 rfl hb3 d_Cert_twice_55 ?_
    obtain ⟨hk4, hw⟩ := hw
    refine fx_getI C F lf_Cert_106 hk4 rfl d_Cert_twice_58 ?_
    refine lv_iload C.ex C.by d_Cert_twice_61 (lv_at hv 0 rfl) ?_
    refine lv_isub C.ex C.by d_Cert_twice_63 ?_
    refine lv_iload C.ex C.by d_Cert_twice_64 (lv_at hv 5 rfl) ?_
    refine lv_icmp_ne C.ex C.by d_Cert_twice_66 rfl (fun hc => ?_) (fun hc => ?_)
    · replace hw := hw.1 hc
      refine lv_iconst (v := (0 : Int32)) C.ex C.by d_Cert_twice_73 (by decide) ?_
      exact b_Cert_twice_74 C hl _ _ _ _ _ _ _ _ _ _ hX20 hw _ _ _ _ _ (lv_sub hv [2, 3, 4, 5, 6, 7, 1, 0] rfl) F
    · replace hw := hw.2 hc
      refine lv_iconst (v := (1 : Int32)) C.ex C.by d_Cert_twice_69 (by decide) ?_
      refine lv_goto C.ex C.by d_Cert_twice_70 rfl ?_
      exact b_Cert_twice_74 C hl _ _ _ _ _ _ _ _ _ _ hX20 hw _ _ _ _ _ (lv_sub hv [2, 3, 4, 5, 6, 7, 1, 0] rfl) F
theorem b_Cert_twice_0 {p : Program} {l : Launch} {e : Env} {R : Room} {s : State} {m : MethodId} {args : Array Value} {below : List Frame} {meth : Method} {c : Code} {D : DD} {h0 : AH} {Q : Int32 → AH → Prop} {E : Nat → AH → Prop} (C : fx_CX D y_Cert_twice prog_2_method_10_code 11 9 124 (Option.some FieldType.boolean) [] h0 p R s m meth c) (hl : l.flags = flags0) (r0 : Nat) (x1 : Int32) (x2 : Int32) (x3 : Int32) (x4 : Int32) (h : AH) (hw : m_Cert_twice Q E r0 x1 x2 x3 x4 h) : ∀ (ls : Array Slot) (H : Heap) (locs : List Loc) (cells slots : Nat), lv_has ls 11 [(0, .ref r0), (1, .int x1), (2, .int x2), (3, .int x3), (4, .int x4)] → fx_F D h0 h H locs cells slots → W p l e R s m args below meth c H locs cells slots (fx_Z D below s h0 (fx_oZ Q E)) (F0 m 0 ls []) := by
  unfold m_Cert_twice at hw
  intro ls H locs cells slots hv F
  refine lv_aload_n C.ex C.by d_Cert_twice_0 rfl (lv_at hv 0 rfl) ?_
  obtain ⟨hk1, hw⟩ := hw
  obtain ⟨b1, hb1, hw⟩ := hw
  refine fx_getR C F lf_Cert_10 hk1 rfl hb1 d_Cert_twice_1 ?_
  obtain ⟨hk2, hw⟩ := hw
  refine fx_getI C F lf_Cert_106 hk2 rfl d_Cert_twice_4 ?_
  let v1 : Int32 := (hp_I h b1 1)
  replace hw := hw v1 rfl
  refine lv_istore (lv' := [(5, .int v1), (0, .ref r0), (1, .int x1), (2, .int x2), (3, .int x3), (4, .int x4)]) C.ex C.by d_Cert_twice_7 hv (by decide) rfl (fun ls hv => ?_)
  refine lv_iconst (v := (0 : Int32)) C.ex C.by d_Cert_twice_9 (by decide) ?_
  refine lv_istore (lv' := [(6, .int (0 : Int32)), (5, .int v1), (0, .ref r0), (1, .int x1), (2, .int x2), (3, .int x3), (4, .int x4)]) C.ex C.by d_Cert_twice_10 hv (by decide) rfl (fun ls hv => ?_)
  refine lv_aload_n C.ex C.by d_Cert_twice_12 rfl (lv_at hv 2 rfl) ?_
  refine fx_getR C F lf_Cert_10 hk1 rfl hb1 d_Cert_twice_13 ?_
  refine lv_iload_n C.ex C.by d_Cert_twice_16 rfl (lv_at hv 3 rfl) ?_
  let h1 : AH := up_I h b1 1 x1
  replace hw := hw h1 rfl
  refine fx_putI C F lf_Cert_106 hk2 rfl rfl (fx_mayF.no rfl rfl) d_Cert_twice_17 (fun H locs (F : fx_F D h0 h1 H locs _ _) => ?_)
  exact b_Cert_twice_20 C hl _ _ _ _ _ _ _ hw _ _ _ _ _ (lv_sub hv [2, 4, 5, 6, 1, 0] rfl) F
theorem hm_Cert_twice : fx_hd y_Cert_twice prog_2_method_10_code 11 (Option.some FieldType.boolean) [] ∈ tables_1 := (fx_m3 (List.mem_of_getElem? (i := 232) rfl))
theorem hi_Cert_twice : Cond.initialized y_Cert_twice.cls ∈ tables_1 := (fx_m1 (List.mem_of_getElem? (i := 11) rfl))
theorem c_Cert_twice {l : Launch} (hl : l.flags = flags0) {D : DD} {Q : Int32 → AH → Prop} {E : Nat → AH → Prop} {r0 : Nat} {x1 : Int32} {x2 : Int32} {x3 : Int32} {x4 : Int32} {h : AH} (hw : m_Cert_twice Q E r0 x1 x2 x3 x4 h) : fx_Mt l D y_Cert_twice (fx_hd y_Cert_twice prog_2_method_10_code 11 (Option.some FieldType.boolean) []) 9 124 [.ref r0, .int x1, .int x2, .int x3, .int x4] h (fx_oZ Q E) := by
  refine fx_ofW (plainFor_of_name (by decide)) (fun p e s m below meth c C F => ?_)
  have hv := lv_entry ([.ref r0, .int x1, .int x2, .int x3, .int x4]) (n := 11) (Nat.le_of_ble_eq_true rfl)
  rw [lg_entry_eq]
  generalize (lg_sl ([.ref r0, .int x1, .int x2, .int x3, .int x4]) ++ List.replicate (11 - (lg_sl ([.ref r0, .int x1, .int x2, .int x3, .int x4])).length) Slot.unset).toArray = ls at hv ⊢
  have hv : lv_has ls 11 [(0, .ref r0), (1, .int x1), (2, .int x2), (3, .int x3), (4, .int x4)] := hv
  exact b_Cert_twice_0 C hl _ _ _ _ _ _ hw _ _ _ _ _ hv F
/-! ChainJudge$Reader.truth(I)Z: frames 8, words 108, throws -/
abbrev y_Rd_truth : MethodName := ⟨"ChainJudge$Reader", "truth", "(I)Z"⟩
def dl_Rd_truth : List (Nat × Instr × Nat) := [(0, .aload_n 0, 1), (1, .iload_n 1, 1), (2, .invokevirtual 20, 3), (5, .iconst 1, 1), (6, .if_icmp .eq 5, 3), (9, .iconst 0, 1), (10, .ireturn, 1), (11, .aload_n 0, 1), (12, .iconst 1, 1), (13, .iload_n 1, 1), (14, .invokevirtual 34, 3), (17, .istore_n 2, 1), (18, .iload_n 2, 1), (19, .aload_n 0, 1), (20, .getfield 13, 3), (23, .isub, 1), (24, .iconst 1, 1), (25, .if_icmp .ne 16, 3), (28, .aload_n 0, 1), (29, .getfield 7, 3), (32, .aload_n 0, 1), (33, .getfield 13, 3), (36, .baload, 1), (37, .iconst (-1), 1), (38, .if_icmp .eq 7, 3), (41, .invokestatic 24, 3), (44, .athrow, 1), (45, .aload_n 0, 1), (46, .iload_n 2, 1), (47, .putfield 13, 3), (50, .iconst 1, 1), (51, .ireturn, 1)]
theorem dk_Rd_truth : fx_dec prog_10_method_10_code dl_Rd_truth = true := by decide +kernel
theorem d_Rd_truth_0 : decode prog_10_method_10_code 0 = .ok (.aload_n 0, 1) := fx_dat dk_Rd_truth 0 rfl
theorem d_Rd_truth_1 : decode prog_10_method_10_code 1 = .ok (.iload_n 1, 1) := fx_dat dk_Rd_truth 1 rfl
theorem d_Rd_truth_2 : decode prog_10_method_10_code 2 = .ok (.invokevirtual 20, 3) := fx_dat dk_Rd_truth 2 rfl
theorem d_Rd_truth_5 : decode prog_10_method_10_code 5 = .ok (.iconst 1, 1) := fx_dat dk_Rd_truth 3 rfl
theorem d_Rd_truth_6 : decode prog_10_method_10_code 6 = .ok (.if_icmp .eq 5, 3) := fx_dat dk_Rd_truth 4 rfl
theorem d_Rd_truth_9 : decode prog_10_method_10_code 9 = .ok (.iconst 0, 1) := fx_dat dk_Rd_truth 5 rfl
theorem d_Rd_truth_10 : decode prog_10_method_10_code 10 = .ok (.ireturn, 1) := fx_dat dk_Rd_truth 6 rfl
theorem d_Rd_truth_11 : decode prog_10_method_10_code 11 = .ok (.aload_n 0, 1) := fx_dat dk_Rd_truth 7 rfl
theorem d_Rd_truth_12 : decode prog_10_method_10_code 12 = .ok (.iconst 1, 1) := fx_dat dk_Rd_truth 8 rfl
theorem d_Rd_truth_13 : decode prog_10_method_10_code 13 = .ok (.iload_n 1, 1) := fx_dat dk_Rd_truth 9 rfl
theorem d_Rd_truth_14 : decode prog_10_method_10_code 14 = .ok (.invokevirtual 34, 3) := fx_dat dk_Rd_truth 10 rfl
theorem d_Rd_truth_17 : decode prog_10_method_10_code 17 = .ok (.istore_n 2, 1) := fx_dat dk_Rd_truth 11 rfl
theorem d_Rd_truth_18 : decode prog_10_method_10_code 18 = .ok (.iload_n 2, 1) := fx_dat dk_Rd_truth 12 rfl
theorem d_Rd_truth_19 : decode prog_10_method_10_code 19 = .ok (.aload_n 0, 1) := fx_dat dk_Rd_truth 13 rfl
theorem d_Rd_truth_20 : decode prog_10_method_10_code 20 = .ok (.getfield 13, 3) := fx_dat dk_Rd_truth 14 rfl
theorem d_Rd_truth_23 : decode prog_10_method_10_code 23 = .ok (.isub, 1) := fx_dat dk_Rd_truth 15 rfl
theorem d_Rd_truth_24 : decode prog_10_method_10_code 24 = .ok (.iconst 1, 1) := fx_dat dk_Rd_truth 16 rfl
theorem d_Rd_truth_25 : decode prog_10_method_10_code 25 = .ok (.if_icmp .ne 16, 3) := fx_dat dk_Rd_truth 17 rfl
theorem d_Rd_truth_28 : decode prog_10_method_10_code 28 = .ok (.aload_n 0, 1) := fx_dat dk_Rd_truth 18 rfl
theorem d_Rd_truth_29 : decode prog_10_method_10_code 29 = .ok (.getfield 7, 3) := fx_dat dk_Rd_truth 19 rfl
theorem d_Rd_truth_32 : decode prog_10_method_10_code 32 = .ok (.aload_n 0, 1) := fx_dat dk_Rd_truth 20 rfl
theorem d_Rd_truth_33 : decode prog_10_method_10_code 33 = .ok (.getfield 13, 3) := fx_dat dk_Rd_truth 21 rfl
theorem d_Rd_truth_36 : decode prog_10_method_10_code 36 = .ok (.baload, 1) := fx_dat dk_Rd_truth 22 rfl
theorem d_Rd_truth_37 : decode prog_10_method_10_code 37 = .ok (.iconst (-1), 1) := fx_dat dk_Rd_truth 23 rfl
theorem d_Rd_truth_38 : decode prog_10_method_10_code 38 = .ok (.if_icmp .eq 7, 3) := fx_dat dk_Rd_truth 24 rfl
theorem d_Rd_truth_41 : decode prog_10_method_10_code 41 = .ok (.invokestatic 24, 3) := fx_dat dk_Rd_truth 25 rfl
theorem d_Rd_truth_44 : decode prog_10_method_10_code 44 = .ok (.athrow, 1) := fx_dat dk_Rd_truth 26 rfl
theorem d_Rd_truth_45 : decode prog_10_method_10_code 45 = .ok (.aload_n 0, 1) := fx_dat dk_Rd_truth 27 rfl
theorem d_Rd_truth_46 : decode prog_10_method_10_code 46 = .ok (.iload_n 2, 1) := fx_dat dk_Rd_truth 28 rfl
theorem d_Rd_truth_47 : decode prog_10_method_10_code 47 = .ok (.putfield 13, 3) := fx_dat dk_Rd_truth 29 rfl
theorem d_Rd_truth_50 : decode prog_10_method_10_code 50 = .ok (.iconst 1, 1) := fx_dat dk_Rd_truth 30 rfl
theorem d_Rd_truth_51 : decode prog_10_method_10_code 51 = .ok (.ireturn, 1) := fx_dat dk_Rd_truth 31 rfl
def m_Rd_truth_41 (Q : Int32 → AH → Prop) (E : Nat → AH → Prop) (h : AH) : Prop := m_Rd_bad (fun q1 h1 => fx_ext h h1 → E q1 h1) h
def m_Rd_truth (Q : Int32 → AH → Prop) (E : Nat → AH → Prop) (r0 : Nat) (x1 : Int32) (h : AH) : Prop := hp_k h r0 = 9 ∧ m_Rd_tag (fun v1 h1 => fx_ext h h1 → (v1 = (1 : Int32) → m_Rd_enter (fun v2 h2 => fx_ext h1 h2 → (¬ (v2 - (hp_I h2 r0 1)) = (1 : Int32) → m_Rd_truth_41 Q E h2) ∧ ((v2 - (hp_I h2 r0 1)) = (1 : Int32) → ∃ b1, hp_R h2 r0 0 = some b1 ∧ bk (hp_k h2 b1) ∧ vp_in (hp_I h2 r0 1) (hp_n h2 b1) ∧ (by8 (hp_I h2 b1 ((hp_I h2 r0 1)).toNatClampNeg) → ((hp_I h2 b1 ((hp_I h2 r0 1)).toNatClampNeg) = (-1 : Int32) → ∀ h3 : AH, h3 = up_I h2 r0 1 v2 → Q (1 : Int32) h3) ∧ (¬ (hp_I h2 b1 ((hp_I h2 r0 1)).toNatClampNeg) = (-1 : Int32) → m_Rd_truth_41 Q E h2)))) (fun a ht => fx_ext h1 ht → E a ht) r0 (1 : Int32) x1 h1) ∧ (¬ v1 = (1 : Int32) → Q (0 : Int32) h1)) r0 x1 h
theorem b_Rd_truth_41 {p : Program} {l : Launch} {e : Env} {R : Room} {s : State} {m : MethodId} {args : Array Value} {below : List Frame} {meth : Method} {c : Code} {D : DD} {h0 : AH} {Q : Int32 → AH → Prop} {E : Nat → AH → Prop} (C : fx_CX D y_Rd_truth prog_10_method_10_code 3 8 108 (Option.some FieldType.boolean) [] h0 p R s m meth c) (hl : l.flags = flags0) (h : AH) (hw : m_Rd_truth_41 Q E h) : ∀ (ls : Array Slot) (H : Heap) (locs : List Loc) (cells slots : Nat), lv_has ls 3 [] → fx_F D h0 h H locs cells slots → W p l e R s m args below meth c H locs cells slots (fx_Z D below s h0 (fx_oZ Q E)) (F0 m 41 ls []) := by
  unfold m_Rd_truth_41 at hw
  intro ls H locs cells slots hv F
  refine fx_callR C F (c_Rd_bad hl hw) hm_Rd_bad hi_Rd_bad hv.1 (by decide) (Nat.le_of_ble_eq_true rfl) (iv_Rd_bad C F lm_Rd_24 d_Rd_truth_41) (fx_out0 _) fx_eno (fun q1 h1 H locs cells slots hw hx1 F => ?_)
  replace hw := hw hx1
  exact fx_athrow C F (fx_out0 _) d_Rd_truth_44 (Or.inr ⟨_, rfl, hw⟩)
theorem b_Rd_truth_0 {p : Program} {l : Launch} {e : Env} {R : Room} {s : State} {m : MethodId} {args : Array Value} {below : List Frame} {meth : Method} {c : Code} {D : DD} {h0 : AH} {Q : Int32 → AH → Prop} {E : Nat → AH → Prop} (C : fx_CX D y_Rd_truth prog_10_method_10_code 3 8 108 (Option.some FieldType.boolean) [] h0 p R s m meth c) (hl : l.flags = flags0) (r0 : Nat) (x1 : Int32) (h : AH) (hw : m_Rd_truth Q E r0 x1 h) : ∀ (ls : Array Slot) (H : Heap) (locs : List Loc) (cells slots : Nat), lv_has ls 3 [(0, .ref r0), (1, .int x1)] → fx_F D h0 h H locs cells slots → W p l e R s m args below meth c H locs cells slots (fx_Z D below s h0 (fx_oZ Q E)) (F0 m 0 ls []) := by
  unfold m_Rd_truth at hw
  intro ls H locs cells slots hv F
  refine lv_aload_n C.ex C.by d_Rd_truth_0 rfl (lv_at hv 0 rfl) ?_
  refine lv_iload_n C.ex C.by d_Rd_truth_1 rfl (lv_at hv 1 rfl) ?_
  obtain ⟨hk1, hw⟩ := hw
  refine fx_callI C F (c_Rd_tag hl hw) hm_Rd_tag hi_Rd_tag hv.1 (by decide) (Nat.le_of_ble_eq_true rfl) (iv_Rd_tag C F lm_Rd_20 hk1 d_Rd_truth_2) (fx_out0 _) fx_eno (fun v1 h1 H locs cells slots hw hx1 F => ?_)
  replace hw := hw hx1
  have hk1 := (hx1).k hk1
  refine lv_iconst (v := (1 : Int32)) C.ex C.by d_Rd_truth_5 (by decide) ?_
  refine lv_icmp_eq C.ex C.by d_Rd_truth_6 rfl (fun hc => ?_) (fun hc => ?_)
  · replace hw := hw.1 hc
    refine lv_aload_n C.ex C.by d_Rd_truth_11 rfl (lv_at hv 0 rfl) ?_
    refine lv_iconst (v := (1 : Int32)) C.ex C.by d_Rd_truth_12 (by decide) ?_
    refine lv_iload_n C.ex C.by d_Rd_truth_13 rfl (lv_at hv 1 rfl) ?_
    refine fx_callI C F (c_Rd_enter hl hw) hm_Rd_enter hi_Rd_enter hv.1 (by decide) (Nat.le_of_ble_eq_true rfl) (iv_Rd_enter C F lm_Rd_34 hk1 d_Rd_truth_14) (fx_out0 _) (fun _ _ hE hx => Or.inr ⟨_, rfl, hE hx⟩) (fun v2 h2 H locs cells slots hw hx2 F => ?_)
    replace hw := hw hx2
    have hk1 := (hx2).k hk1
    refine lv_istore_n (lv' := [(2, .int v2), (0, .ref r0), (1, .int x1)]) C.ex C.by d_Rd_truth_17 rfl hv (by decide) rfl (fun ls hv => ?_)
    refine lv_iload_n C.ex C.by d_Rd_truth_18 rfl (lv_at hv 0 rfl) ?_
    refine lv_aload_n C.ex C.by d_Rd_truth_19 rfl (lv_at hv 1 rfl) ?_
    refine fx_getI C F lf_Rd_13 hk1 rfl d_Rd_truth_20 ?_
    refine lv_isub C.ex C.by d_Rd_truth_23 ?_
    refine lv_iconst (v := (1 : Int32)) C.ex C.by d_Rd_truth_24 (by decide) ?_
    refine lv_icmp_ne C.ex C.by d_Rd_truth_25 rfl (fun hc => ?_) (fun hc => ?_)
    · replace hw := hw.1 hc
      exact b_Rd_truth_41 C hl _ hw _ _ _ _ _ (lv_sub hv [] rfl) F
    · replace hw := hw.2 hc
      refine lv_aload_n C.ex C.by d_Rd_truth_28 rfl (lv_at hv 1 rfl) ?_
      obtain ⟨b1, hb1, hw⟩ := hw
      refine fx_getR C F lf_Rd_7 hk1 rfl hb1 d_Rd_truth_29 ?_
      refine lv_aload_n C.ex C.by d_Rd_truth_32 rfl (lv_at hv 1 rfl) ?_
      refine fx_getI C F lf_Rd_13 hk1 rfl d_Rd_truth_33 ?_
      obtain ⟨hk2, hw⟩ := hw
      obtain ⟨hi1, hw⟩ := hw
      refine fx_bald C F hk2 hi1 d_Rd_truth_36 (fun h8 => ?_)
      replace hw := hw h8
      refine lv_iconst (v := (-1 : Int32)) C.ex C.by d_Rd_truth_37 (by decide) ?_
      refine lv_icmp_eq C.ex C.by d_Rd_truth_38 rfl (fun hc => ?_) (fun hc => ?_)
      · replace hw := hw.1 hc
        refine lv_aload_n C.ex C.by d_Rd_truth_45 rfl (lv_at hv 1 rfl) ?_
        refine lv_iload_n C.ex C.by d_Rd_truth_46 rfl (lv_at hv 0 rfl) ?_
        let h3 : AH := up_I h2 r0 1 v2
        replace hw := hw h3 rfl
        refine fx_putI C F lf_Rd_13 hk1 rfl rfl (fx_mayF.no rfl rfl) d_Rd_truth_47 (fun H locs (F : fx_F D h0 h3 H locs _ _) => ?_)
        refine lv_iconst (v := (1 : Int32)) C.ex C.by d_Rd_truth_50 (by decide) ?_
        exact fx_zret C F d_Rd_truth_51 (Or.inr rfl) (Or.inl ⟨_, rfl, Or.inr rfl, hw⟩)
      · replace hw := hw.2 hc
        exact b_Rd_truth_41 C hl _ hw _ _ _ _ _ (lv_sub hv [] rfl) F
  · replace hw := hw.2 hc
    refine lv_iconst (v := (0 : Int32)) C.ex C.by d_Rd_truth_9 (by decide) ?_
    exact fx_zret C F d_Rd_truth_10 (Or.inl rfl) (Or.inl ⟨_, rfl, Or.inl rfl, hw⟩)
theorem hm_Rd_truth : fx_hd y_Rd_truth prog_10_method_10_code 3 (Option.some FieldType.boolean) [] ∈ tables_1 := (fx_m4 (List.mem_of_getElem? (i := 5) rfl))
theorem hi_Rd_truth : Cond.initialized y_Rd_truth.cls ∈ tables_1 := (fx_m1 (List.mem_of_getElem? (i := 12) rfl))
theorem c_Rd_truth {l : Launch} (hl : l.flags = flags0) {D : DD} {Q : Int32 → AH → Prop} {E : Nat → AH → Prop} {r0 : Nat} {x1 : Int32} {h : AH} (hw : m_Rd_truth Q E r0 x1 h) : fx_Mt l D y_Rd_truth (fx_hd y_Rd_truth prog_10_method_10_code 3 (Option.some FieldType.boolean) []) 8 108 [.ref r0, .int x1] h (fx_oZ Q E) := by
  refine fx_ofW (plainFor_of_name (by decide)) (fun p e s m below meth c C F => ?_)
  have hv := lv_entry ([.ref r0, .int x1]) (n := 3) (Nat.le_of_ble_eq_true rfl)
  rw [lg_entry_eq]
  generalize (lg_sl ([.ref r0, .int x1]) ++ List.replicate (3 - (lg_sl ([.ref r0, .int x1])).length) Slot.unset).toArray = ls at hv ⊢
  have hv : lv_has ls 3 [(0, .ref r0), (1, .int x1)] := hv
  exact b_Rd_truth_0 C hl _ _ _ hw _ _ _ _ _ hv F
