set_option maxRecDepth 10000
/-! ChainJudge$Certificate.extension(II)V: frames 10, words 146, throws -/
abbrev y_Cert_extension : MethodName := ⟨"ChainJudge$Certificate", "extension", "(II)V"⟩
theorem ls_Cert_185 : fx_Ls "ChainJudge$Certificate" 185 3 := ⟨_, rfl, Or.inr ⟨_, (fx_m3 (List.mem_of_getElem? (i := 233) rfl))⟩⟩
theorem ls_Cert_192 : fx_Ls "ChainJudge$Certificate" 192 4 := ⟨_, rfl, Or.inr ⟨_, (fx_m3 (List.mem_of_getElem? (i := 236) rfl))⟩⟩
theorem ls_Cert_195 : fx_Ls "ChainJudge$Certificate" 195 5 := ⟨_, rfl, Or.inr ⟨_, (fx_m3 (List.mem_of_getElem? (i := 238) rfl))⟩⟩
theorem ls_Cert_198 : fx_Ls "ChainJudge$Certificate" 198 6 := ⟨_, rfl, Or.inr ⟨_, (fx_m4 (List.mem_of_getElem? (i := 0) rfl))⟩⟩
theorem lm_Cert_181 : Cond.methodLink "ChainJudge$Certificate" 181 y_Cert_twice ∈ tables_1 ∨ ∃ host, Cond.methodLinkNest "ChainJudge$Certificate" 181 y_Cert_twice host ∈ tables_1 := Or.inl (fx_m3 (List.mem_of_getElem? (i := 229) rfl))
theorem lm_Cert_205 : Cond.methodLink "ChainJudge$Certificate" 205 y_Cert_constraints ∈ tables_1 ∨ ∃ host, Cond.methodLinkNest "ChainJudge$Certificate" 205 y_Cert_constraints host ∈ tables_1 := Or.inl (fx_m4 (List.mem_of_getElem? (i := 6) rfl))
theorem lm_Cert_208 : Cond.methodLink "ChainJudge$Certificate" 208 y_Cert_usage ∈ tables_1 ∨ ∃ host, Cond.methodLinkNest "ChainJudge$Certificate" 208 y_Cert_usage host ∈ tables_1 := Or.inl (fx_m4 (List.mem_of_getElem? (i := 10) rfl))
theorem lm_Cert_210 : Cond.methodLink "ChainJudge$Certificate" 210 y_Cert_hosts ∈ tables_1 ∨ ∃ host, Cond.methodLinkNest "ChainJudge$Certificate" 210 y_Cert_hosts host ∈ tables_1 := Or.inl (fx_m4 (List.mem_of_getElem? (i := 18) rfl))
theorem lm_Cert_212 : Cond.methodLink "ChainJudge$Certificate" 212 y_Cert_purposes ∈ tables_1 ∨ ∃ host, Cond.methodLinkNest "ChainJudge$Certificate" 212 y_Cert_purposes host ∈ tables_1 := Or.inl (fx_m4 (List.mem_of_getElem? (i := 22) rfl))
section
variable {p : Program} {l : Launch} {e : Env} {R : Room} {s : State} {m : MethodId} {args : Array Value} {below : List Frame} {meth : Method} {c : Code} {H : Heap} {locs : List Loc} {cells slots : Nat}
variable {D : DD} {y : MethodName} {cc : ByteArray} {nL kf kw : Nat} {ret : Option FieldType} {hh : List (Nat × Nat × Nat × Nat)} {h0 h : AH} {pc : Nat} {ls : Array Slot} {rest : List Value} {b idx : Nat}
theorem iv_Cert_constraints {x1 : Int32} (C : fx_CX D y cc nL kf kw ret hh h0 p R s m meth c) (F : fx_F D h0 h H locs cells slots) (hw1 : Cond.methodLink y.cls idx y_Cert_constraints ∈ tables_1 ∨ ∃ host, Cond.methodLinkNest y.cls idx y_Cert_constraints host ∈ tables_1) (hk : hp_k h b = 8) (hd : decode cc pc = .ok (.invokevirtual idx, 3)) : fx_IV p l e R s m args below meth c H locs cells slots (F0 m pc ls (.int x1 :: .ref b :: rest)) rest y_Cert_constraints [.ref b, .int x1] 3 := fun T hT X => fx_invV (As := [.int x1]) (Cn := "ChainJudge$Certificate") C X hw1 (fx_m4 (List.mem_of_getElem? (i := 8) rfl)) (fx_selP C ⟨by decide, by decide⟩ (fx_m1 (List.mem_of_getElem? (i := 197) rfl)) (fx_m4 (List.mem_of_getElem? (i := 7) rfl)) (fx_m4 (List.mem_of_getElem? (i := 8) rfl))) hm_Cert_constraints ⟨by decide, by decide⟩ (by rw [hT]; exact fx_clsO (ci := 7) (r := ("ChainJudge$Certificate", fx_T7, 29)) C F rfl (by decide) hk) rfl (n := 1) (by decide +kernel) rfl rfl hd
theorem iv_Cert_hosts {x1 : Int32} (C : fx_CX D y cc nL kf kw ret hh h0 p R s m meth c) (F : fx_F D h0 h H locs cells slots) (hw1 : Cond.methodLink y.cls idx y_Cert_hosts ∈ tables_1 ∨ ∃ host, Cond.methodLinkNest y.cls idx y_Cert_hosts host ∈ tables_1) (hk : hp_k h b = 8) (hd : decode cc pc = .ok (.invokevirtual idx, 3)) : fx_IV p l e R s m args below meth c H locs cells slots (F0 m pc ls (.int x1 :: .ref b :: rest)) rest y_Cert_hosts [.ref b, .int x1] 3 := fun T hT X => fx_invV (As := [.int x1]) (Cn := "ChainJudge$Certificate") C X hw1 (fx_m4 (List.mem_of_getElem? (i := 20) rfl)) (fx_selP C ⟨by decide, by decide⟩ (fx_m1 (List.mem_of_getElem? (i := 197) rfl)) (fx_m4 (List.mem_of_getElem? (i := 19) rfl)) (fx_m4 (List.mem_of_getElem? (i := 20) rfl))) hm_Cert_hosts ⟨by decide, by decide⟩ (by rw [hT]; exact fx_clsO (ci := 7) (r := ("ChainJudge$Certificate", fx_T7, 29)) C F rfl (by decide) hk) rfl (n := 1) (by decide +kernel) rfl rfl hd
theorem iv_Cert_purposes {x1 : Int32} (C : fx_CX D y cc nL kf kw ret hh h0 p R s m meth c) (F : fx_F D h0 h H locs cells slots) (hw1 : Cond.methodLink y.cls idx y_Cert_purposes ∈ tables_1 ∨ ∃ host, Cond.methodLinkNest y.cls idx y_Cert_purposes host ∈ tables_1) (hk : hp_k h b = 8) (hd : decode cc pc = .ok (.invokevirtual idx, 3)) : fx_IV p l e R s m args below meth c H locs cells slots (F0 m pc ls (.int x1 :: .ref b :: rest)) rest y_Cert_purposes [.ref b, .int x1] 3 := fun T hT X => fx_invV (As := [.int x1]) (Cn := "ChainJudge$Certificate") C X hw1 (fx_m4 (List.mem_of_getElem? (i := 24) rfl)) (fx_selP C ⟨by decide, by decide⟩ (fx_m1 (List.mem_of_getElem? (i := 197) rfl)) (fx_m4 (List.mem_of_getElem? (i := 23) rfl)) (fx_m4 (List.mem_of_getElem? (i := 24) rfl))) hm_Cert_purposes ⟨by decide, by decide⟩ (by rw [hT]; exact fx_clsO (ci := 7) (r := ("ChainJudge$Certificate", fx_T7, 29)) C F rfl (by decide) hk) rfl (n := 1) (by decide +kernel) rfl rfl hd
theorem iv_Cert_twice {x1 : Int32} {x2 : Int32} {x3 : Int32} {x4 : Int32} (C : fx_CX D y cc nL kf kw ret hh h0 p R s m meth c) (F : fx_F D h0 h H locs cells slots) (hw1 : Cond.methodLink y.cls idx y_Cert_twice ∈ tables_1 ∨ ∃ host, Cond.methodLinkNest y.cls idx y_Cert_twice host ∈ tables_1) (hk : hp_k h b = 8) (hd : decode cc pc = .ok (.invokevirtual idx, 3)) : fx_IV p l e R s m args below meth c H locs cells slots (F0 m pc ls (.int x4 :: .int x3 :: .int x2 :: .int x1 :: .ref b :: rest)) rest y_Cert_twice [.ref b, .int x1, .int x2, .int x3, .int x4] 3 := fun T hT X => fx_invV (As := [.int x1, .int x2, .int x3, .int x4]) (Cn := "ChainJudge$Certificate") C X hw1 (fx_m3 (List.mem_of_getElem? (i := 231) rfl)) (fx_selP C ⟨by decide, by decide⟩ (fx_m1 (List.mem_of_getElem? (i := 197) rfl)) (fx_m3 (List.mem_of_getElem? (i := 230) rfl)) (fx_m3 (List.mem_of_getElem? (i := 231) rfl))) hm_Cert_twice ⟨by decide, by decide⟩ (by rw [hT]; exact fx_clsO (ci := 7) (r := ("ChainJudge$Certificate", fx_T7, 29)) C F rfl (by decide) hk) rfl (n := 4) (by decide +kernel) rfl rfl hd
theorem iv_Cert_usage {x1 : Int32} (C : fx_CX D y cc nL kf kw ret hh h0 p R s m meth c) (F : fx_F D h0 h H locs cells slots) (hw1 : Cond.methodLink y.cls idx y_Cert_usage ∈ tables_1 ∨ ∃ host, Cond.methodLinkNest y.cls idx y_Cert_usage host ∈ tables_1) (hk : hp_k h b = 8) (hd : decode cc pc = .ok (.invokevirtual idx, 3)) : fx_IV p l e R s m args below meth c H locs cells slots (F0 m pc ls (.int x1 :: .ref b :: rest)) rest y_Cert_usage [.ref b, .int x1] 3 := fun T hT X => fx_invV (As := [.int x1]) (Cn := "ChainJudge$Certificate") C X hw1 (fx_m4 (List.mem_of_getElem? (i := 12) rfl)) (fx_selP C ⟨by decide, by decide⟩ (fx_m1 (List.mem_of_getElem? (i := 197) rfl)) (fx_m4 (List.mem_of_getElem? (i := 11) rfl)) (fx_m4 (List.mem_of_getElem? (i := 12) rfl))) hm_Cert_usage ⟨by decide, by decide⟩ (by rw [hT]; exact fx_clsO (ci := 7) (r := ("ChainJudge$Certificate", fx_T7, 29)) C F rfl (by decide) hk) rfl (n := 1) (by decide +kernel) rfl rfl hd
end
def dl_Cert_extension : List (Nat × Instr × Nat) := [(0, .aload_n 0, 1), (1, .getfield 10, 3), (4, .getfield 106, 3), (7, .istore_n 3, 1), (8, .aload_n 0, 1), (9, .getfield 10, 3), (12, .bipush 48, 2), (14, .iload_n 2, 1), (15, .invokevirtual 115, 3), (18, .istore 4, 2), (20, .aload_n 0, 1), (21, .getfield 10, 3), (24, .iload 4, 2), (26, .invokevirtual 152, 3), (29, .istore 5, 2), (31, .aload_n 0, 1), (32, .getfield 10, 3), (35, .getfield 106, 3), (38, .iload 5, 2), (40, .isub, 1), (41, .istore 6, 2), (43, .aload_n 0, 1), (44, .iload_n 1, 1), (45, .iload_n 3, 1), (46, .iload 5, 2), (48, .iload 6, 2), (50, .invokevirtual 181, 3), (53, .ifCond .eq 7, 3), (56, .invokestatic 128, 3), (59, .athrow, 1), (60, .aload_n 0, 1), (61, .getfield 10, 3), (64, .getstatic 185, 3), (67, .iload 5, 2), (69, .invokevirtual 188, 3), (72, .ifCond .eq 7, 3), (75, .iconst 1, 1), (76, .goto 61, 3), (79, .aload_n 0, 1), (80, .getfield 10, 3), (83, .getstatic 192, 3), (86, .iload 5, 2), (88, .invokevirtual 188, 3), (91, .ifCond .eq 7, 3), (94, .iconst 2, 1), (95, .goto 42, 3), (98, .aload_n 0, 1), (99, .getfield 10, 3), (102, .getstatic 195, 3), (105, .iload 5, 2), (107, .invokevirtual 188, 3), (110, .ifCond .eq 7, 3), (113, .iconst 3, 1), (114, .goto 23, 3), (117, .aload_n 0, 1), (118, .getfield 10, 3), (121, .getstatic 198, 3), (124, .iload 5, 2), (126, .invokevirtual 188, 3), (129, .ifCond .eq 7, 3), (132, .iconst 4, 1), (133, .goto 4, 3), (136, .iconst 0, 1), (137, .istore 7, 2), (139, .aload_n 0, 1), (140, .getfield 10, 3), (143, .iload 4, 2), (145, .invokevirtual 201, 3), (148, .istore 8, 2), (150, .aload_n 0, 1), (151, .getfield 10, 3), (154, .iconst 4, 1), (155, .iload 4, 2), (157, .invokevirtual 115, 3), (160, .istore 9, 2), (162, .iload 7, 2), (164, .tableswitch 68 1 4 #[32, 41, 50, 59], 32), (196, .aload_n 0, 1), (197, .iload 9, 2), (199, .invokevirtual 205, 3), (202, .goto 49, 3), (205, .aload_n 0, 1), (206, .iload 9, 2), (208, .invokevirtual 208, 3), (211, .goto 40, 3), (214, .aload_n 0, 1), (215, .iload 9, 2), (217, .invokevirtual 210, 3), (220, .goto 31, 3), (223, .aload_n 0, 1), (224, .iload 9, 2), (226, .invokevirtual 212, 3), (229, .goto 22, 3), (232, .iload 8, 2), (234, .ifCond .eq 8, 3), (237, .aload_n 0, 1), (238, .iconst 1, 1), (239, .putfield 71, 3), (242, .aload_n 0, 1), (243, .getfield 10, 3), (246, .iload 9, 2), (248, .putfield 106, 3), (251, .aload_n 0, 1), (252, .getfield 10, 3), (255, .iload 9, 2), (257, .invokevirtual 132, 3), (260, .aload_n 0, 1), (261, .getfield 10, 3), (264, .iload 4, 2), (266, .invokevirtual 132, 3), (269, .return_, 1)]
theorem dk_Cert_extension : fx_dec prog_2_method_9_code dl_Cert_extension = true := by decide +kernel
theorem d_Cert_extension_0 : decode prog_2_method_9_code 0 = .ok (.aload_n 0, 1) := fx_dat dk_Cert_extension 0 rfl
theorem d_Cert_extension_1 : decode prog_2_method_9_code 1 = .ok (.getfield 10, 3) := fx_dat dk_Cert_extension 1 rfl
theorem d_Cert_extension_4 : decode prog_2_method_9_code 4 = .ok (.getfield 106, 3) := fx_dat dk_Cert_extension 2 rfl
theorem d_Cert_extension_7 : decode prog_2_method_9_code 7 = .ok (.istore_n 3, 1) := fx_dat dk_Cert_extension 3 rfl
theorem d_Cert_extension_8 : decode prog_2_method_9_code 8 = .ok (.aload_n 0, 1) := fx_dat dk_Cert_extension 4 rfl
theorem d_Cert_extension_9 : decode prog_2_method_9_code 9 = .ok (.getfield 10, 3) := fx_dat dk_Cert_extension 5 rfl
theorem d_Cert_extension_12 : decode prog_2_method_9_code 12 = .ok (.bipush 48, 2) := fx_dat dk_Cert_extension 6 rfl
theorem d_Cert_extension_14 : decode prog_2_method_9_code 14 = .ok (.iload_n 2, 1) := fx_dat dk_Cert_extension 7 rfl
theorem d_Cert_extension_15 : decode prog_2_method_9_code 15 = .ok (.invokevirtual 115, 3) := fx_dat dk_Cert_extension 8 rfl
theorem d_Cert_extension_18 : decode prog_2_method_9_code 18 = .ok (.istore 4, 2) := fx_dat dk_Cert_extension 9 rfl
theorem d_Cert_extension_20 : decode prog_2_method_9_code 20 = .ok (.aload_n 0, 1) := fx_dat dk_Cert_extension 10 rfl
theorem d_Cert_extension_21 : decode prog_2_method_9_code 21 = .ok (.getfield 10, 3) := fx_dat dk_Cert_extension 11 rfl
theorem d_Cert_extension_24 : decode prog_2_method_9_code 24 = .ok (.iload 4, 2) := fx_dat dk_Cert_extension 12 rfl
theorem d_Cert_extension_26 : decode prog_2_method_9_code 26 = .ok (.invokevirtual 152, 3) := fx_dat dk_Cert_extension 13 rfl
theorem d_Cert_extension_29 : decode prog_2_method_9_code 29 = .ok (.istore 5, 2) := fx_dat dk_Cert_extension 14 rfl
theorem d_Cert_extension_31 : decode prog_2_method_9_code 31 = .ok (.aload_n 0, 1) := fx_dat dk_Cert_extension 15 rfl
theorem d_Cert_extension_32 : decode prog_2_method_9_code 32 = .ok (.getfield 10, 3) := fx_dat dk_Cert_extension 16 rfl
theorem d_Cert_extension_35 : decode prog_2_method_9_code 35 = .ok (.getfield 106, 3) := fx_dat dk_Cert_extension 17 rfl
theorem d_Cert_extension_38 : decode prog_2_method_9_code 38 = .ok (.iload 5, 2) := fx_dat dk_Cert_extension 18 rfl
theorem d_Cert_extension_40 : decode prog_2_method_9_code 40 = .ok (.isub, 1) := fx_dat dk_Cert_extension 19 rfl
theorem d_Cert_extension_41 : decode prog_2_method_9_code 41 = .ok (.istore 6, 2) := fx_dat dk_Cert_extension 20 rfl
theorem d_Cert_extension_43 : decode prog_2_method_9_code 43 = .ok (.aload_n 0, 1) := fx_dat dk_Cert_extension 21 rfl
theorem d_Cert_extension_44 : decode prog_2_method_9_code 44 = .ok (.iload_n 1, 1) := fx_dat dk_Cert_extension 22 rfl
theorem d_Cert_extension_45 : decode prog_2_method_9_code 45 = .ok (.iload_n 3, 1) := fx_dat dk_Cert_extension 23 rfl
theorem d_Cert_extension_46 : decode prog_2_method_9_code 46 = .ok (.iload 5, 2) := fx_dat dk_Cert_extension 24 rfl
theorem d_Cert_extension_48 : decode prog_2_method_9_code 48 = .ok (.iload 6, 2) := fx_dat dk_Cert_extension 25 rfl
theorem d_Cert_extension_50 : decode prog_2_method_9_code 50 = .ok (.invokevirtual 181, 3) := fx_dat dk_Cert_extension 26 rfl
theorem d_Cert_extension_53 : decode prog_2_method_9_code 53 = .ok (.ifCond .eq 7, 3) := fx_dat dk_Cert_extension 27 rfl
theorem d_Cert_extension_56 : decode prog_2_method_9_code 56 = .ok (.invokestatic 128, 3) := fx_dat dk_Cert_extension 28 rfl
theorem d_Cert_extension_59 : decode prog_2_method_9_code 59 = .ok (.athrow, 1) := fx_dat dk_Cert_extension 29 rfl
theorem d_Cert_extension_60 : decode prog_2_method_9_code 60 = .ok (.aload_n 0, 1) := fx_dat dk_Cert_extension 30 rfl
theorem d_Cert_extension_61 : decode prog_2_method_9_code 61 = .ok (.getfield 10, 3) := fx_dat dk_Cert_extension 31 rfl
theorem d_Cert_extension_64 : decode prog_2_method_9_code 64 = .ok (.getstatic 185, 3) := fx_dat dk_Cert_extension 32 rfl
theorem d_Cert_extension_67 : decode prog_2_method_9_code 67 = .ok (.iload 5, 2) := fx_dat dk_Cert_extension 33 rfl
theorem d_Cert_extension_69 : decode prog_2_method_9_code 69 = .ok (.invokevirtual 188, 3) := fx_dat dk_Cert_extension 34 rfl
theorem d_Cert_extension_72 : decode prog_2_method_9_code 72 = .ok (.ifCond .eq 7, 3) := fx_dat dk_Cert_extension 35 rfl
theorem d_Cert_extension_75 : decode prog_2_method_9_code 75 = .ok (.iconst 1, 1) := fx_dat dk_Cert_extension 36 rfl
theorem d_Cert_extension_76 : decode prog_2_method_9_code 76 = .ok (.goto 61, 3) := fx_dat dk_Cert_extension 37 rfl
theorem d_Cert_extension_79 : decode prog_2_method_9_code 79 = .ok (.aload_n 0, 1) := fx_dat dk_Cert_extension 38 rfl
theorem d_Cert_extension_80 : decode prog_2_method_9_code 80 = .ok (.getfield 10, 3) := fx_dat dk_Cert_extension 39 rfl
theorem d_Cert_extension_83 : decode prog_2_method_9_code 83 = .ok (.getstatic 192, 3) := fx_dat dk_Cert_extension 40 rfl
theorem d_Cert_extension_86 : decode prog_2_method_9_code 86 = .ok (.iload 5, 2) := fx_dat dk_Cert_extension 41 rfl
theorem d_Cert_extension_88 : decode prog_2_method_9_code 88 = .ok (.invokevirtual 188, 3) := fx_dat dk_Cert_extension 42 rfl
theorem d_Cert_extension_91 : decode prog_2_method_9_code 91 = .ok (.ifCond .eq 7, 3) := fx_dat dk_Cert_extension 43 rfl
theorem d_Cert_extension_94 : decode prog_2_method_9_code 94 = .ok (.iconst 2, 1) := fx_dat dk_Cert_extension 44 rfl
theorem d_Cert_extension_95 : decode prog_2_method_9_code 95 = .ok (.goto 42, 3) := fx_dat dk_Cert_extension 45 rfl
theorem d_Cert_extension_98 : decode prog_2_method_9_code 98 = .ok (.aload_n 0, 1) := fx_dat dk_Cert_extension 46 rfl
theorem d_Cert_extension_99 : decode prog_2_method_9_code 99 = .ok (.getfield 10, 3) := fx_dat dk_Cert_extension 47 rfl
theorem d_Cert_extension_102 : decode prog_2_method_9_code 102 = .ok (.getstatic 195, 3) := fx_dat dk_Cert_extension 48 rfl
theorem d_Cert_extension_105 : decode prog_2_method_9_code 105 = .ok (.iload 5, 2) := fx_dat dk_Cert_extension 49 rfl
theorem d_Cert_extension_107 : decode prog_2_method_9_code 107 = .ok (.invokevirtual 188, 3) := fx_dat dk_Cert_extension 50 rfl
theorem d_Cert_extension_110 : decode prog_2_method_9_code 110 = .ok (.ifCond .eq 7, 3) := fx_dat dk_Cert_extension 51 rfl
theorem d_Cert_extension_113 : decode prog_2_method_9_code 113 = .ok (.iconst 3, 1) := fx_dat dk_Cert_extension 52 rfl
theorem d_Cert_extension_114 : decode prog_2_method_9_code 114 = .ok (.goto 23, 3) := fx_dat dk_Cert_extension 53 rfl
theorem d_Cert_extension_117 : decode prog_2_method_9_code 117 = .ok (.aload_n 0, 1) := fx_dat dk_Cert_extension 54 rfl
theorem d_Cert_extension_118 : decode prog_2_method_9_code 118 = .ok (.getfield 10, 3) := fx_dat dk_Cert_extension 55 rfl
theorem d_Cert_extension_121 : decode prog_2_method_9_code 121 = .ok (.getstatic 198, 3) := fx_dat dk_Cert_extension 56 rfl
theorem d_Cert_extension_124 : decode prog_2_method_9_code 124 = .ok (.iload 5, 2) := fx_dat dk_Cert_extension 57 rfl
theorem d_Cert_extension_126 : decode prog_2_method_9_code 126 = .ok (.invokevirtual 188, 3) := fx_dat dk_Cert_extension 58 rfl
theorem d_Cert_extension_129 : decode prog_2_method_9_code 129 = .ok (.ifCond .eq 7, 3) := fx_dat dk_Cert_extension 59 rfl
theorem d_Cert_extension_132 : decode prog_2_method_9_code 132 = .ok (.iconst 4, 1) := fx_dat dk_Cert_extension 60 rfl
theorem d_Cert_extension_133 : decode prog_2_method_9_code 133 = .ok (.goto 4, 3) := fx_dat dk_Cert_extension 61 rfl
theorem d_Cert_extension_136 : decode prog_2_method_9_code 136 = .ok (.iconst 0, 1) := fx_dat dk_Cert_extension 62 rfl
theorem d_Cert_extension_137 : decode prog_2_method_9_code 137 = .ok (.istore 7, 2) := fx_dat dk_Cert_extension 63 rfl
theorem d_Cert_extension_139 : decode prog_2_method_9_code 139 = .ok (.aload_n 0, 1) := fx_dat dk_Cert_extension 64 rfl
theorem d_Cert_extension_140 : decode prog_2_method_9_code 140 = .ok (.getfield 10, 3) := fx_dat dk_Cert_extension 65 rfl
theorem d_Cert_extension_143 : decode prog_2_method_9_code 143 = .ok (.iload 4, 2) := fx_dat dk_Cert_extension 66 rfl
theorem d_Cert_extension_145 : decode prog_2_method_9_code 145 = .ok (.invokevirtual 201, 3) := fx_dat dk_Cert_extension 67 rfl
theorem d_Cert_extension_148 : decode prog_2_method_9_code 148 = .ok (.istore 8, 2) := fx_dat dk_Cert_extension 68 rfl
theorem d_Cert_extension_150 : decode prog_2_method_9_code 150 = .ok (.aload_n 0, 1) := fx_dat dk_Cert_extension 69 rfl
theorem d_Cert_extension_151 : decode prog_2_method_9_code 151 = .ok (.getfield 10, 3) := fx_dat dk_Cert_extension 70 rfl
theorem d_Cert_extension_154 : decode prog_2_method_9_code 154 = .ok (.iconst 4, 1) := fx_dat dk_Cert_extension 71 rfl
theorem d_Cert_extension_155 : decode prog_2_method_9_code 155 = .ok (.iload 4, 2) := fx_dat dk_Cert_extension 72 rfl
theorem d_Cert_extension_157 : decode prog_2_method_9_code 157 = .ok (.invokevirtual 115, 3) := fx_dat dk_Cert_extension 73 rfl
theorem d_Cert_extension_160 : decode prog_2_method_9_code 160 = .ok (.istore 9, 2) := fx_dat dk_Cert_extension 74 rfl
theorem d_Cert_extension_162 : decode prog_2_method_9_code 162 = .ok (.iload 7, 2) := fx_dat dk_Cert_extension 75 rfl
theorem d_Cert_extension_164 : decode prog_2_method_9_code 164 = .ok (.tableswitch 68 1 4 #[32, 41, 50, 59], 32) := fx_dat dk_Cert_extension 76 rfl
theorem d_Cert_extension_196 : decode prog_2_method_9_code 196 = .ok (.aload_n 0, 1) := fx_dat dk_Cert_extension 77 rfl
theorem d_Cert_extension_197 : decode prog_2_method_9_code 197 = .ok (.iload 9, 2) := fx_dat dk_Cert_extension 78 rfl
theorem d_Cert_extension_199 : decode prog_2_method_9_code 199 = .ok (.invokevirtual 205, 3) := fx_dat dk_Cert_extension 79 rfl
theorem d_Cert_extension_202 : decode prog_2_method_9_code 202 = .ok (.goto 49, 3) := fx_dat dk_Cert_extension 80 rfl
theorem d_Cert_extension_205 : decode prog_2_method_9_code 205 = .ok (.aload_n 0, 1) := fx_dat dk_Cert_extension 81 rfl
theorem d_Cert_extension_206 : decode prog_2_method_9_code 206 = .ok (.iload 9, 2) := fx_dat dk_Cert_extension 82 rfl
theorem d_Cert_extension_208 : decode prog_2_method_9_code 208 = .ok (.invokevirtual 208, 3) := fx_dat dk_Cert_extension 83 rfl
theorem d_Cert_extension_211 : decode prog_2_method_9_code 211 = .ok (.goto 40, 3) := fx_dat dk_Cert_extension 84 rfl
theorem d_Cert_extension_214 : decode prog_2_method_9_code 214 = .ok (.aload_n 0, 1) := fx_dat dk_Cert_extension 85 rfl
theorem d_Cert_extension_215 : decode prog_2_method_9_code 215 = .ok (.iload 9, 2) := fx_dat dk_Cert_extension 86 rfl
theorem d_Cert_extension_217 : decode prog_2_method_9_code 217 = .ok (.invokevirtual 210, 3) := fx_dat dk_Cert_extension 87 rfl
theorem d_Cert_extension_220 : decode prog_2_method_9_code 220 = .ok (.goto 31, 3) := fx_dat dk_Cert_extension 88 rfl
theorem d_Cert_extension_223 : decode prog_2_method_9_code 223 = .ok (.aload_n 0, 1) := fx_dat dk_Cert_extension 89 rfl
theorem d_Cert_extension_224 : decode prog_2_method_9_code 224 = .ok (.iload 9, 2) := fx_dat dk_Cert_extension 90 rfl
theorem d_Cert_extension_226 : decode prog_2_method_9_code 226 = .ok (.invokevirtual 212, 3) := fx_dat dk_Cert_extension 91 rfl
theorem d_Cert_extension_229 : decode prog_2_method_9_code 229 = .ok (.goto 22, 3) := fx_dat dk_Cert_extension 92 rfl
theorem d_Cert_extension_232 : decode prog_2_method_9_code 232 = .ok (.iload 8, 2) := fx_dat dk_Cert_extension 93 rfl
theorem d_Cert_extension_234 : decode prog_2_method_9_code 234 = .ok (.ifCond .eq 8, 3) := fx_dat dk_Cert_extension 94 rfl
theorem d_Cert_extension_237 : decode prog_2_method_9_code 237 = .ok (.aload_n 0, 1) := fx_dat dk_Cert_extension 95 rfl
theorem d_Cert_extension_238 : decode prog_2_method_9_code 238 = .ok (.iconst 1, 1) := fx_dat dk_Cert_extension 96 rfl
theorem d_Cert_extension_239 : decode prog_2_method_9_code 239 = .ok (.putfield 71, 3) := fx_dat dk_Cert_extension 97 rfl
theorem d_Cert_extension_242 : decode prog_2_method_9_code 242 = .ok (.aload_n 0, 1) := fx_dat dk_Cert_extension 98 rfl
theorem d_Cert_extension_243 : decode prog_2_method_9_code 243 = .ok (.getfield 10, 3) := fx_dat dk_Cert_extension 99 rfl
theorem d_Cert_extension_246 : decode prog_2_method_9_code 246 = .ok (.iload 9, 2) := fx_dat dk_Cert_extension 100 rfl
theorem d_Cert_extension_248 : decode prog_2_method_9_code 248 = .ok (.putfield 106, 3) := fx_dat dk_Cert_extension 101 rfl
theorem d_Cert_extension_251 : decode prog_2_method_9_code 251 = .ok (.aload_n 0, 1) := fx_dat dk_Cert_extension 102 rfl
theorem d_Cert_extension_252 : decode prog_2_method_9_code 252 = .ok (.getfield 10, 3) := fx_dat dk_Cert_extension 103 rfl
theorem d_Cert_extension_255 : decode prog_2_method_9_code 255 = .ok (.iload 9, 2) := fx_dat dk_Cert_extension 104 rfl
theorem d_Cert_extension_257 : decode prog_2_method_9_code 257 = .ok (.invokevirtual 132, 3) := fx_dat dk_Cert_extension 105 rfl
theorem d_Cert_extension_260 : decode prog_2_method_9_code 260 = .ok (.aload_n 0, 1) := fx_dat dk_Cert_extension 106 rfl
theorem d_Cert_extension_261 : decode prog_2_method_9_code 261 = .ok (.getfield 10, 3) := fx_dat dk_Cert_extension 107 rfl
theorem d_Cert_extension_264 : decode prog_2_method_9_code 264 = .ok (.iload 4, 2) := fx_dat dk_Cert_extension 108 rfl
theorem d_Cert_extension_266 : decode prog_2_method_9_code 266 = .ok (.invokevirtual 132, 3) := fx_dat dk_Cert_extension 109 rfl
theorem d_Cert_extension_269 : decode prog_2_method_9_code 269 = .ok (.return_, 1) := fx_dat dk_Cert_extension 110 rfl
def m_Cert_extension_251 (Q : AH → Prop) (E : Nat → AH → Prop) (r0 : Nat) (x4 : Int32) (x9 : Int32) (h : AH) : Prop := hp_k h r0 = 8 ∧ ∃ b1, hp_R h r0 1 = some b1 ∧ hp_k h b1 = 9 ∧ m_Rd_leave (fun h1 => fx_ext h h1 → ∃ b2, hp_R h1 r0 1 = some b2 ∧ hp_k h1 b2 = 9 ∧ m_Rd_leave (fun h2 => fx_ext h1 h2 → Q h2) (fun a ht => fx_ext h1 ht → E a ht) b2 x4 h1) (fun a ht => fx_ext h ht → E a ht) b1 x9 h
def m_Cert_extension_196 (Q : AH → Prop) (E : Nat → AH → Prop) (r0 : Nat) (x4 : Int32) (x9 : Int32) (h : AH) : Prop := hp_k h r0 = 8 ∧ m_Cert_constraints (fun h1 => fx_ext h h1 → m_Cert_extension_251 Q E r0 x4 x9 h1) (fun a ht => fx_ext h ht → E a ht) r0 x9 h
def m_Cert_extension_205 (Q : AH → Prop) (E : Nat → AH → Prop) (r0 : Nat) (x4 : Int32) (x9 : Int32) (h : AH) : Prop := hp_k h r0 = 8 ∧ m_Cert_usage (fun h1 => fx_ext h h1 → m_Cert_extension_251 Q E r0 x4 x9 h1) (fun a ht => fx_ext h ht → E a ht) r0 x9 h
def m_Cert_extension_214 (Q : AH → Prop) (E : Nat → AH → Prop) (r0 : Nat) (x4 : Int32) (x9 : Int32) (h : AH) : Prop := hp_k h r0 = 8 ∧ m_Cert_hosts (fun h1 => fx_ext h h1 → m_Cert_extension_251 Q E r0 x4 x9 h1) (fun a ht => fx_ext h ht → E a ht) r0 x9 h
def m_Cert_extension_223 (Q : AH → Prop) (E : Nat → AH → Prop) (r0 : Nat) (x4 : Int32) (x9 : Int32) (h : AH) : Prop := hp_k h r0 = 8 ∧ m_Cert_purposes (fun h1 => fx_ext h h1 → m_Cert_extension_251 Q E r0 x4 x9 h1) (fun a ht => fx_ext h ht → E a ht) r0 x9 h
def m_Cert_extension_242 (Q : AH → Prop) (E : Nat → AH → Prop) (r0 : Nat) (x4 : Int32) (x9 : Int32) (h : AH) : Prop := hp_k h r0 = 8 ∧ ∃ b1, hp_R h r0 1 = some b1 ∧ hp_k h b1 = 9 ∧ ∀ h1 : AH, h1 = up_I h b1 1 x9 → m_Cert_extension_251 Q E r0 x4 x9 h1
def m_Cert_extension_232 (Q : AH → Prop) (E : Nat → AH → Prop) (r0 : Nat) (x4 : Int32) (x8 : Int32) (x9 : Int32) (h : AH) : Prop := (x8 = 0 → m_Cert_extension_242 Q E r0 x4 x9 h) ∧ (¬ x8 = 0 → hp_k h r0 = 8 ∧ ∀ h1 : AH, h1 = up_I h r0 19 (1 : Int32) → m_Cert_extension_242 Q E r0 x4 x9 h1)
def m_Cert_extension_137 (Q : AH → Prop) (E : Nat → AH → Prop) (r0 : Nat) (x4 : Int32) (sx0 : Int32) (h : AH) : Prop := hp_k h r0 = 8 ∧ ∃ b1, hp_R h r0 1 = some b1 ∧ hp_k h b1 = 9 ∧ m_Rd_truth (fun v1 h1 => fx_ext h h1 → zb v1 → ∃ b2, hp_R h1 r0 1 = some b2 ∧ hp_k h1 b2 = 9 ∧ m_Rd_enter (fun v2 h2 => fx_ext h1 h2 → (sx0 = (1 : Int32) → m_Cert_extension_196 Q E r0 x4 v2 h2) ∧ (sx0 = (2 : Int32) → m_Cert_extension_205 Q E r0 x4 v2 h2) ∧ (sx0 = (3 : Int32) → m_Cert_extension_214 Q E r0 x4 v2 h2) ∧ (sx0 = (4 : Int32) → m_Cert_extension_223 Q E r0 x4 v2 h2) ∧ ((∀ k ∈ ([(1 : Int32), (2 : Int32), (3 : Int32), (4 : Int32)] : List Int32), ¬ sx0 = k) → m_Cert_extension_232 Q E r0 x4 v1 v2 h2)) (fun a ht => fx_ext h1 ht → E a ht) b2 (4 : Int32) x4 h1) (fun a ht => fx_ext h ht → E a ht) b1 x4 h
def m_Cert_extension (Q : AH → Prop) (E : Nat → AH → Prop) (r0 : Nat) (x1 : Int32) (x2 : Int32) (h : AH) : Prop := hp_k h r0 = 8 ∧ ∃ b1, hp_R h r0 1 = some b1 ∧ hp_k h b1 = 9 ∧ ∀ v1 : Int32, v1 = (hp_I h b1 1) → m_Rd_enter (fun v2 h1 => fx_ext h h1 → ∃ b2, hp_R h1 r0 1 = some b2 ∧ hp_k h1 b2 = 9 ∧ m_Rd_oid (fun v3 h2 => fx_ext h1 h2 → ∃ b3, hp_R h2 r0 1 = some b3 ∧ hp_k h2 b3 = 9 ∧ ∀ v4 : Int32, v4 = ((hp_I h2 b3 1) - v3) → m_Cert_twice (fun v5 h3 => fx_ext h2 h3 → zb v5 → (v5 = 0 → ∃ b4, hp_R h3 r0 1 = some b4 ∧ hp_k h3 b4 = 9 ∧ m_Rd_is (fun v6 h4 => fx_ext h3 h4 → zb v6 → (v6 = 0 → ∃ b5, hp_R h4 r0 1 = some b5 ∧ hp_k h4 b5 = 9 ∧ m_Rd_is (fun v7 h5 => fx_ext h4 h5 → zb v7 → (v7 = 0 → ∃ b6, hp_R h5 r0 1 = some b6 ∧ hp_k h5 b6 = 9 ∧ m_Rd_is (fun v8 h6 => fx_ext h5 h6 → zb v8 → (v8 = 0 → ∃ b7, hp_R h6 r0 1 = some b7 ∧ hp_k h6 b7 = 9 ∧ m_Rd_is (fun v9 h7 => fx_ext h6 h7 → zb v9 → (v9 = 0 → m_Cert_extension_137 Q E r0 v2 (0 : Int32) h7) ∧ (¬ v9 = 0 → m_Cert_extension_137 Q E r0 v2 (4 : Int32) h7)) b7 (hp_c h6 6) v3 h6) ∧ (¬ v8 = 0 → m_Cert_extension_137 Q E r0 v2 (3 : Int32) h6)) b6 (hp_c h5 5) v3 h5) ∧ (¬ v7 = 0 → m_Cert_extension_137 Q E r0 v2 (2 : Int32) h5)) b5 (hp_c h4 4) v3 h4) ∧ (¬ v6 = 0 → m_Cert_extension_137 Q E r0 v2 (1 : Int32) h4)) b4 (hp_c h3 3) v3 h3) ∧ (¬ v5 = 0 → m_Rd_bad (fun q1 h8 => fx_ext h3 h8 → E q1 h8) h3)) (fun a ht => fx_ext h2 ht → E a ht) r0 x1 v1 v3 v4 h2) (fun a ht => fx_ext h1 ht → E a ht) b2 v2 h1) (fun a ht => fx_ext h ht → E a ht) b1 (48 : Int32) x2 h
theorem b_Cert_extension_251 {p : Program} {l : Launch} {e : Env} {R : Room} {s : State} {m : MethodId} {args : Array Value} {below : List Frame} {meth : Method} {c : Code} {D : DD} {h0 : AH} {Q : AH → Prop} {E : Nat → AH → Prop} (C : fx_CX D y_Cert_extension prog_2_method_9_code 10 10 146 (none) [] h0 p R s m meth c) (hl : l.flags = flags0) (r0 : Nat) (x4 : Int32) (x9 : Int32) (h : AH) (hw : m_Cert_extension_251 Q E r0 x4 x9 h) : ∀ (ls : Array Slot) (H : Heap) (locs : List Loc) (cells slots : Nat), lv_has ls 10 [(0, .ref r0), (4, .int x4), (9, .int x9)] → fx_F D h0 h H locs cells slots → W p l e R s m args below meth c H locs cells slots (fx_Z D below s h0 (fx_oV Q E)) (F0 m 251 ls []) := by
  unfold m_Cert_extension_251 at hw
  intro ls H locs cells slots hv F
  refine lv_aload_n C.ex C.by d_Cert_extension_251 rfl (lv_at hv 0 rfl) ?_
  obtain ⟨hk1, hw⟩ := hw
  obtain ⟨b1, hb1, hw⟩ := hw
  refine fx_getR C F lf_Cert_10 hk1 rfl hb1 d_Cert_extension_252 ?_
  refine lv_iload C.ex C.by d_Cert_extension_255 (lv_at hv 2 rfl) ?_
  obtain ⟨hk2, hw⟩ := hw
  refine fx_callV C F (c_Rd_leave hl hw) hm_Rd_leave hi_Rd_leave hv.1 (by decide) (Nat.le_of_ble_eq_true rfl) (iv_Rd_leave C F lm_Cert_132 hk2 d_Cert_extension_257) (fx_out0 _) (fun _ _ hE hx => Or.inr ⟨_, rfl, hE hx⟩) (fun h1 H locs cells slots hw hx1 F => ?_)
  replace hw := hw hx1
  have hk2 := (hx1).k hk2
  have hk1 := (hx1).k hk1
  refine lv_aload_n C.ex C.by d_Cert_extension_260 rfl (lv_at hv 0 rfl) ?_
  obtain ⟨b2, hb2, hw⟩ := hw
  refine fx_getR C F lf_Cert_10 hk1 rfl hb2 d_Cert_extension_261 ?_
  refine lv_iload C.ex C.by d_Cert_extension_264 (lv_at hv 1 rfl) ?_
  obtain ⟨hk3, hw⟩ := hw
  refine fx_callV C F (c_Rd_leave hl hw) hm_Rd_leave hi_Rd_leave hv.1 (by decide) (Nat.le_of_ble_eq_true rfl) (iv_Rd_leave C F lm_Cert_132 hk3 d_Cert_extension_266) (fx_out0 _) (fun _ _ hE hx => Or.inr ⟨_, rfl, hE hx⟩) (fun h2 H locs cells slots hw hx2 F => ?_)
  replace hw := hw hx2
  have hk2 := (hx2).k hk2
  have hk3 := (hx2).k hk3
  have hk1 := (hx2).k hk1
  exact fx_vret C F d_Cert_extension_269 (Or.inl ⟨rfl, hw⟩)
theorem b_Cert_extension_196 {p : Program} {l : Launch} {e : Env} {R : Room} {s : State} {m : MethodId} {args : Array Value} {below : List Frame} {meth : Method} {c : Code} {D : DD} {h0 : AH} {Q : AH → Prop} {E : Nat → AH → Prop} (C : fx_CX D y_Cert_extension prog_2_method_9_code 10 10 146 (none) [] h0 p R s m meth c) (hl : l.flags = flags0) (r0 : Nat) (x4 : Int32) (x9 : Int32) (h : AH) (hw : m_Cert_extension_196 Q E r0 x4 x9 h) : ∀ (ls : Array Slot) (H : Heap) (locs : List Loc) (cells slots : Nat), lv_has ls 10 [(0, .ref r0), (4, .int x4), (9, .int x9)] → fx_F D h0 h H locs cells slots → W p l e R s m args below meth c H locs cells slots (fx_Z D below s h0 (fx_oV Q E)) (F0 m 196 ls []) := by
  unfold m_Cert_extension_196 at hw
  intro ls H locs cells slots hv F
  refine lv_aload_n C.ex C.by d_Cert_extension_196 rfl (lv_at hv 0 rfl) ?_
  refine lv_iload C.ex C.by d_Cert_extension_197 (lv_at hv 2 rfl) ?_
  obtain ⟨hk1, hw⟩ := hw
  refine fx_callV C F (c_Cert_constraints hl hw) hm_Cert_constraints hi_Cert_constraints hv.1 (by decide) (Nat.le_of_ble_eq_true rfl) (iv_Cert_constraints C F lm_Cert_205 hk1 d_Cert_extension_199) (fx_out0 _) (fun _ _ hE hx => Or.inr ⟨_, rfl, hE hx⟩) (fun h1 H locs cells slots hw hx1 F => ?_)
  replace hw := hw hx1
  have hk1 := (hx1).k hk1
  refine lv_goto C.ex C.by d_Cert_extension_202 rfl ?_
  exact b_Cert_extension_251 C hl _ _ _ _ hw _ _ _ _ _ hv F
theorem b_Cert_extension_205 {p : Program} {l : Launch} {e : Env} {R : Room} {s : State} {m : MethodId} {args : Array Value} {below : List Frame} {meth : Method} {c : Code} {D : DD} {h0 : AH} {Q : AH → Prop} {E : Nat → AH → Prop} (C : fx_CX D y_Cert_extension prog_2_method_9_code 10 10 146 (none) [] h0 p R s m meth c) (hl : l.flags = flags0) (r0 : Nat) (x4 : Int32) (x9 : Int32) (h : AH) (hw : m_Cert_extension_205 Q E r0 x4 x9 h) : ∀ (ls : Array Slot) (H : Heap) (locs : List Loc) (cells slots : Nat), lv_has ls 10 [(0, .ref r0), (4, .int x4), (9, .int x9)] → fx_F D h0 h H locs cells slots → W p l e R s m args below meth c H locs cells slots (fx_Z D below s h0 (fx_oV Q E)) (F0 m 205 ls []) := by
  unfold m_Cert_extension_205 at hw
  intro ls H locs cells slots hv F
  refine lv_aload_n C.ex C.by d_Cert_extension_205 rfl (lv_at hv 0 rfl) ?_
  refine lv_iload C.ex C.by d_Cert_extension_206 (lv_at hv 2 rfl) ?_
  obtain ⟨hk1, hw⟩ := hw
  refine fx_callV C F (c_Cert_usage hl hw) hm_Cert_usage hi_Cert_usage hv.1 (by decide) (Nat.le_of_ble_eq_true rfl) (iv_Cert_usage C F lm_Cert_208 hk1 d_Cert_extension_208) (fx_out0 _) (fun _ _ hE hx => Or.inr ⟨_, rfl, hE hx⟩) (fun h1 H locs cells slots hw hx1 F => ?_)
  replace hw := hw hx1
  have hk1 := (hx1).k hk1
  refine lv_goto C.ex C.by d_Cert_extension_211 rfl ?_
  exact b_Cert_extension_251 C hl _ _ _ _ hw _ _ _ _ _ hv F
theorem b_Cert_extension_214 {p : Program} {l : Launch} {e : Env} {R : Room} {s : State} {m : MethodId} {args : Array Value} {below : List Frame} {meth : Method} {c : Code} {D : DD} {h0 : AH} {Q : AH → Prop} {E : Nat → AH → Prop} (C : fx_CX D y_Cert_extension prog_2_method_9_code 10 10 146 (none) [] h0 p R s m meth c) (hl : l.flags = flags0) (r0 : Nat) (x4 : Int32) (x9 : Int32) (h : AH) (hw : m_Cert_extension_214 Q E r0 x4 x9 h) : ∀ (ls : Array Slot) (H : Heap) (locs : List Loc) (cells slots : Nat), lv_has ls 10 [(0, .ref r0), (4, .int x4), (9, .int x9)] → fx_F D h0 h H locs cells slots → W p l e R s m args below meth c H locs cells slots (fx_Z D below s h0 (fx_oV Q E)) (F0 m 214 ls []) := by
  unfold m_Cert_extension_214 at hw
  intro ls H locs cells slots hv F
  refine lv_aload_n C.ex C.by d_Cert_extension_214 rfl (lv_at hv 0 rfl) ?_
  refine lv_iload C.ex C.by d_Cert_extension_215 (lv_at hv 2 rfl) ?_
  obtain ⟨hk1, hw⟩ := hw
  refine fx_callV C F (c_Cert_hosts hl hw) hm_Cert_hosts hi_Cert_hosts hv.1 (by decide) (Nat.le_of_ble_eq_true rfl) (iv_Cert_hosts C F lm_Cert_210 hk1 d_Cert_extension_217) (fx_out0 _) (fun _ _ hE hx => Or.inr ⟨_, rfl, hE hx⟩) (fun h1 H locs cells slots hw hx1 F => ?_)
  replace hw := hw hx1
  have hk1 := (hx1).k hk1
  refine lv_goto C.ex C.by d_Cert_extension_220 rfl ?_
  exact b_Cert_extension_251 C hl _ _ _ _ hw _ _ _ _ _ hv F
theorem b_Cert_extension_223 {p : Program} {l : Launch} {e : Env} {R : Room} {s : State} {m : MethodId} {args : Array Value} {below : List Frame} {meth : Method} {c : Code} {D : DD} {h0 : AH} {Q : AH → Prop} {E : Nat → AH → Prop} (C : fx_CX D y_Cert_extension prog_2_method_9_code 10 10 146 (none) [] h0 p R s m meth c) (hl : l.flags = flags0) (r0 : Nat) (x4 : Int32) (x9 : Int32) (h : AH) (hw : m_Cert_extension_223 Q E r0 x4 x9 h) : ∀ (ls : Array Slot) (H : Heap) (locs : List Loc) (cells slots : Nat), lv_has ls 10 [(0, .ref r0), (4, .int x4), (9, .int x9)] → fx_F D h0 h H locs cells slots → W p l e R s m args below meth c H locs cells slots (fx_Z D below s h0 (fx_oV Q E)) (F0 m 223 ls []) := by
  unfold m_Cert_extension_223 at hw
  intro ls H locs cells slots hv F
  refine lv_aload_n C.ex C.by d_Cert_extension_223 rfl (lv_at hv 0 rfl) ?_
  refine lv_iload C.ex C.by d_Cert_extension_224 (lv_at hv 2 rfl) ?_
  obtain ⟨hk1, hw⟩ := hw
  refine fx_callV C F (c_Cert_purposes hl hw) hm_Cert_purposes hi_Cert_purposes hv.1 (by decide) (Nat.le_of_ble_eq_true rfl) (iv_Cert_purposes C F lm_Cert_212 hk1 d_Cert_extension_226) (fx_out0 _) (fun _ _ hE hx => Or.inr ⟨_, rfl, hE hx⟩) (fun h1 H locs cells slots hw hx1 F => ?_)
  replace hw := hw hx1
  have hk1 := (hx1).k hk1
  refine lv_goto C.ex C.by d_Cert_extension_229 rfl ?_
  exact b_Cert_extension_251 C hl _ _ _ _ hw _ _ _ _ _ hv F
theorem b_Cert_extension_242 {p : Program} {l : Launch} {e : Env} {R : Room} {s : State} {m : MethodId} {args : Array Value} {below : List Frame} {meth : Method} {c : Code} {D : DD} {h0 : AH} {Q : AH → Prop} {E : Nat → AH → Prop} (C : fx_CX D y_Cert_extension prog_2_method_9_code 10 10 146 (none) [] h0 p R s m meth c) (hl : l.flags = flags0) (r0 : Nat) (x4 : Int32) (x9 : Int32) (h : AH) (hw : m_Cert_extension_242 Q E r0 x4 x9 h) : ∀ (ls : Array Slot) (H : Heap) (locs : List Loc) (cells slots : Nat), lv_has ls 10 [(0, .ref r0), (4, .int x4), (9, .int x9)] → fx_F D h0 h H locs cells slots → W p l e R s m args below meth c H locs cells slots (fx_Z D below s h0 (fx_oV Q E)) (F0 m 242 ls []) := by
  unfold m_Cert_extension_242 at hw
  intro ls H locs cells slots hv F
  refine lv_aload_n C.ex C.by d_Cert_extension_242 rfl (lv_at hv 0 rfl) ?_
  obtain ⟨hk1, hw⟩ := hw
  obtain ⟨b1, hb1, hw⟩ := hw
  refine fx_getR C F lf_Cert_10 hk1 rfl hb1 d_Cert_extension_243 ?_
  refine lv_iload C.ex C.by d_Cert_extension_246 (lv_at hv 2 rfl) ?_
  obtain ⟨hk2, hw⟩ := hw
  let h1 : AH := up_I h b1 1 x9
  replace hw := hw h1 rfl
  refine fx_putI C F lf_Cert_106 hk2 rfl rfl (fx_mayF.no rfl rfl) d_Cert_extension_248 (fun H locs (F : fx_F D h0 h1 H locs _ _) => ?_)
  exact b_Cert_extension_251 C hl _ _ _ _ hw _ _ _ _ _ hv F
theorem b_Cert_extension_232 {p : Program} {l : Launch} {e : Env} {R : Room} {s : State} {m : MethodId} {args : Array Value} {below : List Frame} {meth : Method} {c : Code} {D : DD} {h0 : AH} {Q : AH → Prop} {E : Nat → AH → Prop} (C : fx_CX D y_Cert_extension prog_2_method_9_code 10 10 146 (none) [] h0 p R s m meth c) (hl : l.flags = flags0) (r0 : Nat) (x4 : Int32) (x8 : Int32) (x9 : Int32) (h : AH) (hw : m_Cert_extension_232 Q E r0 x4 x8 x9 h) : ∀ (ls : Array Slot) (H : Heap) (locs : List Loc) (cells slots : Nat), lv_has ls 10 [(0, .ref r0), (4, .int x4), (8, .int x8), (9, .int x9)] → fx_F D h0 h H locs cells slots → W p l e R s m args below meth c H locs cells slots (fx_Z D below s h0 (fx_oV Q E)) (F0 m 232 ls []) := by
  unfold m_Cert_extension_232 at hw
  intro ls H locs cells slots hv F
  refine lv_iload C.ex C.by d_Cert_extension_232 (lv_at hv 2 rfl) ?_
  refine lv_if_eq C.ex C.by d_Cert_extension_234 rfl (fun hc => ?_) (fun hc => ?_)
  · replace hw := hw.1 hc
    exact b_Cert_extension_242 C hl _ _ _ _ hw _ _ _ _ _ (lv_sub hv [0, 1, 3] rfl) F
  · replace hw := hw.2 hc
    refine lv_aload_n C.ex C.by d_Cert_extension_237 rfl (lv_at hv 0 rfl) ?_
    refine lv_iconst (v := (1 : Int32)) C.ex C.by d_Cert_extension_238 (by decide) ?_
    obtain ⟨hk1, hw⟩ := hw
    let h1 : AH := up_I h r0 19 (1 : Int32)
    replace hw := hw h1 rfl
    refine fx_putZ C F lf_Cert_71 hk1 rfl rfl (Or.inr rfl) (fx_mayF.no rfl rfl) d_Cert_extension_239 (fun H locs (F : fx_F D h0 h1 H locs _ _) => ?_)
    exact b_Cert_extension_242 C hl _ _ _ _ hw _ _ _ _ _ (lv_sub hv [0, 1, 3] rfl) F
theorem b_Cert_extension_137 {p : Program} {l : Launch} {e : Env} {R : Room} {s : State} {m : MethodId} {args : Array Value} {below : List Frame} {meth : Method} {c : Code} {D : DD} {h0 : AH} {Q : AH → Prop} {E : Nat → AH → Prop} (C : fx_CX D y_Cert_extension prog_2_method_9_code 10 10 146 (none) [] h0 p R s m meth c) (hl : l.flags = flags0) (r0 : Nat) (x4 : Int32) (sx0 : Int32) (h : AH) (hw : m_Cert_extension_137 Q E r0 x4 sx0 h) : ∀ (ls : Array Slot) (H : Heap) (locs : List Loc) (cells slots : Nat), lv_has ls 10 [(0, .ref r0), (4, .int x4)] → fx_F D h0 h H locs cells slots → W p l e R s m args below meth c H locs cells slots (fx_Z D below s h0 (fx_oV Q E)) (F0 m 137 ls [.int sx0]) := by
  unfold m_Cert_extension_137 at hw
  intro ls H locs cells slots hv F
  refine lv_istore (lv' := [(7, .int sx0), (0, .ref r0), (4, .int x4)]) C.ex C.by d_Cert_extension_137 hv (by decide) rfl (fun ls hv => ?_)
  refine lv_aload_n C.ex C.by d_Cert_extension_139 rfl (lv_at hv 1 rfl) ?_
  obtain ⟨hk1, hw⟩ := hw
  obtain ⟨b1, hb1, hw⟩ := hw
  refine fx_getR C F lf_Cert_10 hk1 rfl hb1 d_Cert_extension_140 ?_
  refine lv_iload C.ex C.by d_Cert_extension_143 (lv_at hv 2 rfl) ?_
  obtain ⟨hk2, hw⟩ := hw
  refine fx_callZ C F (c_Rd_truth hl hw) hm_Rd_truth hi_Rd_truth hv.1 (by decide) (Nat.le_of_ble_eq_true rfl) (iv_Rd_truth C F lm_Cert_201 hk2 d_Cert_extension_145) (fx_out0 _) (fun _ _ hE hx => Or.inr ⟨_, rfl, hE hx⟩) (fun v1 h1 H locs cells slots hw hx1 hzb F => ?_)
  replace hw := hw hx1 hzb
  have hk2 := (hx1).k hk2
  have hk1 := (hx1).k hk1
  refine lv_istore (lv' := [(8, .int v1), (7, .int sx0), (0, .ref r0), (4, .int x4)]) C.ex C.by d_Cert_extension_148 hv (by decide) rfl (fun ls hv => ?_)
  refine lv_aload_n C.ex C.by d_Cert_extension_150 rfl (lv_at hv 2 rfl) ?_
  obtain ⟨b2, hb2, hw⟩ := hw
  refine fx_getR C F lf_Cert_10 hk1 rfl hb2 d_Cert_extension_151 ?_
  refine lv_iconst (v := (4 : Int32)) C.ex C.by d_Cert_extension_154 (by decide) ?_
  refine lv_iload C.ex C.by d_Cert_extension_155 (lv_at hv 3 rfl) ?_
  obtain ⟨hk3, hw⟩ := hw
  refine fx_callI C F (c_Rd_enter hl hw) hm_Rd_enter hi_Rd_enter hv.1 (by decide) (Nat.le_of_ble_eq_true rfl) (iv_Rd_enter C F lm_Cert_115 hk3 d_Cert_extension_157) (fx_out0 _) (fun _ _ hE hx => Or.inr ⟨_, rfl, hE hx⟩) (fun v2 h2 H locs cells slots hw hx2 F => ?_)
  replace hw := hw hx2
  have hk2 := (hx2).k hk2
  have hk3 := (hx2).k hk3
  have hk1 := (hx2).k hk1
  refine lv_istore (lv' := [(9, .int v2), (8, .int v1), (7, .int sx0), (0, .ref r0), (4, .int x4)]) C.ex C.by d_Cert_extension_160 hv (by decide) rfl (fun ls hv => ?_)
  refine lv_iload C.ex C.by d_Cert_extension_162 (lv_at hv 2 rfl) ?_
  by_cases hs0 : sx0 = (1 : Int32)
  · replace hw := hw.1 hs0
    refine lv_tableIn (off := 32) (tgt := 196) C.ex C.by d_Cert_extension_164 (by rw [hs0]; decide) (by rw [hs0]; decide) (by rw [hs0]; rfl) rfl ?_
    exact b_Cert_extension_196 C hl _ _ _ _ hw _ _ _ _ _ (lv_sub hv [3, 4, 0] rfl) F
  by_cases hs1 : sx0 = (2 : Int32)
  · replace hw := hw.2.1 hs1
    refine lv_tableIn (off := 41) (tgt := 205) C.ex C.by d_Cert_extension_164 (by rw [hs1]; decide) (by rw [hs1]; decide) (by rw [hs1]; rfl) rfl ?_
    exact b_Cert_extension_205 C hl _ _ _ _ hw _ _ _ _ _ (lv_sub hv [3, 4, 0] rfl) F
  by_cases hs2 : sx0 = (3 : Int32)
  · replace hw := hw.2.2.1 hs2
    refine lv_tableIn (off := 50) (tgt := 214) C.ex C.by d_Cert_extension_164 (by rw [hs2]; decide) (by rw [hs2]; decide) (by rw [hs2]; rfl) rfl ?_
    exact b_Cert_extension_214 C hl _ _ _ _ hw _ _ _ _ _ (lv_sub hv [3, 4, 0] rfl) F
  by_cases hs3 : sx0 = (4 : Int32)
  · replace hw := hw.2.2.2.1 hs3
    refine lv_tableIn (off := 59) (tgt := 223) C.ex C.by d_Cert_extension_164 (by rw [hs3]; decide) (by rw [hs3]; decide) (by rw [hs3]; rfl) rfl ?_
    exact b_Cert_extension_223 C hl _ _ _ _ hw _ _ _ _ _ (lv_sub hv [3, 4, 0] rfl) F
  have hno : ∀ k ∈ ([(1 : Int32), (2 : Int32), (3 : Int32), (4 : Int32)] : List Int32), ¬ sx0 = k := by
    intro k hk
    simp only [List.mem_cons, List.not_mem_nil, or_false] at hk
    rcases hk with rfl | rfl | rfl | rfl
    · exact hs0
    · exact hs1
    · exact hs2
    · exact hs3
  replace hw := hw.2.2.2.2 hno
  refine lv_tableOut (tgt := 232) C.ex C.by d_Cert_extension_164 (fx_sw [(1 : Int32), (2 : Int32), (3 : Int32), (4 : Int32)] (by intro z h1 h2; rcases (show z = 1 ∨ z = 2 ∨ z = 3 ∨ z = 4 by omega) with rfl | rfl | rfl | rfl; exact ⟨(1 : Int32), by decide, by decide⟩; exact ⟨(2 : Int32), by decide, by decide⟩; exact ⟨(3 : Int32), by decide, by decide⟩; exact ⟨(4 : Int32), by decide, by decide⟩) hno) rfl ?_
  exact b_Cert_extension_232 C hl _ _ _ _ _ hw _ _ _ _ _ (lv_sub hv [3, 4, 1, 0] rfl) F
theorem b_Cert_extension_0 {p : Program} {l : Launch} {e : Env} {R : Room} {s : State} {m : MethodId} {args : Array Value} {below : List Frame} {meth : Method} {c : Code} {D : DD} {h0 : AH} {Q : AH → Prop} {E : Nat → AH → Prop} (C : fx_CX D y_Cert_extension prog_2_method_9_code 10 10 146 (none) [] h0 p R s m meth c) (hl : l.flags = flags0) (r0 : Nat) (x1 : Int32) (x2 : Int32) (h : AH) (hw : m_Cert_extension Q E r0 x1 x2 h) : ∀ (ls : Array Slot) (H : Heap) (locs : List Loc) (cells slots : Nat), lv_has ls 10 [(0, .ref r0), (1, .int x1), (2, .int x2)] → fx_F D h0 h H locs cells slots → W p l e R s m args below meth c H locs cells slots (fx_Z D below s h0 (fx_oV Q E)) (F0 m 0 ls []) := by
  unfold m_Cert_extension at hw
  intro ls H locs cells slots hv F
  refine lv_aload_n C.ex C.by d_Cert_extension_0 rfl (lv_at hv 0 rfl) ?_
  obtain ⟨hk1, hw⟩ := hw
  obtain ⟨b1, hb1, hw⟩ := hw
  refine fx_getR C F lf_Cert_10 hk1 rfl hb1 d_Cert_extension_1 ?_
  obtain ⟨hk2, hw⟩ := hw
  refine fx_getI C F lf_Cert_106 hk2 rfl d_Cert_extension_4 ?_
  let v1 : Int32 := (hp_I h b1 1)
  replace hw := hw v1 rfl
  refine lv_istore_n (lv' := [(3, .int v1), (0, .ref r0), (1, .int x1), (2, .int x2)]) C.ex C.by d_Cert_extension_7 rfl hv (by decide) rfl (fun ls hv => ?_)
  refine lv_aload_n C.ex C.by d_Cert_extension_8 rfl (lv_at hv 1 rfl) ?_
  refine fx_getR C F lf_Cert_10 hk1 rfl hb1 d_Cert_extension_9 ?_
  refine lv_bipush (v := (48 : Int32)) C.ex C.by d_Cert_extension_12 (by decide) ?_
  refine lv_iload_n C.ex C.by d_Cert_extension_14 rfl (lv_at hv 3 rfl) ?_
  refine fx_callI C F (c_Rd_enter hl hw) hm_Rd_enter hi_Rd_enter hv.1 (by decide) (Nat.le_of_ble_eq_true rfl) (iv_Rd_enter C F lm_Cert_115 hk2 d_Cert_extension_15) (fx_out0 _) (fun _ _ hE hx => Or.inr ⟨_, rfl, hE hx⟩) (fun v2 h1 H locs cells slots hw hx1 F => ?_)
  replace hw := hw hx1
  have hk2 := (hx1).k hk2
  have hk1 := (hx1).k hk1
  refine lv_istore (lv' := [(4, .int v2), (3, .int v1), (0, .ref r0), (1, .int x1), (2, .int x2)]) C.ex C.by d_Cert_extension_18 hv (by decide) rfl (fun ls hv => ?_)
  refine lv_aload_n C.ex C.by d_Cert_extension_20 rfl (lv_at hv 2 rfl) ?_
  obtain ⟨b2, hb2, hw⟩ := hw
  refine fx_getR C F lf_Cert_10 hk1 rfl hb2 d_Cert_extension_21 ?_
  refine lv_iload C.ex C.by d_Cert_extension_24 (lv_at hv 0 rfl) ?_
  obtain ⟨hk3, hw⟩ := hw
  refine fx_callI C F (c_Rd_oid hl hw) hm_Rd_oid hi_Rd_oid hv.1 (by decide) (Nat.le_of_ble_eq_true rfl) (iv_Rd_oid C F lm_Cert_152 hk3 d_Cert_extension_26) (fx_out0 _) (fun _ _ hE hx => Or.inr ⟨_, rfl, hE hx⟩) (fun v3 h2 H locs cells slots hw hx2 F => ?_)
  replace hw := hw hx2
  have hk2 := (hx2).k hk2
  have hk3 := (hx2).k hk3
  have hk1 := (hx2).k hk1
  refine lv_istore (lv' := [(5, .int v3), (4, .int v2), (3, .int v1), (0, .ref r0), (1, .int x1), (2, .int x2)]) C.ex C.by d_Cert_extension_29 hv (by decide) rfl (fun ls hv => ?_)
  refine lv_aload_n C.ex C.by d_Cert_extension_31 rfl (lv_at hv 3 rfl) ?_
  obtain ⟨b3, hb3, hw⟩ := hw
  refine fx_getR C F lf_Cert_10 hk1 rfl hb3 d_Cert_extension_32 ?_
  obtain ⟨hk4, hw⟩ := hw
  refine fx_getI C F lf_Cert_106 hk4 rfl d_Cert_extension_35 ?_
  refine lv_iload C.ex C.by d_Cert_extension_38 (lv_at hv 0 rfl) ?_
  refine lv_isub C.ex C.by d_Cert_extension_40 ?_
  let v4 : Int32 := ((hp_I h2 b3 1) - v3)
  replace hw := hw v4 rfl
  refine lv_istore (lv' := [(6, .int v4), (5, .int v3), (4, .int v2), (3, .int v1), (0, .ref r0), (1, .int x1), (2, .int x2)]) C.ex C.by d_Cert_extension_41 hv (by decide) rfl (fun ls hv => ?_)
  refine lv_aload_n C.ex C.by d_Cert_extension_43 rfl (lv_at hv 4 rfl) ?_
  refine lv_iload_n C.ex C.by d_Cert_extension_44 rfl (lv_at hv 5 rfl) ?_
  refine lv_iload_n C.ex C.by d_Cert_extension_45 rfl (lv_at hv 3 rfl) ?_
  refine lv_iload C.ex C.by d_Cert_extension_46 (lv_at hv 1 rfl) ?_
  refine lv_iload C.ex C.by d_Cert_extension_48 (lv_at hv 0 rfl) ?_
  refine fx_callZ C F (c_Cert_twice hl hw) hm_Cert_twice hi_Cert_twice hv.1 (by decide) (Nat.le_of_ble_eq_true rfl) (iv_Cert_twice C F lm_Cert_181 hk1 d_Cert_extension_50) (fx_out0 _) (fun _ _ hE hx => Or.inr ⟨_, rfl, hE hx⟩) (fun v5 h3 H locs cells slots hw hx3 hzb F => ?_)
  replace hw := hw hx3 hzb
  have hk2 := (hx3).k hk2
  have hk3 := (hx3).k hk3
  have hk4 := (hx3).k hk4
  have hk1 := (hx3).k hk1
  refine lv_if_eq C.ex C.by d_Cert_extension_53 rfl (fun hc => ?_) (fun hc => ?_)
  · replace hw := hw.1 hc
    refine lv_aload_n C.ex C.by d_Cert_extension_60 rfl (lv_at hv 4 rfl) ?_
    obtain ⟨b4, hb4, hw⟩ := hw
    refine fx_getR C F lf_Cert_10 hk1 rfl hb4 d_Cert_extension_61 ?_
    refine fx_gets C F ls_Cert_185 d_Cert_extension_64 ?_
    refine lv_iload C.ex C.by d_Cert_extension_67 (lv_at hv 1 rfl) ?_
    obtain ⟨hk5, hw⟩ := hw
    refine fx_callZ C F (c_Rd_is hl hw) hm_Rd_is hi_Rd_is hv.1 (by decide) (Nat.le_of_ble_eq_true rfl) (iv_Rd_is C F lm_Cert_188 hk5 d_Cert_extension_69) (fx_out0 _) fx_eno (fun v6 h4 H locs cells slots hw hx4 hzb F => ?_)
    replace hw := hw hx4 hzb
    have hk2 := (hx4).k hk2
    have hk3 := (hx4).k hk3
    have hk4 := (hx4).k hk4
    have hk5 := (hx4).k hk5
    have hk1 := (hx4).k hk1
    refine lv_if_eq C.ex C.by d_Cert_extension_72 rfl (fun hc => ?_) (fun hc => ?_)
    · replace hw := hw.1 hc
      refine lv_aload_n C.ex C.by d_Cert_extension_79 rfl (lv_at hv 4 rfl) ?_
      obtain ⟨b5, hb5, hw⟩ := hw
      refine fx_getR C F lf_Cert_10 hk1 rfl hb5 d_Cert_extension_80 ?_
      refine fx_gets C F ls_Cert_192 d_Cert_extension_83 ?_
      refine lv_iload C.ex C.by d_Cert_extension_86 (lv_at hv 1 rfl) ?_
      obtain ⟨hk6, hw⟩ := hw
      refine fx_callZ C F (c_Rd_is hl hw) hm_Rd_is hi_Rd_is hv.1 (by decide) (Nat.le_of_ble_eq_true rfl) (iv_Rd_is C F lm_Cert_188 hk6 d_Cert_extension_88) (fx_out0 _) fx_eno (fun v7 h5 H locs cells slots hw hx5 hzb F => ?_)
      replace hw := hw hx5 hzb
      have hk2 := (hx5).k hk2
      have hk3 := (hx5).k hk3
      have hk4 := (hx5).k hk4
      have hk5 := (hx5).k hk5
      have hk6 := (hx5).k hk6
      have hk1 := (hx5).k hk1
      refine lv_if_eq C.ex C.by d_Cert_extension_91 rfl (fun hc => ?_) (fun hc => ?_)
      · replace hw := hw.1 hc
        refine lv_aload_n C.ex C.by d_Cert_extension_98 rfl (lv_at hv 4 rfl) ?_
        obtain ⟨b6, hb6, hw⟩ := hw
        refine fx_getR C F lf_Cert_10 hk1 rfl hb6 d_Cert_extension_99 ?_
        refine fx_gets C F ls_Cert_195 d_Cert_extension_102 ?_
        refine lv_iload C.ex C.by d_Cert_extension_105 (lv_at hv 1 rfl) ?_
        obtain ⟨hk7, hw⟩ := hw
        refine fx_callZ C F (c_Rd_is hl hw) hm_Rd_is hi_Rd_is hv.1 (by decide) (Nat.le_of_ble_eq_true rfl) (iv_Rd_is C F lm_Cert_188 hk7 d_Cert_extension_107) (fx_out0 _) fx_eno (fun v8 h6 H locs cells slots hw hx6 hzb F => ?_)
        replace hw := hw hx6 hzb
        have hk2 := (hx6).k hk2
        have hk3 := (hx6).k hk3
        have hk4 := (hx6).k hk4
        have hk5 := (hx6).k hk5
        have hk6 := (hx6).k hk6
        have hk7 := (hx6).k hk7
        have hk1 := (hx6).k hk1
        refine lv_if_eq C.ex C.by d_Cert_extension_110 rfl (fun hc => ?_) (fun hc => ?_)
        · replace hw := hw.1 hc
          refine lv_aload_n C.ex C.by d_Cert_extension_117 rfl (lv_at hv 4 rfl) ?_
          obtain ⟨b7, hb7, hw⟩ := hw
          refine fx_getR C F lf_Cert_10 hk1 rfl hb7 d_Cert_extension_118 ?_
          refine fx_gets C F ls_Cert_198 d_Cert_extension_121 ?_
          refine lv_iload C.ex C.by d_Cert_extension_124 (lv_at hv 1 rfl) ?_
          obtain ⟨hk8, hw⟩ := hw
          refine fx_callZ C F (c_Rd_is hl hw) hm_Rd_is hi_Rd_is hv.1 (by decide) (Nat.le_of_ble_eq_true rfl) (iv_Rd_is C F lm_Cert_188 hk8 d_Cert_extension_126) (fx_out0 _) fx_eno (fun v9 h7 H locs cells slots hw hx7 hzb F => ?_)
          replace hw := hw hx7 hzb
          have hk2 := (hx7).k hk2
          have hk3 := (hx7).k hk3
          have hk4 := (hx7).k hk4
          have hk5 := (hx7).k hk5
          have hk6 := (hx7).k hk6
          have hk7 := (hx7).k hk7
          have hk8 := (hx7).k hk8
          have hk1 := (hx7).k hk1
          refine lv_if_eq C.ex C.by d_Cert_extension_129 rfl (fun hc => ?_) (fun hc => ?_)
          · replace hw := hw.1 hc
            refine lv_iconst (v := (0 : Int32)) C.ex C.by d_Cert_extension_136 (by decide) ?_
            exact b_Cert_extension_137 C hl _ _ _ _ hw _ _ _ _ _ (lv_sub hv [4, 2] rfl) F
          · replace hw := hw.2 hc
            refine lv_iconst (v := (4 : Int32)) C.ex C.by d_Cert_extension_132 (by decide) ?_
            refine lv_goto C.ex C.by d_Cert_extension_133 rfl ?_
            exact b_Cert_extension_137 C hl _ _ _ _ hw _ _ _ _ _ (lv_sub hv [4, 2] rfl) F
        · replace hw := hw.2 hc
          refine lv_iconst (v := (3 : Int32)) C.ex C.by d_Cert_extension_113 (by decide) ?_
          refine lv_goto C.ex C.by d_Cert_extension_114 rfl ?_
          exact b_Cert_extension_137 C hl _ _ _ _ hw _ _ _ _ _ (lv_sub hv [4, 2] rfl) F
      · replace hw := hw.2 hc
        refine lv_iconst (v := (2 : Int32)) C.ex C.by d_Cert_extension_94 (by decide) ?_
        refine lv_goto C.ex C.by d_Cert_extension_95 rfl ?_
        exact b_Cert_extension_137 C hl _ _ _ _ hw _ _ _ _ _ (lv_sub hv [4, 2] rfl) F
    · replace hw := hw.2 hc
      refine lv_iconst (v := (1 : Int32)) C.ex C.by d_Cert_extension_75 (by decide) ?_
      refine lv_goto C.ex C.by d_Cert_extension_76 rfl ?_
      exact b_Cert_extension_137 C hl _ _ _ _ hw _ _ _ _ _ (lv_sub hv [4, 2] rfl) F
  · replace hw := hw.2 hc
    refine fx_callR C F (c_Rd_bad hl hw) hm_Rd_bad hi_Rd_bad hv.1 (by decide) (Nat.le_of_ble_eq_true rfl) (iv_Rd_bad C F lm_Cert_128 d_Cert_extension_56) (fx_out0 _) fx_eno (fun q1 h8 H locs cells slots hw hx8 F => ?_)
    replace hw := hw hx8
    have hk2 := (hx8).k hk2
    have hk3 := (hx8).k hk3
    have hk4 := (hx8).k hk4
    have hk1 := (hx8).k hk1
    exact fx_athrow C F (fx_out0 _) d_Cert_extension_59 (Or.inr ⟨_, rfl, hw⟩)
theorem hm_Cert_extension : fx_hd y_Cert_extension prog_2_method_9_code 10 (none) [] ∈ tables_1 := (fx_m3 (List.mem_of_getElem? (i := 228) rfl))
theorem hi_Cert_extension : Cond.initialized y_Cert_extension.cls ∈ tables_1 := (fx_m1 (List.mem_of_getElem? (i := 11) rfl))
theorem c_Cert_extension {l : Launch} (hl : l.flags = flags0) {D : DD} {Q : AH → Prop} {E : Nat → AH → Prop} {r0 : Nat} {x1 : Int32} {x2 : Int32} {h : AH} (hw : m_Cert_extension Q E r0 x1 x2 h) : fx_Mt l D y_Cert_extension (fx_hd y_Cert_extension prog_2_method_9_code 10 (none) []) 10 146 [.ref r0, .int x1, .int x2] h (fx_oV Q E) := by
  refine fx_ofW (plainFor_of_name (by decide)) (fun p e s m below meth c C F => ?_)
  have hv := lv_entry ([.ref r0, .int x1, .int x2]) (n := 10) (Nat.le_of_ble_eq_true rfl)
  rw [lg_entry_eq]
  generalize (lg_sl ([.ref r0, .int x1, .int x2]) ++ List.replicate (10 - (lg_sl ([.ref r0, .int x1, .int x2])).length) Slot.unset).toArray = ls at hv ⊢
  have hv : lv_has ls 10 [(0, .ref r0), (1, .int x1), (2, .int x2)] := hv
  exact b_Cert_extension_0 C hl _ _ _ _ hw _ _ _ _ _ hv F
/-! ChainJudge$Certificate.extensions(I)V: frames 11, words 167, throws -/
abbrev y_Cert_extensions : MethodName := ⟨"ChainJudge$Certificate", "extensions", "(I)V"⟩
theorem lm_Cert_177 : Cond.methodLink "ChainJudge$Certificate" 177 y_Cert_extension ∈ tables_1 ∨ ∃ host, Cond.methodLinkNest "ChainJudge$Certificate" 177 y_Cert_extension host ∈ tables_1 := Or.inl (fx_m3 (List.mem_of_getElem? (i := 225) rfl))
section
variable {p : Program} {l : Launch} {e : Env} {R : Room} {s : State} {m : MethodId} {args : Array Value} {below : List Frame} {meth : Method} {c : Code} {H : Heap} {locs : List Loc} {cells slots : Nat}
variable {D : DD} {y : MethodName} {cc : ByteArray} {nL kf kw : Nat} {ret : Option FieldType} {hh : List (Nat × Nat × Nat × Nat)} {h0 h : AH} {pc : Nat} {ls : Array Slot} {rest : List Value} {b idx : Nat}
theorem iv_Cert_extension {x1 : Int32} {x2 : Int32} (C : fx_CX D y cc nL kf kw ret hh h0 p R s m meth c) (F : fx_F D h0 h H locs cells slots) (hw1 : Cond.methodLink y.cls idx y_Cert_extension ∈ tables_1 ∨ ∃ host, Cond.methodLinkNest y.cls idx y_Cert_extension host ∈ tables_1) (hk : hp_k h b = 8) (hd : decode cc pc = .ok (.invokevirtual idx, 3)) : fx_IV p l e R s m args below meth c H locs cells slots (F0 m pc ls (.int x2 :: .int x1 :: .ref b :: rest)) rest y_Cert_extension [.ref b, .int x1, .int x2] 3 := fun T hT X => fx_invV (As := [.int x1, .int x2]) (Cn := "ChainJudge$Certificate") C X hw1 (fx_m3 (List.mem_of_getElem? (i := 227) rfl)) (fx_selP C ⟨by decide, by decide⟩ (fx_m1 (List.mem_of_getElem? (i := 197) rfl)) (fx_m3 (List.mem_of_getElem? (i := 226) rfl)) (fx_m3 (List.mem_of_getElem? (i := 227) rfl))) hm_Cert_extension ⟨by decide, by decide⟩ (by rw [hT]; exact fx_clsO (ci := 7) (r := ("ChainJudge$Certificate", fx_T7, 29)) C F rfl (by decide) hk) rfl (n := 2) (by decide +kernel) rfl rfl hd
end
def dl_Cert_extensions : List (Nat × Instr × Nat) := [(0, .aload_n 0, 1), (1, .iconst 0, 1), (2, .putfield 67, 3), (5, .aload_n 0, 1), (6, .iconst 0, 1), (7, .putfield 71, 3), (10, .aload_n 0, 1), (11, .iconst (-1), 1), (12, .putfield 77, 3), (15, .aload_n 0, 1), (16, .iconst (-1), 1), (17, .putfield 80, 3), (20, .aload_n 0, 1), (21, .iconst (-1), 1), (22, .putfield 83, 3), (25, .aload_n 0, 1), (26, .iconst 0, 1), (27, .putfield 92, 3), (30, .aload_n 0, 1), (31, .iconst 0, 1), (32, .putfield 86, 3), (35, .aload_n 0, 1), (36, .iconst 0, 1), (37, .putfield 89, 3), (40, .aload_n 0, 1), (41, .iconst 0, 1), (42, .putfield 95, 3), (45, .aload_n 0, 1), (46, .getfield 10, 3), (49, .getfield 106, 3), (52, .iload_n 1, 1), (53, .if_icmp .ne 4, 3), (56, .return_, 1), (57, .aload_n 0, 1), (58, .getfield 10, 3), (61, .sipush 163, 3), (64, .iload_n 1, 1), (65, .invokevirtual 115, 3), (68, .istore_n 2, 1), (69, .aload_n 0, 1), (70, .getfield 10, 3), (73, .bipush 48, 2), (75, .iload_n 2, 1), (76, .invokevirtual 115, 3), (79, .istore_n 3, 1), (80, .aload_n 0, 1), (81, .getfield 10, 3), (84, .getfield 106, 3), (87, .iload_n 3, 1), (88, .if_icmp .ne 7, 3), (91, .invokestatic 128, 3), (94, .athrow, 1), (95, .aload_n 0, 1), (96, .getfield 10, 3), (99, .getfield 106, 3), (102, .istore 4, 2), (104, .aload_n 0, 1), (105, .getfield 10, 3), (108, .getfield 106, 3), (111, .iload_n 3, 1), (112, .if_icmp .ge 13, 3), (115, .aload_n 0, 1), (116, .iload 4, 2), (118, .iload_n 3, 1), (119, .invokevirtual 177, 3), (122, .goto (-18), 3), (125, .aload_n 0, 1), (126, .getfield 10, 3), (129, .iload_n 2, 1), (130, .invokevirtual 132, 3), (133, .return_, 1)]
theorem dk_Cert_extensions : fx_dec prog_2_method_8_code dl_Cert_extensions = true := by decide +kernel
theorem d_Cert_extensions_0 : decode prog_2_method_8_code 0 = .ok (.aload_n 0, 1) := fx_dat dk_Cert_extensions 0 rfl
theorem d_Cert_extensions_1 : decode prog_2_method_8_code 1 = .ok (.iconst 0, 1) := fx_dat dk_Cert_extensions 1 rfl
theorem d_Cert_extensions_2 : decode prog_2_method_8_code 2 = .ok (.putfield 67, 3) := fx_dat dk_Cert_extensions 2 rfl
theorem d_Cert_extensions_5 : decode prog_2_method_8_code 5 = .ok (.aload_n 0, 1) := fx_dat dk_Cert_extensions 3 rfl
theorem d_Cert_extensions_6 : decode prog_2_method_8_code 6 = .ok (.iconst 0, 1) := fx_dat dk_Cert_extensions 4 rfl
theorem d_Cert_extensions_7 : decode prog_2_method_8_code 7 = .ok (.putfield 71, 3) := fx_dat dk_Cert_extensions 5 rfl
theorem d_Cert_extensions_10 : decode prog_2_method_8_code 10 = .ok (.aload_n 0, 1) := fx_dat dk_Cert_extensions 6 rfl
theorem d_Cert_extensions_11 : decode prog_2_method_8_code 11 = .ok (.iconst (-1), 1) := fx_dat dk_Cert_extensions 7 rfl
theorem d_Cert_extensions_12 : decode prog_2_method_8_code 12 = .ok (.putfield 77, 3) := fx_dat dk_Cert_extensions 8 rfl
theorem d_Cert_extensions_15 : decode prog_2_method_8_code 15 = .ok (.aload_n 0, 1) := fx_dat dk_Cert_extensions 9 rfl
theorem d_Cert_extensions_16 : decode prog_2_method_8_code 16 = .ok (.iconst (-1), 1) := fx_dat dk_Cert_extensions 10 rfl
theorem d_Cert_extensions_17 : decode prog_2_method_8_code 17 = .ok (.putfield 80, 3) := fx_dat dk_Cert_extensions 11 rfl
theorem d_Cert_extensions_20 : decode prog_2_method_8_code 20 = .ok (.aload_n 0, 1) := fx_dat dk_Cert_extensions 12 rfl
theorem d_Cert_extensions_21 : decode prog_2_method_8_code 21 = .ok (.iconst (-1), 1) := fx_dat dk_Cert_extensions 13 rfl
theorem d_Cert_extensions_22 : decode prog_2_method_8_code 22 = .ok (.putfield 83, 3) := fx_dat dk_Cert_extensions 14 rfl
theorem d_Cert_extensions_25 : decode prog_2_method_8_code 25 = .ok (.aload_n 0, 1) := fx_dat dk_Cert_extensions 15 rfl
theorem d_Cert_extensions_26 : decode prog_2_method_8_code 26 = .ok (.iconst 0, 1) := fx_dat dk_Cert_extensions 16 rfl
theorem d_Cert_extensions_27 : decode prog_2_method_8_code 27 = .ok (.putfield 92, 3) := fx_dat dk_Cert_extensions 17 rfl
theorem d_Cert_extensions_30 : decode prog_2_method_8_code 30 = .ok (.aload_n 0, 1) := fx_dat dk_Cert_extensions 18 rfl
theorem d_Cert_extensions_31 : decode prog_2_method_8_code 31 = .ok (.iconst 0, 1) := fx_dat dk_Cert_extensions 19 rfl
theorem d_Cert_extensions_32 : decode prog_2_method_8_code 32 = .ok (.putfield 86, 3) := fx_dat dk_Cert_extensions 20 rfl
theorem d_Cert_extensions_35 : decode prog_2_method_8_code 35 = .ok (.aload_n 0, 1) := fx_dat dk_Cert_extensions 21 rfl
theorem d_Cert_extensions_36 : decode prog_2_method_8_code 36 = .ok (.iconst 0, 1) := fx_dat dk_Cert_extensions 22 rfl
theorem d_Cert_extensions_37 : decode prog_2_method_8_code 37 = .ok (.putfield 89, 3) := fx_dat dk_Cert_extensions 23 rfl
theorem d_Cert_extensions_40 : decode prog_2_method_8_code 40 = .ok (.aload_n 0, 1) := fx_dat dk_Cert_extensions 24 rfl
theorem d_Cert_extensions_41 : decode prog_2_method_8_code 41 = .ok (.iconst 0, 1) := fx_dat dk_Cert_extensions 25 rfl
theorem d_Cert_extensions_42 : decode prog_2_method_8_code 42 = .ok (.putfield 95, 3) := fx_dat dk_Cert_extensions 26 rfl
theorem d_Cert_extensions_45 : decode prog_2_method_8_code 45 = .ok (.aload_n 0, 1) := fx_dat dk_Cert_extensions 27 rfl
theorem d_Cert_extensions_46 : decode prog_2_method_8_code 46 = .ok (.getfield 10, 3) := fx_dat dk_Cert_extensions 28 rfl
theorem d_Cert_extensions_49 : decode prog_2_method_8_code 49 = .ok (.getfield 106, 3) := fx_dat dk_Cert_extensions 29 rfl
theorem d_Cert_extensions_52 : decode prog_2_method_8_code 52 = .ok (.iload_n 1, 1) := fx_dat dk_Cert_extensions 30 rfl
theorem d_Cert_extensions_53 : decode prog_2_method_8_code 53 = .ok (.if_icmp .ne 4, 3) := fx_dat dk_Cert_extensions 31 rfl
theorem d_Cert_extensions_56 : decode prog_2_method_8_code 56 = .ok (.return_, 1) := fx_dat dk_Cert_extensions 32 rfl
theorem d_Cert_extensions_57 : decode prog_2_method_8_code 57 = .ok (.aload_n 0, 1) := fx_dat dk_Cert_extensions 33 rfl
theorem d_Cert_extensions_58 : decode prog_2_method_8_code 58 = .ok (.getfield 10, 3) := fx_dat dk_Cert_extensions 34 rfl
theorem d_Cert_extensions_61 : decode prog_2_method_8_code 61 = .ok (.sipush 163, 3) := fx_dat dk_Cert_extensions 35 rfl
theorem d_Cert_extensions_64 : decode prog_2_method_8_code 64 = .ok (.iload_n 1, 1) := fx_dat dk_Cert_extensions 36 rfl
theorem d_Cert_extensions_65 : decode prog_2_method_8_code 65 = .ok (.invokevirtual 115, 3) := fx_dat dk_Cert_extensions 37 rfl
theorem d_Cert_extensions_68 : decode prog_2_method_8_code 68 = .ok (.istore_n 2, 1) := fx_dat dk_Cert_extensions 38 rfl
theorem d_Cert_extensions_69 : decode prog_2_method_8_code 69 = .ok (.aload_n 0, 1) := fx_dat dk_Cert_extensions 39 rfl
theorem d_Cert_extensions_70 : decode prog_2_method_8_code 70 = .ok (.getfield 10, 3) := fx_dat dk_Cert_extensions 40 rfl
theorem d_Cert_extensions_73 : decode prog_2_method_8_code 73 = .ok (.bipush 48, 2) := fx_dat dk_Cert_extensions 41 rfl
theorem d_Cert_extensions_75 : decode prog_2_method_8_code 75 = .ok (.iload_n 2, 1) := fx_dat dk_Cert_extensions 42 rfl
theorem d_Cert_extensions_76 : decode prog_2_method_8_code 76 = .ok (.invokevirtual 115, 3) := fx_dat dk_Cert_extensions 43 rfl
theorem d_Cert_extensions_79 : decode prog_2_method_8_code 79 = .ok (.istore_n 3, 1) := fx_dat dk_Cert_extensions 44 rfl
theorem d_Cert_extensions_80 : decode prog_2_method_8_code 80 = .ok (.aload_n 0, 1) := fx_dat dk_Cert_extensions 45 rfl
theorem d_Cert_extensions_81 : decode prog_2_method_8_code 81 = .ok (.getfield 10, 3) := fx_dat dk_Cert_extensions 46 rfl
theorem d_Cert_extensions_84 : decode prog_2_method_8_code 84 = .ok (.getfield 106, 3) := fx_dat dk_Cert_extensions 47 rfl
theorem d_Cert_extensions_87 : decode prog_2_method_8_code 87 = .ok (.iload_n 3, 1) := fx_dat dk_Cert_extensions 48 rfl
theorem d_Cert_extensions_88 : decode prog_2_method_8_code 88 = .ok (.if_icmp .ne 7, 3) := fx_dat dk_Cert_extensions 49 rfl
theorem d_Cert_extensions_91 : decode prog_2_method_8_code 91 = .ok (.invokestatic 128, 3) := fx_dat dk_Cert_extensions 50 rfl
theorem d_Cert_extensions_94 : decode prog_2_method_8_code 94 = .ok (.athrow, 1) := fx_dat dk_Cert_extensions 51 rfl
theorem d_Cert_extensions_95 : decode prog_2_method_8_code 95 = .ok (.aload_n 0, 1) := fx_dat dk_Cert_extensions 52 rfl
theorem d_Cert_extensions_96 : decode prog_2_method_8_code 96 = .ok (.getfield 10, 3) := fx_dat dk_Cert_extensions 53 rfl
theorem d_Cert_extensions_99 : decode prog_2_method_8_code 99 = .ok (.getfield 106, 3) := fx_dat dk_Cert_extensions 54 rfl
theorem d_Cert_extensions_102 : decode prog_2_method_8_code 102 = .ok (.istore 4, 2) := fx_dat dk_Cert_extensions 55 rfl
theorem d_Cert_extensions_104 : decode prog_2_method_8_code 104 = .ok (.aload_n 0, 1) := fx_dat dk_Cert_extensions 56 rfl
theorem d_Cert_extensions_105 : decode prog_2_method_8_code 105 = .ok (.getfield 10, 3) := fx_dat dk_Cert_extensions 57 rfl
theorem d_Cert_extensions_108 : decode prog_2_method_8_code 108 = .ok (.getfield 106, 3) := fx_dat dk_Cert_extensions 58 rfl
theorem d_Cert_extensions_111 : decode prog_2_method_8_code 111 = .ok (.iload_n 3, 1) := fx_dat dk_Cert_extensions 59 rfl
theorem d_Cert_extensions_112 : decode prog_2_method_8_code 112 = .ok (.if_icmp .ge 13, 3) := fx_dat dk_Cert_extensions 60 rfl
theorem d_Cert_extensions_115 : decode prog_2_method_8_code 115 = .ok (.aload_n 0, 1) := fx_dat dk_Cert_extensions 61 rfl
theorem d_Cert_extensions_116 : decode prog_2_method_8_code 116 = .ok (.iload 4, 2) := fx_dat dk_Cert_extensions 62 rfl
theorem d_Cert_extensions_118 : decode prog_2_method_8_code 118 = .ok (.iload_n 3, 1) := fx_dat dk_Cert_extensions 63 rfl
theorem d_Cert_extensions_119 : decode prog_2_method_8_code 119 = .ok (.invokevirtual 177, 3) := fx_dat dk_Cert_extensions 64 rfl
theorem d_Cert_extensions_122 : decode prog_2_method_8_code 122 = .ok (.goto (-18), 3) := fx_dat dk_Cert_extensions 65 rfl
theorem d_Cert_extensions_125 : decode prog_2_method_8_code 125 = .ok (.aload_n 0, 1) := fx_dat dk_Cert_extensions 66 rfl
theorem d_Cert_extensions_126 : decode prog_2_method_8_code 126 = .ok (.getfield 10, 3) := fx_dat dk_Cert_extensions 67 rfl
theorem d_Cert_extensions_129 : decode prog_2_method_8_code 129 = .ok (.iload_n 2, 1) := fx_dat dk_Cert_extensions 68 rfl
theorem d_Cert_extensions_130 : decode prog_2_method_8_code 130 = .ok (.invokevirtual 132, 3) := fx_dat dk_Cert_extensions 69 rfl
theorem d_Cert_extensions_133 : decode prog_2_method_8_code 133 = .ok (.return_, 1) := fx_dat dk_Cert_extensions 70 rfl
def m_Cert_extensions_104_b (Q : AH → Prop) (E : Nat → AH → Prop) (X104 : AH → Prop) (r0 : Nat) (x2 : Int32) (x3 : Int32) (x4 : Int32) (h : AH) : Prop := hp_k h r0 = 8 ∧ ∃ b1, hp_R h r0 1 = some b1 ∧ hp_k h b1 = 9 ∧ (x3 ≤ (hp_I h b1 1) → m_Rd_leave (fun h1 => fx_ext h h1 → Q h1) (fun a ht => fx_ext h ht → E a ht) b1 x2 h) ∧ (¬ x3 ≤ (hp_I h b1 1) → m_Cert_extension (fun h2 => fx_ext h h2 → X104 h2) (fun a ht => fx_ext h ht → E a ht) r0 x4 x3 h)
def m_Cert_extensions_104 (Q : AH → Prop) (E : Nat → AH → Prop) (r0 : Nat) (x2 : Int32) (x3 : Int32) (x4 : Int32) (h : AH) : Prop := fx_loop (fun (X104 : AH → Prop) (st : AH) => m_Cert_extensions_104_b Q E X104 r0 x2 x3 x4 st) (h)
def m_Cert_extensions (Q : AH → Prop) (E : Nat → AH → Prop) (r0 : Nat) (x1 : Int32) (h : AH) : Prop := hp_k h r0 = 8 ∧ ∀ h1 : AH, h1 = up_I h r0 18 (0 : Int32) → ∀ h2 : AH, h2 = up_I h1 r0 19 (0 : Int32) → ∀ h3 : AH, h3 = up_I h2 r0 21 (-1 : Int32) → ∀ h4 : AH, h4 = up_I h3 r0 22 (-1 : Int32) → ∀ h5 : AH, h5 = up_I h4 r0 23 (-1 : Int32) → ∀ h6 : AH, h6 = up_I h5 r0 26 (0 : Int32) → ∀ h7 : AH, h7 = up_I h6 r0 24 (0 : Int32) → ∀ h8 : AH, h8 = up_I h7 r0 25 (0 : Int32) → ∀ h9 : AH, h9 = up_I h8 r0 27 (0 : Int32) → ∃ b1, hp_R h9 r0 1 = some b1 ∧ hp_k h9 b1 = 9 ∧ (¬ (hp_I h9 b1 1) = x1 → m_Rd_enter (fun v1 h10 => fx_ext h9 h10 → ∃ b2, hp_R h10 r0 1 = some b2 ∧ hp_k h10 b2 = 9 ∧ m_Rd_enter (fun v2 h11 => fx_ext h10 h11 → ∃ b3, hp_R h11 r0 1 = some b3 ∧ hp_k h11 b3 = 9 ∧ (¬ (hp_I h11 b3 1) = v2 → ∀ v3 : Int32, v3 = (hp_I h11 b3 1) → m_Cert_extensions_104 Q E r0 v1 v2 v3 h11) ∧ ((hp_I h11 b3 1) = v2 → m_Rd_bad (fun q1 h12 => fx_ext h11 h12 → E q1 h12) h11)) (fun a ht => fx_ext h10 ht → E a ht) b2 (48 : Int32) v1 h10) (fun a ht => fx_ext h9 ht → E a ht) b1 (163 : Int32) x1 h9) ∧ ((hp_I h9 b1 1) = x1 → Q h9)
theorem b_Cert_extensions_104 {p : Program} {l : Launch} {e : Env} {R : Room} {s : State} {m : MethodId} {args : Array Value} {below : List Frame} {meth : Method} {c : Code} {D : DD} {h0 : AH} {Q : AH → Prop} {E : Nat → AH → Prop} (C : fx_CX D y_Cert_extensions prog_2_method_8_code 5 11 167 (none) [] h0 p R s m meth c) (hl : l.flags = flags0) (r0 : Nat) (x2 : Int32) (x3 : Int32) (x4 : Int32) (h : AH) (hw : m_Cert_extensions_104 Q E r0 x2 x3 x4 h) : ∀ (ls : Array Slot) (H : Heap) (locs : List Loc) (cells slots : Nat), lv_has ls 5 [(0, .ref r0), (2, .int x2), (3, .int x3), (4, .int x4)] → fx_F D h0 h H locs cells slots → W p l e R s m args below meth c H locs cells slots (fx_Z D below s h0 (fx_oV Q E)) (F0 m 104 ls []) := by
  refine fx_loop.use hw (fun st => ∀ (ls : Array Slot) (H : Heap) (locs : List Loc) (cells slots : Nat), lv_has ls 5 [(0, .ref r0), (2, .int x2), (3, .int x3), (4, .int x4)] → fx_F D h0 st H locs cells slots → W p l e R s m args below meth c H locs cells slots (fx_Z D below s h0 (fx_oV Q E)) (F0 m 104 ls [])) (fun X104 h hX104 hw => ?_)
  replace hw : m_Cert_extensions_104_b Q E X104 r0 x2 x3 x4 h := hw
  unfold m_Cert_extensions_104_b at hw
  intro ls H locs cells slots hv F
  refine lv_aload_n C.ex C.by d_Cert_extensions_104 rfl (lv_at hv 0 rfl) ?_
  obtain ⟨hk1, hw⟩ := hw
  obtain ⟨b1, hb1, hw⟩ := hw
  refine fx_getR C F lf_Cert_10 hk1 rfl hb1 d_Cert_extensions_105 ?_
  obtain ⟨hk2, hw⟩ := hw
  refine fx_getI C F lf_Cert_106 hk2 rfl d_Cert_extensions_108 ?_
  refine lv_iload_n C.ex C.by d_Cert_extensions_111 rfl (lv_at hv 2 rfl) ?_
  refine lv_icmp_ge C.ex C.by d_Cert_extensions_112 rfl (fun hc => ?_) (fun hc => ?_)
  · replace hw := hw.1 hc
    refine lv_aload_n C.ex C.by d_Cert_extensions_125 rfl (lv_at hv 0 rfl) ?_
    refine fx_getR C F lf_Cert_10 hk1 rfl hb1 d_Cert_extensions_126 ?_
    refine lv_iload_n C.ex C.by d_Cert_extensions_129 rfl (lv_at hv 1 rfl) ?_
    refine fx_callV C F (c_Rd_leave hl hw) hm_Rd_leave hi_Rd_leave hv.1 (by decide) (Nat.le_of_ble_eq_true rfl) (iv_Rd_leave C F lm_Cert_132 hk2 d_Cert_extensions_130) (fx_out0 _) (fun _ _ hE hx => Or.inr ⟨_, rfl, hE hx⟩) (fun h1 H locs cells slots hw hx1 F => ?_)
    replace hw := hw hx1
    have hk2 := (hx1).k hk2
    have hk1 := (hx1).k hk1
    exact fx_vret C F d_Cert_extensions_133 (Or.inl ⟨rfl, hw⟩)
  · replace hw := hw.2 hc
    refine lv_aload_n C.ex C.by d_Cert_extensions_115 rfl (lv_at hv 0 rfl) ?_
    refine lv_iload C.ex C.by d_Cert_extensions_116 (lv_at hv 3 rfl) ?_
    refine lv_iload_n C.ex C.by d_Cert_extensions_118 rfl (lv_at hv 2 rfl) ?_
    refine fx_callV C F (c_Cert_extension hl hw) hm_Cert_extension hi_Cert_extension hv.1 (by decide) (Nat.le_of_ble_eq_true rfl) (iv_Cert_extension C F lm_Cert_177 hk1 d_Cert_extensions_119) (fx_out0 _) (fun _ _ hE hx => Or.inr ⟨_, rfl, hE hx⟩) (fun h2 H locs cells slots hw hx2 F => ?_)
    replace hw := hw hx2
    have hk2 := (hx2).k hk2
    have hk1 := (hx2).k hk1
    refine lv_goto C.ex C.by d_Cert_extensions_122 rfl ?_
    exact hX104 _ hw _ _ _ _ _ hv F
theorem b_Cert_extensions_0 {p : Program} {l : Launch} {e : Env} {R : Room} {s : State} {m : MethodId} {args : Array Value} {below : List Frame} {meth : Method} {c : Code} {D : DD} {h0 : AH} {Q : AH → Prop} {E : Nat → AH → Prop} (C : fx_CX D y_Cert_extensions prog_2_method_8_code 5 11 167 (none) [] h0 p R s m meth c) (hl : l.flags = flags0) (r0 : Nat) (x1 : Int32) (h : AH) (hw : m_Cert_extensions Q E r0 x1 h) : ∀ (ls : Array Slot) (H : Heap) (locs : List Loc) (cells slots : Nat), lv_has ls 5 [(0, .ref r0), (1, .int x1)] → fx_F D h0 h H locs cells slots → W p l e R s m args below meth c H locs cells slots (fx_Z D below s h0 (fx_oV Q E)) (F0 m 0 ls []) := by
  unfold m_Cert_extensions at hw
  intro ls H locs cells slots hv F
  refine lv_aload_n C.ex C.by d_Cert_extensions_0 rfl (lv_at hv 0 rfl) ?_
  refine lv_iconst (v := (0 : Int32)) C.ex C.by d_Cert_extensions_1 (by decide) ?_
  obtain ⟨hk1, hw⟩ := hw
  let h1 : AH := up_I h r0 18 (0 : Int32)
  replace hw := hw h1 rfl
  refine fx_putZ C F lf_Cert_67 hk1 rfl rfl (Or.inl rfl) (fx_mayF.no rfl rfl) d_Cert_extensions_2 (fun H locs (F : fx_F D h0 h1 H locs _ _) => ?_)
  refine lv_aload_n C.ex C.by d_Cert_extensions_5 rfl (lv_at hv 0 rfl) ?_
  refine lv_iconst (v := (0 : Int32)) C.ex C.by d_Cert_extensions_6 (by decide) ?_
  let h2 : AH := up_I h1 r0 19 (0 : Int32)
  replace hw := hw h2 rfl
  refine fx_putZ C F lf_Cert_71 hk1 rfl rfl (Or.inl rfl) (fx_mayF.no rfl rfl) d_Cert_extensions_7 (fun H locs (F : fx_F D h0 h2 H locs _ _) => ?_)
  refine lv_aload_n C.ex C.by d_Cert_extensions_10 rfl (lv_at hv 0 rfl) ?_
  refine lv_iconst (v := (-1 : Int32)) C.ex C.by d_Cert_extensions_11 (by decide) ?_
  let h3 : AH := up_I h2 r0 21 (-1 : Int32)
  replace hw := hw h3 rfl
  refine fx_putI C F lf_Cert_77 hk1 rfl rfl (fx_mayF.no rfl rfl) d_Cert_extensions_12 (fun H locs (F : fx_F D h0 h3 H locs _ _) => ?_)
  refine lv_aload_n C.ex C.by d_Cert_extensions_15 rfl (lv_at hv 0 rfl) ?_
  refine lv_iconst (v := (-1 : Int32)) C.ex C.by d_Cert_extensions_16 (by decide) ?_
  let h4 : AH := up_I h3 r0 22 (-1 : Int32)
  replace hw := hw h4 rfl
  refine fx_putI C F lf_Cert_80 hk1 rfl rfl (fx_mayF.no rfl rfl) d_Cert_extensions_17 (fun H locs (F : fx_F D h0 h4 H locs _ _) => ?_)
  refine lv_aload_n C.ex C.by d_Cert_extensions_20 rfl (lv_at hv 0 rfl) ?_
  refine lv_iconst (v := (-1 : Int32)) C.ex C.by d_Cert_extensions_21 (by decide) ?_
  let h5 : AH := up_I h4 r0 23 (-1 : Int32)
  replace hw := hw h5 rfl
  refine fx_putI C F lf_Cert_83 hk1 rfl rfl (fx_mayF.no rfl rfl) d_Cert_extensions_22 (fun H locs (F : fx_F D h0 h5 H locs _ _) => ?_)
  refine lv_aload_n C.ex C.by d_Cert_extensions_25 rfl (lv_at hv 0 rfl) ?_
  refine lv_iconst (v := (0 : Int32)) C.ex C.by d_Cert_extensions_26 (by decide) ?_
  let h6 : AH := up_I h5 r0 26 (0 : Int32)
  replace hw := hw h6 rfl
  refine fx_putI C F lf_Cert_92 hk1 rfl rfl (fx_mayF.no rfl rfl) d_Cert_extensions_27 (fun H locs (F : fx_F D h0 h6 H locs _ _) => ?_)
  refine lv_aload_n C.ex C.by d_Cert_extensions_30 rfl (lv_at hv 0 rfl) ?_
  refine lv_iconst (v := (0 : Int32)) C.ex C.by d_Cert_extensions_31 (by decide) ?_
  let h7 : AH := up_I h6 r0 24 (0 : Int32)
  replace hw := hw h7 rfl
  refine fx_putI C F lf_Cert_86 hk1 rfl rfl (fx_mayF.no rfl rfl) d_Cert_extensions_32 (fun H locs (F : fx_F D h0 h7 H locs _ _) => ?_)
  refine lv_aload_n C.ex C.by d_Cert_extensions_35 rfl (lv_at hv 0 rfl) ?_
  refine lv_iconst (v := (0 : Int32)) C.ex C.by d_Cert_extensions_36 (by decide) ?_
  let h8 : AH := up_I h7 r0 25 (0 : Int32)
  replace hw := hw h8 rfl
  refine fx_putI C F lf_Cert_89 hk1 rfl rfl (fx_mayF.no rfl rfl) d_Cert_extensions_37 (fun H locs (F : fx_F D h0 h8 H locs _ _) => ?_)
  refine lv_aload_n C.ex C.by d_Cert_extensions_40 rfl (lv_at hv 0 rfl) ?_
  refine lv_iconst (v := (0 : Int32)) C.ex C.by d_Cert_extensions_41 (by decide) ?_
  let h9 : AH := up_I h8 r0 27 (0 : Int32)
  replace hw := hw h9 rfl
  refine fx_putI C F lf_Cert_95 hk1 rfl rfl (fx_mayF.no rfl rfl) d_Cert_extensions_42 (fun H locs (F : fx_F D h0 h9 H locs _ _) => ?_)
  refine lv_aload_n C.ex C.by d_Cert_extensions_45 rfl (lv_at hv 0 rfl) ?_
  obtain ⟨b1, hb1, hw⟩ := hw
  refine fx_getR C F lf_Cert_10 hk1 rfl hb1 d_Cert_extensions_46 ?_
  obtain ⟨hk2, hw⟩ := hw
  refine fx_getI C F lf_Cert_106 hk2 rfl d_Cert_extensions_49 ?_
  refine lv_iload_n C.ex C.by d_Cert_extensions_52 rfl (lv_at hv 1 rfl) ?_
  refine lv_icmp_ne C.ex C.by d_Cert_extensions_53 rfl (fun hc => ?_) (fun hc => ?_)
  · replace hw := hw.1 hc
    refine lv_aload_n C.ex C.by d_Cert_extensions_57 rfl (lv_at hv 0 rfl) ?_
    refine fx_getR C F lf_Cert_10 hk1 rfl hb1 d_Cert_extensions_58 ?_
    refine lv_sipush (v := (163 : Int32)) C.ex C.by d_Cert_extensions_61 (by decide) ?_
    refine lv_iload_n C.ex C.by d_Cert_extensions_64 rfl (lv_at hv 1 rfl) ?_
    refine fx_callI C F (c_Rd_enter hl hw) hm_Rd_enter hi_Rd_enter hv.1 (by decide) (Nat.le_of_ble_eq_true rfl) (iv_Rd_enter C F lm_Cert_115 hk2 d_Cert_extensions_65) (fx_out0 _) (fun _ _ hE hx => Or.inr ⟨_, rfl, hE hx⟩) (fun v1 h10 H locs cells slots hw hx1 F => ?_)
    replace hw := hw hx1
    have hk2 := (hx1).k hk2
    have hk1 := (hx1).k hk1
    refine lv_istore_n (lv' := [(2, .int v1), (0, .ref r0), (1, .int x1)]) C.ex C.by d_Cert_extensions_68 rfl hv (by decide) rfl (fun ls hv => ?_)
    refine lv_aload_n C.ex C.by d_Cert_extensions_69 rfl (lv_at hv 1 rfl) ?_
    obtain ⟨b2, hb2, hw⟩ := hw
    refine fx_getR C F lf_Cert_10 hk1 rfl hb2 d_Cert_extensions_70 ?_
    refine lv_bipush (v := (48 : Int32)) C.ex C.by d_Cert_extensions_73 (by decide) ?_
    refine lv_iload_n C.ex C.by d_Cert_extensions_75 rfl (lv_at hv 0 rfl) ?_
    obtain ⟨hk3, hw⟩ := hw
    refine fx_callI C F (c_Rd_enter hl hw) hm_Rd_enter hi_Rd_enter hv.1 (by decide) (Nat.le_of_ble_eq_true rfl) (iv_Rd_enter C F lm_Cert_115 hk3 d_Cert_extensions_76) (fx_out0 _) (fun _ _ hE hx => Or.inr ⟨_, rfl, hE hx⟩) (fun v2 h11 H locs cells slots hw hx2 F => ?_)
    replace hw := hw hx2
    have hk2 := (hx2).k hk2
    have hk3 := (hx2).k hk3
    have hk1 := (hx2).k hk1
    refine lv_istore_n (lv' := [(3, .int v2), (2, .int v1), (0, .ref r0), (1, .int x1)]) C.ex C.by d_Cert_extensions_79 rfl hv (by decide) rfl (fun ls hv => ?_)
    refine lv_aload_n C.ex C.by d_Cert_extensions_80 rfl (lv_at hv 2 rfl) ?_
    obtain ⟨b3, hb3, hw⟩ := hw
    refine fx_getR C F lf_Cert_10 hk1 rfl hb3 d_Cert_extensions_81 ?_
    obtain ⟨hk4, hw⟩ := hw
    refine fx_getI C F lf_Cert_106 hk4 rfl d_Cert_extensions_84 ?_
    refine lv_iload_n C.ex C.by d_Cert_extensions_87 rfl (lv_at hv 0 rfl) ?_
    refine lv_icmp_ne C.ex C.by d_Cert_extensions_88 rfl (fun hc => ?_) (fun hc => ?_)
    · replace hw := hw.1 hc
      refine lv_aload_n C.ex C.by d_Cert_extensions_95 rfl (lv_at hv 2 rfl) ?_
      refine fx_getR C F lf_Cert_10 hk1 rfl hb3 d_Cert_extensions_96 ?_
      refine fx_getI C F lf_Cert_106 hk4 rfl d_Cert_extensions_99 ?_
      let v3 : Int32 := (hp_I h11 b3 1)
      replace hw := hw v3 rfl
      refine lv_istore (lv' := [(4, .int v3), (3, .int v2), (2, .int v1), (0, .ref r0), (1, .int x1)]) C.ex C.by d_Cert_extensions_102 hv (by decide) rfl (fun ls hv => ?_)
      exact b_Cert_extensions_104 C hl _ _ _ _ _ hw _ _ _ _ _ (lv_sub hv [3, 2, 1, 0] rfl) F
    · replace hw := hw.2 hc
      refine fx_callR C F (c_Rd_bad hl hw) hm_Rd_bad hi_Rd_bad hv.1 (by decide) (Nat.le_of_ble_eq_true rfl) (iv_Rd_bad C F lm_Cert_128 d_Cert_extensions_91) (fx_out0 _) fx_eno (fun q1 h12 H locs cells slots hw hx3 F => ?_)
      replace hw := hw hx3
      have hk2 := (hx3).k hk2
      have hk3 := (hx3).k hk3
      have hk4 := (hx3).k hk4
      have hk1 := (hx3).k hk1
      exact fx_athrow C F (fx_out0 _) d_Cert_extensions_94 (Or.inr ⟨_, rfl, hw⟩)
  · replace hw := hw.2 hc
    exact fx_vret C F d_Cert_extensions_56 (Or.inl ⟨rfl, hw⟩)
theorem hm_Cert_extensions : fx_hd y_Cert_extensions prog_2_method_8_code 5 (none) [] ∈ tables_1 := (fx_m3 (List.mem_of_getElem? (i := 224) rfl))
theorem hi_Cert_extensions : Cond.initialized y_Cert_extensions.cls ∈ tables_1 := (fx_m1 (List.mem_of_getElem? (i := 11) rfl))
theorem c_Cert_extensions {l : Launch} (hl : l.flags = flags0) {D : DD} {Q : AH → Prop} {E : Nat → AH → Prop} {r0 : Nat} {x1 : Int32} {h : AH} (hw : m_Cert_extensions Q E r0 x1 h) : fx_Mt l D y_Cert_extensions (fx_hd y_Cert_extensions prog_2_method_8_code 5 (none) []) 11 167 [.ref r0, .int x1] h (fx_oV Q E) := by
  refine fx_ofW (plainFor_of_name (by decide)) (fun p e s m below meth c C F => ?_)
  have hv := lv_entry ([.ref r0, .int x1]) (n := 5) (Nat.le_of_ble_eq_true rfl)
  rw [lg_entry_eq]
  generalize (lg_sl ([.ref r0, .int x1]) ++ List.replicate (5 - (lg_sl ([.ref r0, .int x1])).length) Slot.unset).toArray = ls at hv ⊢
  have hv : lv_has ls 5 [(0, .ref r0), (1, .int x1)] := hv
  exact b_Cert_extensions_0 C hl _ _ _ hw _ _ _ _ _ hv F
