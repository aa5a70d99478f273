set_option maxRecDepth 10000
/-! ChainJudge$Certificate.inside(I)V: frames 12, words 183, throws -/
abbrev y_Cert_inside : MethodName := ⟨"ChainJudge$Certificate", "inside", "(I)V"⟩
theorem lm_Cert_122 : Cond.methodLink "ChainJudge$Certificate" 122 (⟨"ChainJudge$Marks", "ofMark", "(LChainJudge$Reader;I)I"⟩ : MethodName) ∈ tables_1 := (fx_m3 (List.mem_of_getElem? (i := 148) rfl))
theorem lm_Cert_135 : Cond.methodLink "ChainJudge$Certificate" 135 y_Cert_names ∈ tables_1 ∨ ∃ host, Cond.methodLinkNest "ChainJudge$Certificate" 135 y_Cert_names host ∈ tables_1 := Or.inl (fx_m3 (List.mem_of_getElem? (i := 175) rfl))
theorem lm_Cert_139 : Cond.methodLink "ChainJudge$Certificate" 139 y_Cert_time ∈ tables_1 ∨ ∃ host, Cond.methodLinkNest "ChainJudge$Certificate" 139 y_Cert_time host ∈ tables_1 := Or.inl (fx_m3 (List.mem_of_getElem? (i := 185) rfl))
theorem lm_Cert_143 : Cond.methodLink "ChainJudge$Certificate" 143 (⟨"ChainJudge$Marks", "ofKey", "(LChainJudge$Reader;I)I"⟩ : MethodName) ∈ tables_1 := (fx_m3 (List.mem_of_getElem? (i := 204) rfl))
theorem lm_Cert_146 : Cond.methodLink "ChainJudge$Certificate" 146 (⟨"ChainJudge$Marks", "key", "(I[BII)Z"⟩ : MethodName) ∈ tables_1 := (fx_m3 (List.mem_of_getElem? (i := 213) rfl))
theorem lm_Cert_149 : Cond.methodLink "ChainJudge$Certificate" 149 y_Cert_extensions ∈ tables_1 ∨ ∃ host, Cond.methodLinkNest "ChainJudge$Certificate" 149 y_Cert_extensions host ∈ tables_1 := Or.inl (fx_m3 (List.mem_of_getElem? (i := 221) rfl))
section
variable {p : Program} {l : Launch} {e : Env} {R : Room} {s : State} {m : MethodId} {args : Array Value} {below : List Frame} {meth : Method} {c : Code} {H : Heap} {locs : List Loc} {cells slots : Nat}
variable {D : DD} {y : MethodName} {cc : ByteArray} {nL kf kw : Nat} {ret : Option FieldType} {hh : List (Nat × Nat × Nat × Nat)} {h0 h : AH} {pc : Nat} {ls : Array Slot} {rest : List Value} {b idx : Nat}
theorem iv_KM_key_f {x1 : Int32} {r2 : Nat} {x3 : Int32} {x4 : Int32} (C : fx_CX D y cc nL kf kw ret hh h0 p R s m meth c) (F : fx_F D h0 h H locs cells slots) (hw1 : Cond.methodLink y.cls idx (⟨"ChainJudge$Marks", "key", "(I[BII)Z"⟩ : MethodName) ∈ tables_1) (hk : hp_k h b = 4) (hd : decode cc pc = .ok (.invokeinterface idx 5, 5)) : fx_IV p l e R s m args below meth c H locs cells slots (F0 m pc ls (.int x4 :: .int x3 :: .ref r2 :: .int x1 :: .ref b :: rest)) rest y_KM_key [.ref b, .int x1, .ref r2, .int x3, .int x4] 5 := fun T hT X => fx_invF (As := [.int x1, .ref r2, .int x3, .int x4]) (x' := (⟨"ChainJudge$Marks", "key", "(I[BII)Z"⟩ : MethodName)) (Cn := "ChainJudge$KeyedMarks") C X hw1 (fx_m3 (List.mem_of_getElem? (i := 218) rfl)) (fx_m3 (List.mem_of_getElem? (i := 215) rfl)) (fx_m3 (List.mem_of_getElem? (i := 214) rfl)) (by decide +kernel) (fx_m3 (List.mem_of_getElem? (i := 219) rfl)) (fx_m3 (List.mem_of_getElem? (i := 217) rfl)) (fx_m3 (List.mem_of_getElem? (i := 151) rfl)) (fx_m3 (List.mem_of_getElem? (i := 216) rfl)) ⟨by decide, by decide⟩ (by rw [hT]; exact fx_clsO (ci := 3) (r := ("ChainJudge$KeyedMarks", fx_T3, 2)) C F rfl (by decide) hk) rfl (n := 4) (by decide +kernel) rfl rfl hd
theorem iv_KM_ofKey_f {r1 : Nat} {x2 : Int32} (C : fx_CX D y cc nL kf kw ret hh h0 p R s m meth c) (F : fx_F D h0 h H locs cells slots) (hw1 : Cond.methodLink y.cls idx (⟨"ChainJudge$Marks", "ofKey", "(LChainJudge$Reader;I)I"⟩ : MethodName) ∈ tables_1) (hk : hp_k h b = 4) (hd : decode cc pc = .ok (.invokeinterface idx 3, 5)) : fx_IV p l e R s m args below meth c H locs cells slots (F0 m pc ls (.int x2 :: .ref r1 :: .ref b :: rest)) rest y_KM_ofKey [.ref b, .ref r1, .int x2] 5 := fun T hT X => fx_invF (As := [.ref r1, .int x2]) (x' := (⟨"ChainJudge$Marks", "ofKey", "(LChainJudge$Reader;I)I"⟩ : MethodName)) (Cn := "ChainJudge$KeyedMarks") C X hw1 (fx_m3 (List.mem_of_getElem? (i := 209) rfl)) (fx_m3 (List.mem_of_getElem? (i := 206) rfl)) (fx_m3 (List.mem_of_getElem? (i := 205) rfl)) (by decide +kernel) (fx_m3 (List.mem_of_getElem? (i := 210) rfl)) (fx_m3 (List.mem_of_getElem? (i := 208) rfl)) (fx_m3 (List.mem_of_getElem? (i := 151) rfl)) (fx_m3 (List.mem_of_getElem? (i := 207) rfl)) ⟨by decide, by decide⟩ (by rw [hT]; exact fx_clsO (ci := 3) (r := ("ChainJudge$KeyedMarks", fx_T3, 2)) C F rfl (by decide) hk) rfl (n := 2) (by decide +kernel) rfl rfl hd
theorem iv_KM_ofMark_f {r1 : Nat} {x2 : Int32} (C : fx_CX D y cc nL kf kw ret hh h0 p R s m meth c) (F : fx_F D h0 h H locs cells slots) (hw1 : Cond.methodLink y.cls idx (⟨"ChainJudge$Marks", "ofMark", "(LChainJudge$Reader;I)I"⟩ : MethodName) ∈ tables_1) (hk : hp_k h b = 4) (hd : decode cc pc = .ok (.invokeinterface idx 3, 5)) : fx_IV p l e R s m args below meth c H locs cells slots (F0 m pc ls (.int x2 :: .ref r1 :: .ref b :: rest)) rest y_KM_ofMark [.ref b, .ref r1, .int x2] 5 := fun T hT X => fx_invF (As := [.ref r1, .int x2]) (x' := (⟨"ChainJudge$Marks", "ofMark", "(LChainJudge$Reader;I)I"⟩ : MethodName)) (Cn := "ChainJudge$KeyedMarks") C X hw1 (fx_m3 (List.mem_of_getElem? (i := 154) rfl)) (fx_m3 (List.mem_of_getElem? (i := 150) rfl)) (fx_m3 (List.mem_of_getElem? (i := 149) rfl)) (by decide +kernel) (fx_m3 (List.mem_of_getElem? (i := 155) rfl)) (fx_m3 (List.mem_of_getElem? (i := 153) rfl)) (fx_m3 (List.mem_of_getElem? (i := 151) rfl)) (fx_m3 (List.mem_of_getElem? (i := 152) rfl)) ⟨by decide, by decide⟩ (by rw [hT]; exact fx_clsO (ci := 3) (r := ("ChainJudge$KeyedMarks", fx_T3, 2)) C F rfl (by decide) hk) rfl (n := 2) (by decide +kernel) rfl rfl hd
theorem iv_Cert_extensions {x1 : Int32} (C : fx_CX D y cc nL kf kw ret hh h0 p R s m meth c) (F : fx_F D h0 h H locs cells slots) (hw1 : Cond.methodLink y.cls idx y_Cert_extensions ∈ tables_1 ∨ ∃ host, Cond.methodLinkNest y.cls idx y_Cert_extensions host ∈ tables_1) (hk : hp_k h b = 8) (hd : decode cc pc = .ok (.invokevirtual idx, 3)) : fx_IV p l e R s m args below meth c H locs cells slots (F0 m pc ls (.int x1 :: .ref b :: rest)) rest y_Cert_extensions [.ref b, .int x1] 3 := fun T hT X => fx_invV (As := [.int x1]) (Cn := "ChainJudge$Certificate") C X hw1 (fx_m3 (List.mem_of_getElem? (i := 223) rfl)) (fx_selP C ⟨by decide, by decide⟩ (fx_m1 (List.mem_of_getElem? (i := 197) rfl)) (fx_m3 (List.mem_of_getElem? (i := 222) rfl)) (fx_m3 (List.mem_of_getElem? (i := 223) rfl))) hm_Cert_extensions ⟨by decide, by decide⟩ (by rw [hT]; exact fx_clsO (ci := 7) (r := ("ChainJudge$Certificate", fx_T7, 29)) C F rfl (by decide) hk) rfl (n := 1) (by decide +kernel) rfl rfl hd
theorem iv_Cert_names {x1 : Int32} (C : fx_CX D y cc nL kf kw ret hh h0 p R s m meth c) (F : fx_F D h0 h H locs cells slots) (hw1 : Cond.methodLink y.cls idx y_Cert_names ∈ tables_1 ∨ ∃ host, Cond.methodLinkNest y.cls idx y_Cert_names host ∈ tables_1) (hk : hp_k h b = 8) (hd : decode cc pc = .ok (.invokevirtual idx, 3)) : fx_IV p l e R s m args below meth c H locs cells slots (F0 m pc ls (.int x1 :: .ref b :: rest)) rest y_Cert_names [.ref b, .int x1] 3 := fun T hT X => fx_invV (As := [.int x1]) (Cn := "ChainJudge$Certificate") C X hw1 (fx_m3 (List.mem_of_getElem? (i := 177) rfl)) (fx_selP C ⟨by decide, by decide⟩ (fx_m1 (List.mem_of_getElem? (i := 197) rfl)) (fx_m3 (List.mem_of_getElem? (i := 176) rfl)) (fx_m3 (List.mem_of_getElem? (i := 177) rfl))) hm_Cert_names ⟨by decide, by decide⟩ (by rw [hT]; exact fx_clsO (ci := 7) (r := ("ChainJudge$Certificate", fx_T7, 29)) C F rfl (by decide) hk) rfl (n := 1) (by decide +kernel) rfl rfl hd
theorem iv_Cert_time {x1 : Int32} (C : fx_CX D y cc nL kf kw ret hh h0 p R s m meth c) (F : fx_F D h0 h H locs cells slots) (hw1 : Cond.methodLink y.cls idx y_Cert_time ∈ tables_1 ∨ ∃ host, Cond.methodLinkNest y.cls idx y_Cert_time host ∈ tables_1) (hk : hp_k h b = 8) (hd : decode cc pc = .ok (.invokevirtual idx, 3)) : fx_IV p l e R s m args below meth c H locs cells slots (F0 m pc ls (.int x1 :: .ref b :: rest)) rest y_Cert_time [.ref b, .int x1] 3 := fun T hT X => fx_invV (As := [.int x1]) (Cn := "ChainJudge$Certificate") C X hw1 (fx_m3 (List.mem_of_getElem? (i := 187) rfl)) (fx_selP C ⟨by decide, by decide⟩ (fx_m1 (List.mem_of_getElem? (i := 197) rfl)) (fx_m3 (List.mem_of_getElem? (i := 186) rfl)) (fx_m3 (List.mem_of_getElem? (i := 187) rfl))) hm_Cert_time ⟨by decide, by decide⟩ (by rw [hT]; exact fx_clsO (ci := 7) (r := ("ChainJudge$Certificate", fx_T7, 29)) C F rfl (by decide) hk) rfl (n := 1) (by decide +kernel) rfl rfl hd
end
def dl_Cert_inside : List (Nat × Instr × Nat) := [(0, .aload_n 0, 1), (1, .getfield 10, 3), (4, .bipush 48, 2), (6, .iload_n 1, 1), (7, .invokevirtual 115, 3), (10, .istore_n 2, 1), (11, .aload_n 0, 1), (12, .iload_n 2, 1), (13, .putfield 24, 3), (16, .aload_n 0, 1), (17, .getfield 10, 3), (20, .sipush 160, 3), (23, .iload_n 2, 1), (24, .invokevirtual 115, 3), (27, .istore_n 3, 1), (28, .aload_n 0, 1), (29, .getfield 10, 3), (32, .iconst 2, 1), (33, .iload_n 3, 1), (34, .invokevirtual 115, 3), (37, .istore 4, 2), (39, .iload 4, 2), (41, .aload_n 0, 1), (42, .getfield 10, 3), (45, .getfield 106, 3), (48, .isub, 1), (49, .iconst 1, 1), (50, .if_icmp .ne 19, 3), (53, .aload_n 0, 1), (54, .getfield 16, 3), (57, .aload_n 0, 1), (58, .getfield 10, 3), (61, .getfield 106, 3), (64, .baload, 1), (65, .iconst 2, 1), (66, .if_icmp .eq 7, 3), (69, .invokestatic 128, 3), (72, .athrow, 1), (73, .aload_n 0, 1), (74, .getfield 10, 3), (77, .iload 4, 2), (79, .putfield 106, 3), (82, .aload_n 0, 1), (83, .getfield 10, 3), (86, .iload_n 3, 1), (87, .invokevirtual 132, 3), (90, .aload_n 0, 1), (91, .getfield 10, 3), (94, .iconst 2, 1), (95, .iload_n 2, 1), (96, .invokevirtual 115, 3), (99, .istore 5, 2), (101, .iload 5, 2), (103, .aload_n 0, 1), (104, .getfield 10, 3), (107, .getfield 106, 3), (110, .isub, 1), (111, .istore 6, 2), (113, .aload_n 0, 1), (114, .iload 6, 2), (116, .putfield 74, 3), (119, .iload 6, 2), (121, .iconst 1, 1), (122, .if_icmp .lt 63, 3), (125, .iload 6, 2), (127, .bipush 20, 2), (129, .if_icmp .gt 56, 3), (132, .aload_n 0, 1), (133, .getfield 16, 3), (136, .aload_n 0, 1), (137, .getfield 10, 3), (140, .getfield 106, 3), (143, .baload, 1), (144, .ifCond .lt 41, 3), (147, .aload_n 0, 1), (148, .getfield 16, 3), (151, .aload_n 0, 1), (152, .getfield 10, 3), (155, .getfield 106, 3), (158, .baload, 1), (159, .ifCond .ne 30, 3), (162, .iload 6, 2), (164, .iconst 1, 1), (165, .if_icmp .eq 20, 3), (168, .aload_n 0, 1), (169, .getfield 16, 3), (172, .aload_n 0, 1), (173, .getfield 10, 3), (176, .getfield 106, 3), (179, .iconst 1, 1), (180, .iadd, 1), (181, .baload, 1), (182, .ifCond .lt 7, 3), (185, .invokestatic 128, 3), (188, .athrow, 1), (189, .aload_n 0, 1), (190, .getfield 10, 3), (193, .iload 5, 2), (195, .putfield 106, 3), (198, .aload_n 0, 1), (199, .aload_n 0, 1), (200, .getfield 101, 3), (203, .aload_n 0, 1), (204, .getfield 10, 3), (207, .iload_n 2, 1), (208, .invokeinterface 122 3, 5), (213, .putfield 98, 3), (216, .aload_n 0, 1), (217, .aload_n 0, 1), (218, .getfield 10, 3), (221, .getfield 106, 3), (224, .putfield 27, 3), (227, .aload_n 0, 1), (228, .iload_n 2, 1), (229, .invokevirtual 135, 3), (232, .pop, 1), (233, .aload_n 0, 1), (234, .aload_n 0, 1), (235, .getfield 10, 3), (238, .getfield 106, 3), (241, .putfield 30, 3), (244, .aload_n 0, 1), (245, .getfield 10, 3), (248, .bipush 48, 2), (250, .iload_n 2, 1), (251, .invokevirtual 115, 3), (254, .istore 7, 2), (256, .aload_n 0, 1), (257, .aload_n 0, 1), (258, .iload 7, 2), (260, .invokevirtual 139, 3), (263, .putfield 60, 3), (266, .aload_n 0, 1), (267, .aload_n 0, 1), (268, .iload 7, 2), (270, .invokevirtual 139, 3), (273, .putfield 64, 3), (276, .aload_n 0, 1), (277, .getfield 10, 3), (280, .iload 7, 2), (282, .invokevirtual 132, 3), (285, .aload_n 0, 1), (286, .aload_n 0, 1), (287, .getfield 10, 3), (290, .getfield 106, 3), (293, .putfield 33, 3), (296, .aload_n 0, 1), (297, .aload_n 0, 1), (298, .iload_n 2, 1), (299, .invokevirtual 135, 3), (302, .putfield 57, 3), (305, .aload_n 0, 1), (306, .aload_n 0, 1), (307, .getfield 10, 3), (310, .getfield 106, 3), (313, .putfield 36, 3), (316, .aload_n 0, 1), (317, .getfield 10, 3), (320, .bipush 48, 2), (322, .iload_n 2, 1), (323, .invokevirtual 115, 3), (326, .istore 8, 2), (328, .aload_n 0, 1), (329, .aload_n 0, 1), (330, .getfield 101, 3), (333, .aload_n 0, 1), (334, .getfield 10, 3), (337, .iload 8, 2), (339, .invokeinterface 143 3, 5), (344, .putfield 51, 3), (347, .aload_n 0, 1), (348, .getfield 10, 3), (351, .iconst 3, 1), (352, .iload 8, 2), (354, .invokevirtual 115, 3), (357, .istore 9, 2), (359, .aload_n 0, 1), (360, .getfield 10, 3), (363, .getfield 106, 3), (366, .iload 9, 2), (368, .if_icmp .eq 18, 3), (371, .aload_n 0, 1), (372, .getfield 16, 3), (375, .aload_n 0, 1), (376, .getfield 10, 3), (379, .getfield 106, 3), (382, .baload, 1), (383, .ifCond .eq 7, 3), (386, .invokestatic 128, 3), (389, .athrow, 1), (390, .aload_n 0, 1), (391, .aload_n 0, 1), (392, .getfield 10, 3), (395, .getfield 106, 3), (398, .iconst 1, 1), (399, .iadd, 1), (400, .putfield 39, 3), (403, .aload_n 0, 1), (404, .iload 9, 2), (406, .putfield 42, 3), (409, .aload_n 0, 1), (410, .getfield 10, 3), (413, .iload 9, 2), (415, .putfield 106, 3), (418, .aload_n 0, 1), (419, .getfield 10, 3), (422, .iload 8, 2), (424, .invokevirtual 132, 3), (427, .aload_n 0, 1), (428, .getfield 101, 3), (431, .aload_n 0, 1), (432, .getfield 51, 3), (435, .aload_n 0, 1), (436, .getfield 16, 3), (439, .aload_n 0, 1), (440, .getfield 39, 3), (443, .aload_n 0, 1), (444, .getfield 42, 3), (447, .aload_n 0, 1), (448, .getfield 39, 3), (451, .isub, 1), (452, .invokeinterface 146 5, 5), (457, .ifCond .ne 7, 3), (460, .invokestatic 128, 3), (463, .athrow, 1), (464, .aload_n 0, 1), (465, .iload_n 2, 1), (466, .invokevirtual 149, 3), (469, .aload_n 0, 1), (470, .getfield 10, 3), (473, .iload_n 2, 1), (474, .invokevirtual 132, 3), (477, .return_, 1)]
theorem dk_Cert_inside : fx_dec prog_2_method_4_code dl_Cert_inside = true := by decide +kernel
theorem d_Cert_inside_0 : decode prog_2_method_4_code 0 = .ok (.aload_n 0, 1) := fx_dat dk_Cert_inside 0 rfl
theorem d_Cert_inside_1 : decode prog_2_method_4_code 1 = .ok (.getfield 10, 3) := fx_dat dk_Cert_inside 1 rfl
theorem d_Cert_inside_4 : decode prog_2_method_4_code 4 = .ok (.bipush 48, 2) := fx_dat dk_Cert_inside 2 rfl
theorem d_Cert_inside_6 : decode prog_2_method_4_code 6 = .ok (.iload_n 1, 1) := fx_dat dk_Cert_inside 3 rfl
theorem d_Cert_inside_7 : decode prog_2_method_4_code 7 = .ok (.invokevirtual 115, 3) := fx_dat dk_Cert_inside 4 rfl
theorem d_Cert_inside_10 : decode prog_2_method_4_code 10 = .ok (.istore_n 2, 1) := fx_dat dk_Cert_inside 5 rfl
theorem d_Cert_inside_11 : decode prog_2_method_4_code 11 = .ok (.aload_n 0, 1) := fx_dat dk_Cert_inside 6 rfl
theorem d_Cert_inside_12 : decode prog_2_method_4_code 12 = .ok (.iload_n 2, 1) := fx_dat dk_Cert_inside 7 rfl
theorem d_Cert_inside_13 : decode prog_2_method_4_code 13 = .ok (.putfield 24, 3) := fx_dat dk_Cert_inside 8 rfl
theorem d_Cert_inside_16 : decode prog_2_method_4_code 16 = .ok (.aload_n 0, 1) := fx_dat dk_Cert_inside 9 rfl
theorem d_Cert_inside_17 : decode prog_2_method_4_code 17 = .ok (.getfield 10, 3) := fx_dat dk_Cert_inside 10 rfl
theorem d_Cert_inside_20 : decode prog_2_method_4_code 20 = .ok (.sipush 160, 3) := fx_dat dk_Cert_inside 11 rfl
theorem d_Cert_inside_23 : decode prog_2_method_4_code 23 = .ok (.iload_n 2, 1) := fx_dat dk_Cert_inside 12 rfl
theorem d_Cert_inside_24 : decode prog_2_method_4_code 24 = .ok (.invokevirtual 115, 3) := fx_dat dk_Cert_inside 13 rfl
theorem d_Cert_inside_27 : decode prog_2_method_4_code 27 = .ok (.istore_n 3, 1) := fx_dat dk_Cert_inside 14 rfl
theorem d_Cert_inside_28 : decode prog_2_method_4_code 28 = .ok (.aload_n 0, 1) := fx_dat dk_Cert_inside 15 rfl
theorem d_Cert_inside_29 : decode prog_2_method_4_code 29 = .ok (.getfield 10, 3) := fx_dat dk_Cert_inside 16 rfl
theorem d_Cert_inside_32 : decode prog_2_method_4_code 32 = .ok (.iconst 2, 1) := fx_dat dk_Cert_inside 17 rfl
theorem d_Cert_inside_33 : decode prog_2_method_4_code 33 = .ok (.iload_n 3, 1) := fx_dat dk_Cert_inside 18 rfl
theorem d_Cert_inside_34 : decode prog_2_method_4_code 34 = .ok (.invokevirtual 115, 3) := fx_dat dk_Cert_inside 19 rfl
theorem d_Cert_inside_37 : decode prog_2_method_4_code 37 = .ok (.istore 4, 2) := fx_dat dk_Cert_inside 20 rfl
theorem d_Cert_inside_39 : decode prog_2_method_4_code 39 = .ok (.iload 4, 2) := fx_dat dk_Cert_inside 21 rfl
theorem d_Cert_inside_41 : decode prog_2_method_4_code 41 = .ok (.aload_n 0, 1) := fx_dat dk_Cert_inside 22 rfl
theorem d_Cert_inside_42 : decode prog_2_method_4_code 42 = .ok (.getfield 10, 3) := fx_dat dk_Cert_inside 23 rfl
theorem d_Cert_inside_45 : decode prog_2_method_4_code 45 = .ok (.getfield 106, 3) := fx_dat dk_Cert_inside 24 rfl
theorem d_Cert_inside_48 : decode prog_2_method_4_code 48 = .ok (.isub, 1) := fx_dat dk_Cert_inside 25 rfl
theorem d_Cert_inside_49 : decode prog_2_method_4_code 49 = .ok (.iconst 1, 1) := fx_dat dk_Cert_inside 26 rfl
theorem d_Cert_inside_50 : decode prog_2_method_4_code 50 = .ok (.if_icmp .ne 19, 3) := fx_dat dk_Cert_inside 27 rfl
theorem d_Cert_inside_53 : decode prog_2_method_4_code 53 = .ok (.aload_n 0, 1) := fx_dat dk_Cert_inside 28 rfl
theorem d_Cert_inside_54 : decode prog_2_method_4_code 54 = .ok (.getfield 16, 3) := fx_dat dk_Cert_inside 29 rfl
theorem d_Cert_inside_57 : decode prog_2_method_4_code 57 = .ok (.aload_n 0, 1) := fx_dat dk_Cert_inside 30 rfl
theorem d_Cert_inside_58 : decode prog_2_method_4_code 58 = .ok (.getfield 10, 3) := fx_dat dk_Cert_inside 31 rfl
theorem d_Cert_inside_61 : decode prog_2_method_4_code 61 = .ok (.getfield 106, 3) := fx_dat dk_Cert_inside 32 rfl
theorem d_Cert_inside_64 : decode prog_2_method_4_code 64 = .ok (.baload, 1) := fx_dat dk_Cert_inside 33 rfl
theorem d_Cert_inside_65 : decode prog_2_method_4_code 65 = .ok (.iconst 2, 1) := fx_dat dk_Cert_inside 34 rfl
theorem d_Cert_inside_66 : decode prog_2_method_4_code 66 = .ok (.if_icmp .eq 7, 3) := fx_dat dk_Cert_inside 35 rfl
theorem d_Cert_inside_69 : decode prog_2_method_4_code 69 = .ok (.invokestatic 128, 3) := fx_dat dk_Cert_inside 36 rfl
theorem d_Cert_inside_72 : decode prog_2_method_4_code 72 = .ok (.athrow, 1) := fx_dat dk_Cert_inside 37 rfl
theorem d_Cert_inside_73 : decode prog_2_method_4_code 73 = .ok (.aload_n 0, 1) := fx_dat dk_Cert_inside 38 rfl
theorem d_Cert_inside_74 : decode prog_2_method_4_code 74 = .ok (.getfield 10, 3) := fx_dat dk_Cert_inside 39 rfl
theorem d_Cert_inside_77 : decode prog_2_method_4_code 77 = .ok (.iload 4, 2) := fx_dat dk_Cert_inside 40 rfl
theorem d_Cert_inside_79 : decode prog_2_method_4_code 79 = .ok (.putfield 106, 3) := fx_dat dk_Cert_inside 41 rfl
theorem d_Cert_inside_82 : decode prog_2_method_4_code 82 = .ok (.aload_n 0, 1) := fx_dat dk_Cert_inside 42 rfl
theorem d_Cert_inside_83 : decode prog_2_method_4_code 83 = .ok (.getfield 10, 3) := fx_dat dk_Cert_inside 43 rfl
theorem d_Cert_inside_86 : decode prog_2_method_4_code 86 = .ok (.iload_n 3, 1) := fx_dat dk_Cert_inside 44 rfl
theorem d_Cert_inside_87 : decode prog_2_method_4_code 87 = .ok (.invokevirtual 132, 3) := fx_dat dk_Cert_inside 45 rfl
theorem d_Cert_inside_90 : decode prog_2_method_4_code 90 = .ok (.aload_n 0, 1) := fx_dat dk_Cert_inside 46 rfl
theorem d_Cert_inside_91 : decode prog_2_method_4_code 91 = .ok (.getfield 10, 3) := fx_dat dk_Cert_inside 47 rfl
theorem d_Cert_inside_94 : decode prog_2_method_4_code 94 = .ok (.iconst 2, 1) := fx_dat dk_Cert_inside 48 rfl
theorem d_Cert_inside_95 : decode prog_2_method_4_code 95 = .ok (.iload_n 2, 1) := fx_dat dk_Cert_inside 49 rfl
theorem d_Cert_inside_96 : decode prog_2_method_4_code 96 = .ok (.invokevirtual 115, 3) := fx_dat dk_Cert_inside 50 rfl
theorem d_Cert_inside_99 : decode prog_2_method_4_code 99 = .ok (.istore 5, 2) := fx_dat dk_Cert_inside 51 rfl
theorem d_Cert_inside_101 : decode prog_2_method_4_code 101 = .ok (.iload 5, 2) := fx_dat dk_Cert_inside 52 rfl
theorem d_Cert_inside_103 : decode prog_2_method_4_code 103 = .ok (.aload_n 0, 1) := fx_dat dk_Cert_inside 53 rfl
theorem d_Cert_inside_104 : decode prog_2_method_4_code 104 = .ok (.getfield 10, 3) := fx_dat dk_Cert_inside 54 rfl
theorem d_Cert_inside_107 : decode prog_2_method_4_code 107 = .ok (.getfield 106, 3) := fx_dat dk_Cert_inside 55 rfl
theorem d_Cert_inside_110 : decode prog_2_method_4_code 110 = .ok (.isub, 1) := fx_dat dk_Cert_inside 56 rfl
theorem d_Cert_inside_111 : decode prog_2_method_4_code 111 = .ok (.istore 6, 2) := fx_dat dk_Cert_inside 57 rfl
theorem d_Cert_inside_113 : decode prog_2_method_4_code 113 = .ok (.aload_n 0, 1) := fx_dat dk_Cert_inside 58 rfl
theorem d_Cert_inside_114 : decode prog_2_method_4_code 114 = .ok (.iload 6, 2) := fx_dat dk_Cert_inside 59 rfl
theorem d_Cert_inside_116 : decode prog_2_method_4_code 116 = .ok (.putfield 74, 3) := fx_dat dk_Cert_inside 60 rfl
theorem d_Cert_inside_119 : decode prog_2_method_4_code 119 = .ok (.iload 6, 2) := fx_dat dk_Cert_inside 61 rfl
theorem d_Cert_inside_121 : decode prog_2_method_4_code 121 = .ok (.iconst 1, 1) := fx_dat dk_Cert_inside 62 rfl
theorem d_Cert_inside_122 : decode prog_2_method_4_code 122 = .ok (.if_icmp .lt 63, 3) := fx_dat dk_Cert_inside 63 rfl
theorem d_Cert_inside_125 : decode prog_2_method_4_code 125 = .ok (.iload 6, 2) := fx_dat dk_Cert_inside 64 rfl
theorem d_Cert_inside_127 : decode prog_2_method_4_code 127 = .ok (.bipush 20, 2) := fx_dat dk_Cert_inside 65 rfl
theorem d_Cert_inside_129 : decode prog_2_method_4_code 129 = .ok (.if_icmp .gt 56, 3) := fx_dat dk_Cert_inside 66 rfl
theorem d_Cert_inside_132 : decode prog_2_method_4_code 132 = .ok (.aload_n 0, 1) := fx_dat dk_Cert_inside 67 rfl
theorem d_Cert_inside_133 : decode prog_2_method_4_code 133 = .ok (.getfield 16, 3) := fx_dat dk_Cert_inside 68 rfl
theorem d_Cert_inside_136 : decode prog_2_method_4_code 136 = .ok (.aload_n 0, 1) := fx_dat dk_Cert_inside 69 rfl
theorem d_Cert_inside_137 : decode prog_2_method_4_code 137 = .ok (.getfield 10, 3) := fx_dat dk_Cert_inside 70 rfl
theorem d_Cert_inside_140 : decode prog_2_method_4_code 140 = .ok (.getfield 106, 3) := fx_dat dk_Cert_inside 71 rfl
theorem d_Cert_inside_143 : decode prog_2_method_4_code 143 = .ok (.baload, 1) := fx_dat dk_Cert_inside 72 rfl
theorem d_Cert_inside_144 : decode prog_2_method_4_code 144 = .ok (.ifCond .lt 41, 3) := fx_dat dk_Cert_inside 73 rfl
theorem d_Cert_inside_147 : decode prog_2_method_4_code 147 = .ok (.aload_n 0, 1) := fx_dat dk_Cert_inside 74 rfl
theorem d_Cert_inside_148 : decode prog_2_method_4_code 148 = .ok (.getfield 16, 3) := fx_dat dk_Cert_inside 75 rfl
theorem d_Cert_inside_151 : decode prog_2_method_4_code 151 = .ok (.aload_n 0, 1) := fx_dat dk_Cert_inside 76 rfl
theorem d_Cert_inside_152 : decode prog_2_method_4_code 152 = .ok (.getfield 10, 3) := fx_dat dk_Cert_inside 77 rfl
theorem d_Cert_inside_155 : decode prog_2_method_4_code 155 = .ok (.getfield 106, 3) := fx_dat dk_Cert_inside 78 rfl
theorem d_Cert_inside_158 : decode prog_2_method_4_code 158 = .ok (.baload, 1) := fx_dat dk_Cert_inside 79 rfl
theorem d_Cert_inside_159 : decode prog_2_method_4_code 159 = .ok (.ifCond .ne 30, 3) := fx_dat dk_Cert_inside 80 rfl
theorem d_Cert_inside_162 : decode prog_2_method_4_code 162 = .ok (.iload 6, 2) := fx_dat dk_Cert_inside 81 rfl
theorem d_Cert_inside_164 : decode prog_2_method_4_code 164 = .ok (.iconst 1, 1) := fx_dat dk_Cert_inside 82 rfl
theorem d_Cert_inside_165 : decode prog_2_method_4_code 165 = .ok (.if_icmp .eq 20, 3) := fx_dat dk_Cert_inside 83 rfl
theorem d_Cert_inside_168 : decode prog_2_method_4_code 168 = .ok (.aload_n 0, 1) := fx_dat dk_Cert_inside 84 rfl
theorem d_Cert_inside_169 : decode prog_2_method_4_code 169 = .ok (.getfield 16, 3) := fx_dat dk_Cert_inside 85 rfl
theorem d_Cert_inside_172 : decode prog_2_method_4_code 172 = .ok (.aload_n 0, 1) := fx_dat dk_Cert_inside 86 rfl
theorem d_Cert_inside_173 : decode prog_2_method_4_code 173 = .ok (.getfield 10, 3) := fx_dat dk_Cert_inside 87 rfl
theorem d_Cert_inside_176 : decode prog_2_method_4_code 176 = .ok (.getfield 106, 3) := fx_dat dk_Cert_inside 88 rfl
theorem d_Cert_inside_179 : decode prog_2_method_4_code 179 = .ok (.iconst 1, 1) := fx_dat dk_Cert_inside 89 rfl
theorem d_Cert_inside_180 : decode prog_2_method_4_code 180 = .ok (.iadd, 1) := fx_dat dk_Cert_inside 90 rfl
theorem d_Cert_inside_181 : decode prog_2_method_4_code 181 = .ok (.baload, 1) := fx_dat dk_Cert_inside 91 rfl
theorem d_Cert_inside_182 : decode prog_2_method_4_code 182 = .ok (.ifCond .lt 7, 3) := fx_dat dk_Cert_inside 92 rfl
theorem d_Cert_inside_185 : decode prog_2_method_4_code 185 = .ok (.invokestatic 128, 3) := fx_dat dk_Cert_inside 93 rfl
theorem d_Cert_inside_188 : decode prog_2_method_4_code 188 = .ok (.athrow, 1) := fx_dat dk_Cert_inside 94 rfl
theorem d_Cert_inside_189 : decode prog_2_method_4_code 189 = .ok (.aload_n 0, 1) := fx_dat dk_Cert_inside 95 rfl
theorem d_Cert_inside_190 : decode prog_2_method_4_code 190 = .ok (.getfield 10, 3) := fx_dat dk_Cert_inside 96 rfl
theorem d_Cert_inside_193 : decode prog_2_method_4_code 193 = .ok (.iload 5, 2) := fx_dat dk_Cert_inside 97 rfl
theorem d_Cert_inside_195 : decode prog_2_method_4_code 195 = .ok (.putfield 106, 3) := fx_dat dk_Cert_inside 98 rfl
theorem d_Cert_inside_198 : decode prog_2_method_4_code 198 = .ok (.aload_n 0, 1) := fx_dat dk_Cert_inside 99 rfl
theorem d_Cert_inside_199 : decode prog_2_method_4_code 199 = .ok (.aload_n 0, 1) := fx_dat dk_Cert_inside 100 rfl
theorem d_Cert_inside_200 : decode prog_2_method_4_code 200 = .ok (.getfield 101, 3) := fx_dat dk_Cert_inside 101 rfl
theorem d_Cert_inside_203 : decode prog_2_method_4_code 203 = .ok (.aload_n 0, 1) := fx_dat dk_Cert_inside 102 rfl
theorem d_Cert_inside_204 : decode prog_2_method_4_code 204 = .ok (.getfield 10, 3) := fx_dat dk_Cert_inside 103 rfl
theorem d_Cert_inside_207 : decode prog_2_method_4_code 207 = .ok (.iload_n 2, 1) := fx_dat dk_Cert_inside 104 rfl
theorem d_Cert_inside_208 : decode prog_2_method_4_code 208 = .ok (.invokeinterface 122 3, 5) := fx_dat dk_Cert_inside 105 rfl
theorem d_Cert_inside_213 : decode prog_2_method_4_code 213 = .ok (.putfield 98, 3) := fx_dat dk_Cert_inside 106 rfl
theorem d_Cert_inside_216 : decode prog_2_method_4_code 216 = .ok (.aload_n 0, 1) := fx_dat dk_Cert_inside 107 rfl
theorem d_Cert_inside_217 : decode prog_2_method_4_code 217 = .ok (.aload_n 0, 1) := fx_dat dk_Cert_inside 108 rfl
theorem d_Cert_inside_218 : decode prog_2_method_4_code 218 = .ok (.getfield 10, 3) := fx_dat dk_Cert_inside 109 rfl
theorem d_Cert_inside_221 : decode prog_2_method_4_code 221 = .ok (.getfield 106, 3) := fx_dat dk_Cert_inside 110 rfl
theorem d_Cert_inside_224 : decode prog_2_method_4_code 224 = .ok (.putfield 27, 3) := fx_dat dk_Cert_inside 111 rfl
theorem d_Cert_inside_227 : decode prog_2_method_4_code 227 = .ok (.aload_n 0, 1) := fx_dat dk_Cert_inside 112 rfl
theorem d_Cert_inside_228 : decode prog_2_method_4_code 228 = .ok (.iload_n 2, 1) := fx_dat dk_Cert_inside 113 rfl
theorem d_Cert_inside_229 : decode prog_2_method_4_code 229 = .ok (.invokevirtual 135, 3) := fx_dat dk_Cert_inside 114 rfl
theorem d_Cert_inside_232 : decode prog_2_method_4_code 232 = .ok (.pop, 1) := fx_dat dk_Cert_inside 115 rfl
theorem d_Cert_inside_233 : decode prog_2_method_4_code 233 = .ok (.aload_n 0, 1) := fx_dat dk_Cert_inside 116 rfl
theorem d_Cert_inside_234 : decode prog_2_method_4_code 234 = .ok (.aload_n 0, 1) := fx_dat dk_Cert_inside 117 rfl
theorem d_Cert_inside_235 : decode prog_2_method_4_code 235 = .ok (.getfield 10, 3) := fx_dat dk_Cert_inside 118 rfl
theorem d_Cert_inside_238 : decode prog_2_method_4_code 238 = .ok (.getfield 106, 3) := fx_dat dk_Cert_inside 119 rfl
theorem d_Cert_inside_241 : decode prog_2_method_4_code 241 = .ok (.putfield 30, 3) := fx_dat dk_Cert_inside 120 rfl
theorem d_Cert_inside_244 : decode prog_2_method_4_code 244 = .ok (.aload_n 0, 1) := fx_dat dk_Cert_inside 121 rfl
theorem d_Cert_inside_245 : decode prog_2_method_4_code 245 = .ok (.getfield 10, 3) := fx_dat dk_Cert_inside 122 rfl
theorem d_Cert_inside_248 : decode prog_2_method_4_code 248 = .ok (.bipush 48, 2) := fx_dat dk_Cert_inside 123 rfl
theorem d_Cert_inside_250 : decode prog_2_method_4_code 250 = .ok (.iload_n 2, 1) := fx_dat dk_Cert_inside 124 rfl
theorem d_Cert_inside_251 : decode prog_2_method_4_code 251 = .ok (.invokevirtual 115, 3) := fx_dat dk_Cert_inside 125 rfl
theorem d_Cert_inside_254 : decode prog_2_method_4_code 254 = .ok (.istore 7, 2) := fx_dat dk_Cert_inside 126 rfl
theorem d_Cert_inside_256 : decode prog_2_method_4_code 256 = .ok (.aload_n 0, 1) := fx_dat dk_Cert_inside 127 rfl
theorem d_Cert_inside_257 : decode prog_2_method_4_code 257 = .ok (.aload_n 0, 1) := fx_dat dk_Cert_inside 128 rfl
theorem d_Cert_inside_258 : decode prog_2_method_4_code 258 = .ok (.iload 7, 2) := fx_dat dk_Cert_inside 129 rfl
theorem d_Cert_inside_260 : decode prog_2_method_4_code 260 = .ok (.invokevirtual 139, 3) := fx_dat dk_Cert_inside 130 rfl
theorem d_Cert_inside_263 : decode prog_2_method_4_code 263 = .ok (.putfield 60, 3) := fx_dat dk_Cert_inside 131 rfl
theorem d_Cert_inside_266 : decode prog_2_method_4_code 266 = .ok (.aload_n 0, 1) := fx_dat dk_Cert_inside 132 rfl
theorem d_Cert_inside_267 : decode prog_2_method_4_code 267 = .ok (.aload_n 0, 1) := fx_dat dk_Cert_inside 133 rfl
theorem d_Cert_inside_268 : decode prog_2_method_4_code 268 = .ok (.iload 7, 2) := fx_dat dk_Cert_inside 134 rfl
theorem d_Cert_inside_270 : decode prog_2_method_4_code 270 = .ok (.invokevirtual 139, 3) := fx_dat dk_Cert_inside 135 rfl
theorem d_Cert_inside_273 : decode prog_2_method_4_code 273 = .ok (.putfield 64, 3) := fx_dat dk_Cert_inside 136 rfl
theorem d_Cert_inside_276 : decode prog_2_method_4_code 276 = .ok (.aload_n 0, 1) := fx_dat dk_Cert_inside 137 rfl
theorem d_Cert_inside_277 : decode prog_2_method_4_code 277 = .ok (.getfield 10, 3) := fx_dat dk_Cert_inside 138 rfl
theorem d_Cert_inside_280 : decode prog_2_method_4_code 280 = .ok (.iload 7, 2) := fx_dat dk_Cert_inside 139 rfl
theorem d_Cert_inside_282 : decode prog_2_method_4_code 282 = .ok (.invokevirtual 132, 3) := fx_dat dk_Cert_inside 140 rfl
theorem d_Cert_inside_285 : decode prog_2_method_4_code 285 = .ok (.aload_n 0, 1) := fx_dat dk_Cert_inside 141 rfl
theorem d_Cert_inside_286 : decode prog_2_method_4_code 286 = .ok (.aload_n 0, 1) := fx_dat dk_Cert_inside 142 rfl
theorem d_Cert_inside_287 : decode prog_2_method_4_code 287 = .ok (.getfield 10, 3) := fx_dat dk_Cert_inside 143 rfl
theorem d_Cert_inside_290 : decode prog_2_method_4_code 290 = .ok (.getfield 106, 3) := fx_dat dk_Cert_inside 144 rfl
theorem d_Cert_inside_293 : decode prog_2_method_4_code 293 = .ok (.putfield 33, 3) := fx_dat dk_Cert_inside 145 rfl
theorem d_Cert_inside_296 : decode prog_2_method_4_code 296 = .ok (.aload_n 0, 1) := fx_dat dk_Cert_inside 146 rfl
theorem d_Cert_inside_297 : decode prog_2_method_4_code 297 = .ok (.aload_n 0, 1) := fx_dat dk_Cert_inside 147 rfl
theorem d_Cert_inside_298 : decode prog_2_method_4_code 298 = .ok (.iload_n 2, 1) := fx_dat dk_Cert_inside 148 rfl
theorem d_Cert_inside_299 : decode prog_2_method_4_code 299 = .ok (.invokevirtual 135, 3) := fx_dat dk_Cert_inside 149 rfl
theorem d_Cert_inside_302 : decode prog_2_method_4_code 302 = .ok (.putfield 57, 3) := fx_dat dk_Cert_inside 150 rfl
theorem d_Cert_inside_305 : decode prog_2_method_4_code 305 = .ok (.aload_n 0, 1) := fx_dat dk_Cert_inside 151 rfl
theorem d_Cert_inside_306 : decode prog_2_method_4_code 306 = .ok (.aload_n 0, 1) := fx_dat dk_Cert_inside 152 rfl
theorem d_Cert_inside_307 : decode prog_2_method_4_code 307 = .ok (.getfield 10, 3) := fx_dat dk_Cert_inside 153 rfl
theorem d_Cert_inside_310 : decode prog_2_method_4_code 310 = .ok (.getfield 106, 3) := fx_dat dk_Cert_inside 154 rfl
theorem d_Cert_inside_313 : decode prog_2_method_4_code 313 = .ok (.putfield 36, 3) := fx_dat dk_Cert_inside 155 rfl
theorem d_Cert_inside_316 : decode prog_2_method_4_code 316 = .ok (.aload_n 0, 1) := fx_dat dk_Cert_inside 156 rfl
theorem d_Cert_inside_317 : decode prog_2_method_4_code 317 = .ok (.getfield 10, 3) := fx_dat dk_Cert_inside 157 rfl
theorem d_Cert_inside_320 : decode prog_2_method_4_code 320 = .ok (.bipush 48, 2) := fx_dat dk_Cert_inside 158 rfl
theorem d_Cert_inside_322 : decode prog_2_method_4_code 322 = .ok (.iload_n 2, 1) := fx_dat dk_Cert_inside 159 rfl
theorem d_Cert_inside_323 : decode prog_2_method_4_code 323 = .ok (.invokevirtual 115, 3) := fx_dat dk_Cert_inside 160 rfl
theorem d_Cert_inside_326 : decode prog_2_method_4_code 326 = .ok (.istore 8, 2) := fx_dat dk_Cert_inside 161 rfl
theorem d_Cert_inside_328 : decode prog_2_method_4_code 328 = .ok (.aload_n 0, 1) := fx_dat dk_Cert_inside 162 rfl
theorem d_Cert_inside_329 : decode prog_2_method_4_code 329 = .ok (.aload_n 0, 1) := fx_dat dk_Cert_inside 163 rfl
theorem d_Cert_inside_330 : decode prog_2_method_4_code 330 = .ok (.getfield 101, 3) := fx_dat dk_Cert_inside 164 rfl
theorem d_Cert_inside_333 : decode prog_2_method_4_code 333 = .ok (.aload_n 0, 1) := fx_dat dk_Cert_inside 165 rfl
theorem d_Cert_inside_334 : decode prog_2_method_4_code 334 = .ok (.getfield 10, 3) := fx_dat dk_Cert_inside 166 rfl
theorem d_Cert_inside_337 : decode prog_2_method_4_code 337 = .ok (.iload 8, 2) := fx_dat dk_Cert_inside 167 rfl
theorem d_Cert_inside_339 : decode prog_2_method_4_code 339 = .ok (.invokeinterface 143 3, 5) := fx_dat dk_Cert_inside 168 rfl
theorem d_Cert_inside_344 : decode prog_2_method_4_code 344 = .ok (.putfield 51, 3) := fx_dat dk_Cert_inside 169 rfl
theorem d_Cert_inside_347 : decode prog_2_method_4_code 347 = .ok (.aload_n 0, 1) := fx_dat dk_Cert_inside 170 rfl
theorem d_Cert_inside_348 : decode prog_2_method_4_code 348 = .ok (.getfield 10, 3) := fx_dat dk_Cert_inside 171 rfl
theorem d_Cert_inside_351 : decode prog_2_method_4_code 351 = .ok (.iconst 3, 1) := fx_dat dk_Cert_inside 172 rfl
theorem d_Cert_inside_352 : decode prog_2_method_4_code 352 = .ok (.iload 8, 2) := fx_dat dk_Cert_inside 173 rfl
theorem d_Cert_inside_354 : decode prog_2_method_4_code 354 = .ok (.invokevirtual 115, 3) := fx_dat dk_Cert_inside 174 rfl
theorem d_Cert_inside_357 : decode prog_2_method_4_code 357 = .ok (.istore 9, 2) := fx_dat dk_Cert_inside 175 rfl
theorem d_Cert_inside_359 : decode prog_2_method_4_code 359 = .ok (.aload_n 0, 1) := fx_dat dk_Cert_inside 176 rfl
theorem d_Cert_inside_360 : decode prog_2_method_4_code 360 = .ok (.getfield 10, 3) := fx_dat dk_Cert_inside 177 rfl
theorem d_Cert_inside_363 : decode prog_2_method_4_code 363 = .ok (.getfield 106, 3) := fx_dat dk_Cert_inside 178 rfl
theorem d_Cert_inside_366 : decode prog_2_method_4_code 366 = .ok (.iload 9, 2) := fx_dat dk_Cert_inside 179 rfl
theorem d_Cert_inside_368 : decode prog_2_method_4_code 368 = .ok (.if_icmp .eq 18, 3) := fx_dat dk_Cert_inside 180 rfl
theorem d_Cert_inside_371 : decode prog_2_method_4_code 371 = .ok (.aload_n 0, 1) := fx_dat dk_Cert_inside 181 rfl
theorem d_Cert_inside_372 : decode prog_2_method_4_code 372 = .ok (.getfield 16, 3) := fx_dat dk_Cert_inside 182 rfl
theorem d_Cert_inside_375 : decode prog_2_method_4_code 375 = .ok (.aload_n 0, 1) := fx_dat dk_Cert_inside 183 rfl
theorem d_Cert_inside_376 : decode prog_2_method_4_code 376 = .ok (.getfield 10, 3) := fx_dat dk_Cert_inside 184 rfl
theorem d_Cert_inside_379 : decode prog_2_method_4_code 379 = .ok (.getfield 106, 3) := fx_dat dk_Cert_inside 185 rfl
theorem d_Cert_inside_382 : decode prog_2_method_4_code 382 = .ok (.baload, 1) := fx_dat dk_Cert_inside 186 rfl
theorem d_Cert_inside_383 : decode prog_2_method_4_code 383 = .ok (.ifCond .eq 7, 3) := fx_dat dk_Cert_inside 187 rfl
theorem d_Cert_inside_386 : decode prog_2_method_4_code 386 = .ok (.invokestatic 128, 3) := fx_dat dk_Cert_inside 188 rfl
theorem d_Cert_inside_389 : decode prog_2_method_4_code 389 = .ok (.athrow, 1) := fx_dat dk_Cert_inside 189 rfl
theorem d_Cert_inside_390 : decode prog_2_method_4_code 390 = .ok (.aload_n 0, 1) := fx_dat dk_Cert_inside 190 rfl
theorem d_Cert_inside_391 : decode prog_2_method_4_code 391 = .ok (.aload_n 0, 1) := fx_dat dk_Cert_inside 191 rfl
theorem d_Cert_inside_392 : decode prog_2_method_4_code 392 = .ok (.getfield 10, 3) := fx_dat dk_Cert_inside 192 rfl
theorem d_Cert_inside_395 : decode prog_2_method_4_code 395 = .ok (.getfield 106, 3) := fx_dat dk_Cert_inside 193 rfl
theorem d_Cert_inside_398 : decode prog_2_method_4_code 398 = .ok (.iconst 1, 1) := fx_dat dk_Cert_inside 194 rfl
theorem d_Cert_inside_399 : decode prog_2_method_4_code 399 = .ok (.iadd, 1) := fx_dat dk_Cert_inside 195 rfl
theorem d_Cert_inside_400 : decode prog_2_method_4_code 400 = .ok (.putfield 39, 3) := fx_dat dk_Cert_inside 196 rfl
theorem d_Cert_inside_403 : decode prog_2_method_4_code 403 = .ok (.aload_n 0, 1) := fx_dat dk_Cert_inside 197 rfl
theorem d_Cert_inside_404 : decode prog_2_method_4_code 404 = .ok (.iload 9, 2) := fx_dat dk_Cert_inside 198 rfl
theorem d_Cert_inside_406 : decode prog_2_method_4_code 406 = .ok (.putfield 42, 3) := fx_dat dk_Cert_inside 199 rfl
theorem d_Cert_inside_409 : decode prog_2_method_4_code 409 = .ok (.aload_n 0, 1) := fx_dat dk_Cert_inside 200 rfl
theorem d_Cert_inside_410 : decode prog_2_method_4_code 410 = .ok (.getfield 10, 3) := fx_dat dk_Cert_inside 201 rfl
theorem d_Cert_inside_413 : decode prog_2_method_4_code 413 = .ok (.iload 9, 2) := fx_dat dk_Cert_inside 202 rfl
theorem d_Cert_inside_415 : decode prog_2_method_4_code 415 = .ok (.putfield 106, 3) := fx_dat dk_Cert_inside 203 rfl
theorem d_Cert_inside_418 : decode prog_2_method_4_code 418 = .ok (.aload_n 0, 1) := fx_dat dk_Cert_inside 204 rfl
theorem d_Cert_inside_419 : decode prog_2_method_4_code 419 = .ok (.getfield 10, 3) := fx_dat dk_Cert_inside 205 rfl
theorem d_Cert_inside_422 : decode prog_2_method_4_code 422 = .ok (.iload 8, 2) := fx_dat dk_Cert_inside 206 rfl
theorem d_Cert_inside_424 : decode prog_2_method_4_code 424 = .ok (.invokevirtual 132, 3) := fx_dat dk_Cert_inside 207 rfl
theorem d_Cert_inside_427 : decode prog_2_method_4_code 427 = .ok (.aload_n 0, 1) := fx_dat dk_Cert_inside 208 rfl
theorem d_Cert_inside_428 : decode prog_2_method_4_code 428 = .ok (.getfield 101, 3) := fx_dat dk_Cert_inside 209 rfl
theorem d_Cert_inside_431 : decode prog_2_method_4_code 431 = .ok (.aload_n 0, 1) := fx_dat dk_Cert_inside 210 rfl
theorem d_Cert_inside_432 : decode prog_2_method_4_code 432 = .ok (.getfield 51, 3) := fx_dat dk_Cert_inside 211 rfl
theorem d_Cert_inside_435 : decode prog_2_method_4_code 435 = .ok (.aload_n 0, 1) := fx_dat dk_Cert_inside 212 rfl
theorem d_Cert_inside_436 : decode prog_2_method_4_code 436 = .ok (.getfield 16, 3) := fx_dat dk_Cert_inside 213 rfl
theorem d_Cert_inside_439 : decode prog_2_method_4_code 439 = .ok (.aload_n 0, 1) := fx_dat dk_Cert_inside 214 rfl
theorem d_Cert_inside_440 : decode prog_2_method_4_code 440 = .ok (.getfield 39, 3) := fx_dat dk_Cert_inside 215 rfl
theorem d_Cert_inside_443 : decode prog_2_method_4_code 443 = .ok (.aload_n 0, 1) := fx_dat dk_Cert_inside 216 rfl
theorem d_Cert_inside_444 : decode prog_2_method_4_code 444 = .ok (.getfield 42, 3) := fx_dat dk_Cert_inside 217 rfl
theorem d_Cert_inside_447 : decode prog_2_method_4_code 447 = .ok (.aload_n 0, 1) := fx_dat dk_Cert_inside 218 rfl
theorem d_Cert_inside_448 : decode prog_2_method_4_code 448 = .ok (.getfield 39, 3) := fx_dat dk_Cert_inside 219 rfl
theorem d_Cert_inside_451 : decode prog_2_method_4_code 451 = .ok (.isub, 1) := fx_dat dk_Cert_inside 220 rfl
theorem d_Cert_inside_452 : decode prog_2_method_4_code 452 = .ok (.invokeinterface 146 5, 5) := fx_dat dk_Cert_inside 221 rfl
theorem d_Cert_inside_457 : decode prog_2_method_4_code 457 = .ok (.ifCond .ne 7, 3) := fx_dat dk_Cert_inside 222 rfl
theorem d_Cert_inside_460 : decode prog_2_method_4_code 460 = .ok (.invokestatic 128, 3) := fx_dat dk_Cert_inside 223 rfl
theorem d_Cert_inside_463 : decode prog_2_method_4_code 463 = .ok (.athrow, 1) := fx_dat dk_Cert_inside 224 rfl
theorem d_Cert_inside_464 : decode prog_2_method_4_code 464 = .ok (.aload_n 0, 1) := fx_dat dk_Cert_inside 225 rfl
theorem d_Cert_inside_465 : decode prog_2_method_4_code 465 = .ok (.iload_n 2, 1) := fx_dat dk_Cert_inside 226 rfl
theorem d_Cert_inside_466 : decode prog_2_method_4_code 466 = .ok (.invokevirtual 149, 3) := fx_dat dk_Cert_inside 227 rfl
theorem d_Cert_inside_469 : decode prog_2_method_4_code 469 = .ok (.aload_n 0, 1) := fx_dat dk_Cert_inside 228 rfl
theorem d_Cert_inside_470 : decode prog_2_method_4_code 470 = .ok (.getfield 10, 3) := fx_dat dk_Cert_inside 229 rfl
theorem d_Cert_inside_473 : decode prog_2_method_4_code 473 = .ok (.iload_n 2, 1) := fx_dat dk_Cert_inside 230 rfl
theorem d_Cert_inside_474 : decode prog_2_method_4_code 474 = .ok (.invokevirtual 132, 3) := fx_dat dk_Cert_inside 231 rfl
theorem d_Cert_inside_477 : decode prog_2_method_4_code 477 = .ok (.return_, 1) := fx_dat dk_Cert_inside 232 rfl
def m_Cert_inside_69 (Q : AH → Prop) (E : Nat → AH → Prop) (h : AH) : Prop := m_Rd_bad (fun q1 h1 => fx_ext h h1 → E q1 h1) h
def m_Cert_inside_185 (Q : AH → Prop) (E : Nat → AH → Prop) (h : AH) : Prop := m_Rd_bad (fun q1 h1 => fx_ext h h1 → E q1 h1) h
def m_Cert_inside_386 (Q : AH → Prop) (E : Nat → AH → Prop) (h : AH) : Prop := m_Rd_bad (fun q1 h1 => fx_ext h h1 → E q1 h1) h
def m_Cert_inside_189 (Q : AH → Prop) (E : Nat → AH → Prop) (r0 : Nat) (x2 : Int32) (x5 : Int32) (h : AH) : Prop := hp_k h r0 = 8 ∧ ∃ b1, hp_R h r0 1 = some b1 ∧ hp_k h b1 = 9 ∧ ∀ h1 : AH, h1 = up_I h b1 1 x5 → ∃ b2, hp_R h1 r0 0 = some b2 ∧ hp_k h1 b2 = 4 ∧ m_KM_ofMark (fun v1 h2 => fx_ext h1 h2 → ∀ h3 : AH, h3 = up_I h2 r0 28 v1 → ∃ b3, hp_R h3 r0 1 = some b3 ∧ hp_k h3 b3 = 9 ∧ ∀ h4 : AH, h4 = up_I h3 r0 5 (hp_I h3 b3 1) → m_Cert_names (fun v2 h5 => fx_ext h4 h5 → ∃ b4, hp_R h5 r0 1 = some b4 ∧ hp_k h5 b4 = 9 ∧ ∀ h6 : AH, h6 = up_I h5 r0 6 (hp_I h5 b4 1) → m_Rd_enter (fun v3 h7 => fx_ext h6 h7 → m_Cert_time (fun u1 h8 => fx_ext h7 h8 → ∀ h9 : AH, h9 = up_L h8 r0 16 u1 → m_Cert_time (fun u2 h10 => fx_ext h9 h10 → ∀ h11 : AH, h11 = up_L h10 r0 17 u2 → ∃ b5, hp_R h11 r0 1 = some b5 ∧ hp_k h11 b5 = 9 ∧ m_Rd_leave (fun h12 => fx_ext h11 h12 → ∃ b6, hp_R h12 r0 1 = some b6 ∧ hp_k h12 b6 = 9 ∧ ∀ h13 : AH, h13 = up_I h12 r0 7 (hp_I h12 b6 1) → m_Cert_names (fun v4 h14 => fx_ext h13 h14 → ∀ h15 : AH, h15 = up_I h14 r0 15 v4 → ∃ b7, hp_R h15 r0 1 = some b7 ∧ hp_k h15 b7 = 9 ∧ ∀ h16 : AH, h16 = up_I h15 r0 8 (hp_I h15 b7 1) → m_Rd_enter (fun v5 h17 => fx_ext h16 h17 → ∃ b8, hp_R h17 r0 0 = some b8 ∧ ∃ b9, hp_R h17 r0 1 = some b9 ∧ hp_k h17 b8 = 4 ∧ m_KM_ofKey (fun v6 h18 => fx_ext h17 h18 → ∀ h19 : AH, h19 = up_I h18 r0 13 v6 → ∃ b10, hp_R h19 r0 1 = some b10 ∧ hp_k h19 b10 = 9 ∧ m_Rd_enter (fun v7 h20 => fx_ext h19 h20 → ∃ b11, hp_R h20 r0 1 = some b11 ∧ hp_k h20 b11 = 9 ∧ ((hp_I h20 b11 1) = v7 → m_Cert_inside_386 Q E h20) ∧ (¬ (hp_I h20 b11 1) = v7 → ∃ b12, hp_R h20 r0 2 = some b12 ∧ bk (hp_k h20 b12) ∧ vp_in (hp_I h20 b11 1) (hp_n h20 b12) ∧ (by8 (hp_I h20 b12 ((hp_I h20 b11 1)).toNatClampNeg) → ((hp_I h20 b12 ((hp_I h20 b11 1)).toNatClampNeg) = 0 → ∀ h21 : AH, h21 = up_I h20 r0 9 ((hp_I h20 b11 1) + (1 : Int32)) → ∀ h22 : AH, h22 = up_I h21 r0 10 v7 → ∀ h23 : AH, h23 = up_I h22 b11 1 v7 → m_Rd_leave (fun h24 => fx_ext h23 h24 → ∃ b13, hp_R h24 r0 0 = some b13 ∧ ∃ b14, hp_R h24 r0 2 = some b14 ∧ hp_k h24 b13 = 4 ∧ m_KM_key (fun v8 h25 => fx_ext h24 h25 → zb v8 → (¬ v8 = 0 → m_Cert_extensions (fun h26 => fx_ext h25 h26 → ∃ b15, hp_R h26 r0 1 = some b15 ∧ hp_k h26 b15 = 9 ∧ m_Rd_leave (fun h27 => fx_ext h26 h27 → Q h27) (fun a ht => fx_ext h26 ht → E a ht) b15 x2 h26) (fun a ht => fx_ext h25 ht → E a ht) r0 x2 h25) ∧ (v8 = 0 → m_Rd_bad (fun q1 h28 => fx_ext h25 h28 → E q1 h28) h25)) b13 (hp_I h24 r0 13) b14 (hp_I h24 r0 9) ((hp_I h24 r0 10) - (hp_I h24 r0 9)) h24) (fun a ht => fx_ext h23 ht → E a ht) b11 v5 h23) ∧ (¬ (hp_I h20 b12 ((hp_I h20 b11 1)).toNatClampNeg) = 0 → m_Cert_inside_386 Q E h20)))) (fun a ht => fx_ext h19 ht → E a ht) b10 (3 : Int32) v5 h19) (fun a ht => fx_ext h17 ht → E a ht) b8 b9 v5 h17) (fun a ht => fx_ext h16 ht → E a ht) b7 (48 : Int32) x2 h16) (fun a ht => fx_ext h13 ht → E a ht) r0 x2 h13) (fun a ht => fx_ext h11 ht → E a ht) b5 v3 h11) (fun a ht => fx_ext h9 ht → E a ht) r0 v3 h9) (fun a ht => fx_ext h7 ht → E a ht) r0 v3 h7) (fun a ht => fx_ext h6 ht → E a ht) b4 (48 : Int32) x2 h6) (fun a ht => fx_ext h4 ht → E a ht) r0 x2 h4) (fun a ht => fx_ext h1 ht → E a ht) b2 b1 x2 h1
def m_Cert_inside (Q : AH → Prop) (E : Nat → AH → Prop) (r0 : Nat) (x1 : Int32) (h : AH) : Prop := hp_k h r0 = 8 ∧ ∃ b1, hp_R h r0 1 = some b1 ∧ hp_k h b1 = 9 ∧ m_Rd_enter (fun v1 h1 => fx_ext h h1 → ∀ h2 : AH, h2 = up_I h1 r0 4 v1 → ∃ b2, hp_R h2 r0 1 = some b2 ∧ hp_k h2 b2 = 9 ∧ m_Rd_enter (fun v2 h3 => fx_ext h2 h3 → ∃ b3, hp_R h3 r0 1 = some b3 ∧ hp_k h3 b3 = 9 ∧ m_Rd_enter (fun v3 h4 => fx_ext h3 h4 → ∃ b4, hp_R h4 r0 1 = some b4 ∧ hp_k h4 b4 = 9 ∧ (¬ (v3 - (hp_I h4 b4 1)) = (1 : Int32) → m_Cert_inside_69 Q E h4) ∧ ((v3 - (hp_I h4 b4 1)) = (1 : Int32) → ∃ b5, hp_R h4 r0 2 = some b5 ∧ bk (hp_k h4 b5) ∧ vp_in (hp_I h4 b4 1) (hp_n h4 b5) ∧ (by8 (hp_I h4 b5 ((hp_I h4 b4 1)).toNatClampNeg) → ((hp_I h4 b5 ((hp_I h4 b4 1)).toNatClampNeg) = (2 : Int32) → ∀ h5 : AH, h5 = up_I h4 b4 1 v3 → m_Rd_leave (fun h6 => fx_ext h5 h6 → ∃ b6, hp_R h6 r0 1 = some b6 ∧ hp_k h6 b6 = 9 ∧ m_Rd_enter (fun v4 h7 => fx_ext h6 h7 → ∃ b7, hp_R h7 r0 1 = some b7 ∧ hp_k h7 b7 = 9 ∧ ∀ v5 : Int32, v5 = (v4 - (hp_I h7 b7 1)) → ∀ h8 : AH, h8 = up_I h7 r0 20 v5 → (v5 < (1 : Int32) → m_Cert_inside_185 Q E h8) ∧ (¬ v5 < (1 : Int32) → ((20 : Int32) < v5 → m_Cert_inside_185 Q E h8) ∧ (¬ (20 : Int32) < v5 → ∃ b8, hp_R h8 r0 2 = some b8 ∧ bk (hp_k h8 b8) ∧ vp_in (hp_I h8 b7 1) (hp_n h8 b8) ∧ (by8 (hp_I h8 b8 ((hp_I h8 b7 1)).toNatClampNeg) → ((hp_I h8 b8 ((hp_I h8 b7 1)).toNatClampNeg) < 0 → m_Cert_inside_185 Q E h8) ∧ (¬ (hp_I h8 b8 ((hp_I h8 b7 1)).toNatClampNeg) < 0 → vp_in (hp_I h8 b7 1) (hp_n h8 b8) ∧ (by8 (hp_I h8 b8 ((hp_I h8 b7 1)).toNatClampNeg) → (¬ (hp_I h8 b8 ((hp_I h8 b7 1)).toNatClampNeg) = 0 → m_Cert_inside_189 Q E r0 v1 v4 h8) ∧ ((hp_I h8 b8 ((hp_I h8 b7 1)).toNatClampNeg) = 0 → (v5 = (1 : Int32) → m_Cert_inside_185 Q E h8) ∧ (¬ v5 = (1 : Int32) → vp_in ((hp_I h8 b7 1) + (1 : Int32)) (hp_n h8 b8) ∧ (by8 (hp_I h8 b8 (((hp_I h8 b7 1) + (1 : Int32))).toNatClampNeg) → ((hp_I h8 b8 (((hp_I h8 b7 1) + (1 : Int32))).toNatClampNeg) < 0 → m_Cert_inside_189 Q E r0 v1 v4 h8) ∧ (¬ (hp_I h8 b8 (((hp_I h8 b7 1) + (1 : Int32))).toNatClampNeg) < 0 → m_Cert_inside_185 Q E h8)))))))))) (fun a ht => fx_ext h6 ht → E a ht) b6 (2 : Int32) v1 h6) (fun a ht => fx_ext h5 ht → E a ht) b4 v2 h5) ∧ (¬ (hp_I h4 b5 ((hp_I h4 b4 1)).toNatClampNeg) = (2 : Int32) → m_Cert_inside_69 Q E h4)))) (fun a ht => fx_ext h3 ht → E a ht) b3 (2 : Int32) v2 h3) (fun a ht => fx_ext h2 ht → E a ht) b2 (160 : Int32) v1 h2) (fun a ht => fx_ext h ht → E a ht) b1 (48 : Int32) x1 h
theorem b_Cert_inside_69 {p : Program} {l : Launch} {e : Env} {R : Room} {s : State} {m : MethodId} {args : Array Value} {below : List Frame} {meth : Method} {c : Code} {D : DD} {h0 : AH} {Q : AH → Prop} {E : Nat → AH → Prop} (C : fx_CX D y_Cert_inside prog_2_method_4_code 10 12 183 (none) [] h0 p R s m meth c) (hl : l.flags = flags0) (h : AH) (hw : m_Cert_inside_69 Q E h) : ∀ (ls : Array Slot) (H : Heap) (locs : List Loc) (cells slots : Nat), lv_has ls 10 [] → fx_F D h0 h H locs cells slots → W p l e R s m args below meth c H locs cells slots (fx_Z D below s h0 (fx_oV Q E)) (F0 m 69 ls []) := by
  unfold m_Cert_inside_69 at hw
  intro ls H locs cells slots hv F
  refine fx_callR C F (c_Rd_bad hl hw) hm_Rd_bad hi_Rd_bad hv.1 (by decide) (Nat.le_of_ble_eq_true rfl) (iv_Rd_bad C F lm_Cert_128 d_Cert_inside_69) (fx_out0 _) fx_eno (fun q1 h1 H locs cells slots hw hx1 F => ?_)
  replace hw := hw hx1
  exact fx_athrow C F (fx_out0 _) d_Cert_inside_72 (Or.inr ⟨_, rfl, hw⟩)
theorem b_Cert_inside_185 {p : Program} {l : Launch} {e : Env} {R : Room} {s : State} {m : MethodId} {args : Array Value} {below : List Frame} {meth : Method} {c : Code} {D : DD} {h0 : AH} {Q : AH → Prop} {E : Nat → AH → Prop} (C : fx_CX D y_Cert_inside prog_2_method_4_code 10 12 183 (none) [] h0 p R s m meth c) (hl : l.flags = flags0) (h : AH) (hw : m_Cert_inside_185 Q E h) : ∀ (ls : Array Slot) (H : Heap) (locs : List Loc) (cells slots : Nat), lv_has ls 10 [] → fx_F D h0 h H locs cells slots → W p l e R s m args below meth c H locs cells slots (fx_Z D below s h0 (fx_oV Q E)) (F0 m 185 ls []) := by
  unfold m_Cert_inside_185 at hw
  intro ls H locs cells slots hv F
  refine fx_callR C F (c_Rd_bad hl hw) hm_Rd_bad hi_Rd_bad hv.1 (by decide) (Nat.le_of_ble_eq_true rfl) (iv_Rd_bad C F lm_Cert_128 d_Cert_inside_185) (fx_out0 _) fx_eno (fun q1 h1 H locs cells slots hw hx1 F => ?_)
  replace hw := hw hx1
  exact fx_athrow C F (fx_out0 _) d_Cert_inside_188 (Or.inr ⟨_, rfl, hw⟩)
theorem b_Cert_inside_386 {p : Program} {l : Launch} {e : Env} {R : Room} {s : State} {m : MethodId} {args : Array Value} {below : List Frame} {meth : Method} {c : Code} {D : DD} {h0 : AH} {Q : AH → Prop} {E : Nat → AH → Prop} (C : fx_CX D y_Cert_inside prog_2_method_4_code 10 12 183 (none) [] h0 p R s m meth c) (hl : l.flags = flags0) (h : AH) (hw : m_Cert_inside_386 Q E h) : ∀ (ls : Array Slot) (H : Heap) (locs : List Loc) (cells slots : Nat), lv_has ls 10 [] → fx_F D h0 h H locs cells slots → W p l e R s m args below meth c H locs cells slots (fx_Z D below s h0 (fx_oV Q E)) (F0 m 386 ls []) := by
  unfold m_Cert_inside_386 at hw
  intro ls H locs cells slots hv F
  refine fx_callR C F (c_Rd_bad hl hw) hm_Rd_bad hi_Rd_bad hv.1 (by decide) (Nat.le_of_ble_eq_true rfl) (iv_Rd_bad C F lm_Cert_128 d_Cert_inside_386) (fx_out0 _) fx_eno (fun q1 h1 H locs cells slots hw hx1 F => ?_)
  replace hw := hw hx1
  exact fx_athrow C F (fx_out0 _) d_Cert_inside_389 (Or.inr ⟨_, rfl, hw⟩)
theorem b_Cert_inside_189 {p : Program} {l : Launch} {e : Env} {R : Room} {s : State} {m : MethodId} {args : Array Value} {below : List Frame} {meth : Method} {c : Code} {D : DD} {h0 : AH} {Q : AH → Prop} {E : Nat → AH → Prop} (C : fx_CX D y_Cert_inside prog_2_method_4_code 10 12 183 (none) [] h0 p R s m meth c) (hl : l.flags = flags0) (r0 : Nat) (x2 : Int32) (x5 : Int32) (h : AH) (hw : m_Cert_inside_189 Q E r0 x2 x5 h) : ∀ (ls : Array Slot) (H : Heap) (locs : List Loc) (cells slots : Nat), lv_has ls 10 [(0, .ref r0), (2, .int x2), (5, .int x5)] → fx_F D h0 h H locs cells slots → W p l e R s m args below meth c H locs cells slots (fx_Z D below s h0 (fx_oV Q E)) (F0 m 189 ls []) := by
  unfold m_Cert_inside_189 at hw
  intro ls H locs cells slots hv F
  refine lv_aload_n C.ex C.by d_Cert_inside_189 rfl (lv_at hv 0 rfl) ?_
  obtain ⟨hk1, hw⟩ := hw
  obtain ⟨b1, hb1, hw⟩ := hw
  refine fx_getR C F lf_Cert_10 hk1 rfl hb1 d_Cert_inside_190 ?_
  refine lv_iload C.ex C.by d_Cert_inside_193 (lv_at hv 2 rfl) ?_
  obtain ⟨hk2, hw⟩ := hw
  let h1 : AH := up_I h b1 1 x5
  replace hw := hw h1 rfl
  refine fx_putI C F lf_Cert_106 hk2 rfl rfl (fx_mayF.no rfl rfl) d_Cert_inside_195 (fun H locs (F : fx_F D h0 h1 H locs _ _) => ?_)
  refine lv_aload_n C.ex C.by d_Cert_inside_198 rfl (lv_at hv 0 rfl) ?_
  refine lv_aload_n C.ex C.by d_Cert_inside_199 rfl (lv_at hv 0 rfl) ?_
  obtain ⟨b2, hb2, hw⟩ := hw
  refine fx_getR C F lf_Cert_101 hk1 rfl hb2 d_Cert_inside_200 ?_
  refine lv_aload_n C.ex C.by d_Cert_inside_203 rfl (lv_at hv 0 rfl) ?_
  refine fx_getR C F lf_Cert_10 hk1 rfl hb1 d_Cert_inside_204 ?_
  refine lv_iload_n C.ex C.by d_Cert_inside_207 rfl (lv_at hv 1 rfl) ?_
  obtain ⟨hk3, hw⟩ := hw
  refine fx_callI C F (c_KM_ofMark hl hw) hm_KM_ofMark hi_KM_ofMark hv.1 (by decide) (Nat.le_of_ble_eq_true rfl) (iv_KM_ofMark_f C F lm_Cert_122 hk3 d_Cert_inside_208) (fx_out0 _) (fun _ _ hE hx => Or.inr ⟨_, rfl, hE hx⟩) (fun v1 h2 H locs cells slots hw hx1 F => ?_)
  replace hw := hw hx1
  have hk2 := (hx1).k hk2
  have hk3 := (hx1).k hk3
  have hk1 := (hx1).k hk1
  let h3 : AH := up_I h2 r0 28 v1
  replace hw := hw h3 rfl
  refine fx_putI C F lf_Cert_98 hk1 rfl rfl (fx_mayF.no rfl rfl) d_Cert_inside_213 (fun H locs (F : fx_F D h0 h3 H locs _ _) => ?_)
  refine lv_aload_n C.ex C.by d_Cert_inside_216 rfl (lv_at hv 0 rfl) ?_
  refine lv_aload_n C.ex C.by d_Cert_inside_217 rfl (lv_at hv 0 rfl) ?_
  obtain ⟨b3, hb3, hw⟩ := hw
  refine fx_getR C F lf_Cert_10 hk1 rfl hb3 d_Cert_inside_218 ?_
  obtain ⟨hk4, hw⟩ := hw
  refine fx_getI C F lf_Cert_106 hk4 rfl d_Cert_inside_221 ?_
  let h4 : AH := up_I h3 r0 5 (hp_I h3 b3 1)
  replace hw := hw h4 rfl
  refine fx_putI C F lf_Cert_27 hk1 rfl rfl (fx_mayF.no rfl rfl) d_Cert_inside_224 (fun H locs (F : fx_F D h0 h4 H locs _ _) => ?_)
  refine lv_aload_n C.ex C.by d_Cert_inside_227 rfl (lv_at hv 0 rfl) ?_
  refine lv_iload_n C.ex C.by d_Cert_inside_228 rfl (lv_at hv 1 rfl) ?_
  refine fx_callI C F (c_Cert_names hl hw) hm_Cert_names hi_Cert_names hv.1 (by decide) (Nat.le_of_ble_eq_true rfl) (iv_Cert_names C F lm_Cert_135 hk1 d_Cert_inside_229) (fx_out0 _) (fun _ _ hE hx => Or.inr ⟨_, rfl, hE hx⟩) (fun v2 h5 H locs cells slots hw hx2 F => ?_)
  replace hw := hw hx2
  have hk2 := (hx2).k hk2
  have hk3 := (hx2).k hk3
  have hk4 := (hx2).k hk4
  have hk1 := (hx2).k hk1
  refine lv_pop C.ex C.by d_Cert_inside_232 rfl ?_
  refine lv_aload_n C.ex C.by d_Cert_inside_233 rfl (lv_at hv 0 rfl) ?_
  refine lv_aload_n C.ex C.by d_Cert_inside_234 rfl (lv_at hv 0 rfl) ?_
  obtain ⟨b4, hb4, hw⟩ := hw
  refine fx_getR C F lf_Cert_10 hk1 rfl hb4 d_Cert_inside_235 ?_
  obtain ⟨hk5, hw⟩ := hw
  refine fx_getI C F lf_Cert_106 hk5 rfl d_Cert_inside_238 ?_
  let h6 : AH := up_I h5 r0 6 (hp_I h5 b4 1)
  replace hw := hw h6 rfl
  refine fx_putI C F lf_Cert_30 hk1 rfl rfl (fx_mayF.no rfl rfl) d_Cert_inside_241 (fun H locs (F : fx_F D h0 h6 H locs _ _) => ?_)
  refine lv_aload_n C.ex C.by d_Cert_inside_244 rfl (lv_at hv 0 rfl) ?_
  refine fx_getR C F lf_Cert_10 hk1 rfl hb4 d_Cert_inside_245 ?_
  refine lv_bipush (v := (48 : Int32)) C.ex C.by d_Cert_inside_248 (by decide) ?_
  refine lv_iload_n C.ex C.by d_Cert_inside_250 rfl (lv_at hv 1 rfl) ?_
  refine fx_callI C F (c_Rd_enter hl hw) hm_Rd_enter hi_Rd_enter hv.1 (by decide) (Nat.le_of_ble_eq_true rfl) (iv_Rd_enter C F lm_Cert_115 hk5 d_Cert_inside_251) (fx_out0 _) (fun _ _ hE hx => Or.inr ⟨_, rfl, hE hx⟩) (fun v3 h7 H locs cells slots hw hx3 F => ?_)
  replace hw := hw hx3
  have hk2 := (hx3).k hk2
  have hk3 := (hx3).k hk3
  have hk4 := (hx3).k hk4
  have hk5 := (hx3).k hk5
  have hk1 := (hx3).k hk1
  refine lv_istore (lv' := [(7, .int v3), (0, .ref r0), (2, .int x2), (5, .int x5)]) C.ex C.by d_Cert_inside_254 hv (by decide) rfl (fun ls hv => ?_)
  refine lv_aload_n C.ex C.by d_Cert_inside_256 rfl (lv_at hv 1 rfl) ?_
  refine lv_aload_n C.ex C.by d_Cert_inside_257 rfl (lv_at hv 1 rfl) ?_
  refine lv_iload C.ex C.by d_Cert_inside_258 (lv_at hv 0 rfl) ?_
  refine fx_callL C F (c_Cert_time hl hw) hm_Cert_time hi_Cert_time hv.1 (by decide) (Nat.le_of_ble_eq_true rfl) (iv_Cert_time C F lm_Cert_139 hk1 d_Cert_inside_260) (fx_out0 _) (fun _ _ hE hx => Or.inr ⟨_, rfl, hE hx⟩) (fun u1 h8 H locs cells slots hw hx4 F => ?_)
  replace hw := hw hx4
  have hk2 := (hx4).k hk2
  have hk3 := (hx4).k hk3
  have hk4 := (hx4).k hk4
  have hk5 := (hx4).k hk5
  have hk1 := (hx4).k hk1
  let h9 : AH := up_L h8 r0 16 u1
  replace hw := hw h9 rfl
  refine fx_putL C F lf_Cert_60 hk1 rfl rfl (fx_mayF.no rfl rfl) d_Cert_inside_263 (fun H locs (F : fx_F D h0 h9 H locs _ _) => ?_)
  refine lv_aload_n C.ex C.by d_Cert_inside_266 rfl (lv_at hv 1 rfl) ?_
  refine lv_aload_n C.ex C.by d_Cert_inside_267 rfl (lv_at hv 1 rfl) ?_
  refine lv_iload C.ex C.by d_Cert_inside_268 (lv_at hv 0 rfl) ?_
  refine fx_callL C F (c_Cert_time hl hw) hm_Cert_time hi_Cert_time hv.1 (by decide) (Nat.le_of_ble_eq_true rfl) (iv_Cert_time C F lm_Cert_139 hk1 d_Cert_inside_270) (fx_out0 _) (fun _ _ hE hx => Or.inr ⟨_, rfl, hE hx⟩) (fun u2 h10 H locs cells slots hw hx5 F => ?_)
  replace hw := hw hx5
  have hk2 := (hx5).k hk2
  have hk3 := (hx5).k hk3
  have hk4 := (hx5).k hk4
  have hk5 := (hx5).k hk5
  have hk1 := (hx5).k hk1
  let h11 : AH := up_L h10 r0 17 u2
  replace hw := hw h11 rfl
  refine fx_putL C F lf_Cert_64 hk1 rfl rfl (fx_mayF.no rfl rfl) d_Cert_inside_273 (fun H locs (F : fx_F D h0 h11 H locs _ _) => ?_)
  refine lv_aload_n C.ex C.by d_Cert_inside_276 rfl (lv_at hv 1 rfl) ?_
  obtain ⟨b5, hb5, hw⟩ := hw
  refine fx_getR C F lf_Cert_10 hk1 rfl hb5 d_Cert_inside_277 ?_
  refine lv_iload C.ex C.by d_Cert_inside_280 (lv_at hv 0 rfl) ?_
  obtain ⟨hk6, hw⟩ := hw
  refine fx_callV C F (c_Rd_leave hl hw) hm_Rd_leave hi_Rd_leave hv.1 (by decide) (Nat.le_of_ble_eq_true rfl) (iv_Rd_leave C F lm_Cert_132 hk6 d_Cert_inside_282) (fx_out0 _) (fun _ _ hE hx => Or.inr ⟨_, rfl, hE hx⟩) (fun h12 H locs cells slots hw hx6 F => ?_)
  replace hw := hw hx6
  have hk2 := (hx6).k hk2
  have hk3 := (hx6).k hk3
  have hk4 := (hx6).k hk4
  have hk5 := (hx6).k hk5
  have hk6 := (hx6).k hk6
  have hk1 := (hx6).k hk1
  refine lv_aload_n C.ex C.by d_Cert_inside_285 rfl (lv_at hv 1 rfl) ?_
  refine lv_aload_n C.ex C.by d_Cert_inside_286 rfl (lv_at hv 1 rfl) ?_
  obtain ⟨b6, hb6, hw⟩ := hw
  refine fx_getR C F lf_Cert_10 hk1 rfl hb6 d_Cert_inside_287 ?_
  obtain ⟨hk7, hw⟩ := hw
  refine fx_getI C F lf_Cert_106 hk7 rfl d_Cert_inside_290 ?_
  let h13 : AH := up_I h12 r0 7 (hp_I h12 b6 1)
  replace hw := hw h13 rfl
  refine fx_putI C F lf_Cert_33 hk1 rfl rfl (fx_mayF.no rfl rfl) d_Cert_inside_293 (fun H locs (F : fx_F D h0 h13 H locs _ _) => ?_)
  refine lv_aload_n C.ex C.by d_Cert_inside_296 rfl (lv_at hv 1 rfl) ?_
  refine lv_aload_n C.ex C.by d_Cert_inside_297 rfl (lv_at hv 1 rfl) ?_
  refine lv_iload_n C.ex C.by d_Cert_inside_298 rfl (lv_at hv 2 rfl) ?_
  refine fx_callI C F (c_Cert_names hl hw) hm_Cert_names hi_Cert_names hv.1 (by decide) (Nat.le_of_ble_eq_true rfl) (iv_Cert_names C F lm_Cert_135 hk1 d_Cert_inside_299) (fx_out0 _) (fun _ _ hE hx => Or.inr ⟨_, rfl, hE hx⟩) (fun v4 h14 H locs cells slots hw hx7 F => ?_)
  replace hw := hw hx7
  have hk2 := (hx7).k hk2
  have hk3 := (hx7).k hk3
  have hk4 := (hx7).k hk4
  have hk5 := (hx7).k hk5
  have hk6 := (hx7).k hk6
  have hk7 := (hx7).k hk7
  have hk1 := (hx7).k hk1
  let h15 : AH := up_I h14 r0 15 v4
  replace hw := hw h15 rfl
  refine fx_putI C F lf_Cert_57 hk1 rfl rfl (fx_mayF.no rfl rfl) d_Cert_inside_302 (fun H locs (F : fx_F D h0 h15 H locs _ _) => ?_)
  refine lv_aload_n C.ex C.by d_Cert_inside_305 rfl (lv_at hv 1 rfl) ?_
  refine lv_aload_n C.ex C.by d_Cert_inside_306 rfl (lv_at hv 1 rfl) ?_
  obtain ⟨b7, hb7, hw⟩ := hw
  refine fx_getR C F lf_Cert_10 hk1 rfl hb7 d_Cert_inside_307 ?_
  obtain ⟨hk8, hw⟩ := hw
  refine fx_getI C F lf_Cert_106 hk8 rfl d_Cert_inside_310 ?_
  let h16 : AH := up_I h15 r0 8 (hp_I h15 b7 1)
  replace hw := hw h16 rfl
  refine fx_putI C F lf_Cert_36 hk1 rfl rfl (fx_mayF.no rfl rfl) d_Cert_inside_313 (fun H locs (F : fx_F D h0 h16 H locs _ _) => ?_)
  refine lv_aload_n C.ex C.by d_Cert_inside_316 rfl (lv_at hv 1 rfl) ?_
  refine fx_getR C F lf_Cert_10 hk1 rfl hb7 d_Cert_inside_317 ?_
  refine lv_bipush (v := (48 : Int32)) C.ex C.by d_Cert_inside_320 (by decide) ?_
  refine lv_iload_n C.ex C.by d_Cert_inside_322 rfl (lv_at hv 2 rfl) ?_
  refine fx_callI C F (c_Rd_enter hl hw) hm_Rd_enter hi_Rd_enter hv.1 (by decide) (Nat.le_of_ble_eq_true rfl) (iv_Rd_enter C F lm_Cert_115 hk8 d_Cert_inside_323) (fx_out0 _) (fun _ _ hE hx => Or.inr ⟨_, rfl, hE hx⟩) (fun v5 h17 H locs cells slots hw hx8 F => ?_)
  replace hw := hw hx8
  have hk2 := (hx8).k hk2
  have hk3 := (hx8).k hk3
  have hk4 := (hx8).k hk4
  have hk5 := (hx8).k hk5
  have hk6 := (hx8).k hk6
  have hk7 := (hx8).k hk7
  have hk8 := (hx8).k hk8
  have hk1 := (hx8).k hk1
  refine lv_istore (lv' := [(8, .int v5), (7, .int v3), (0, .ref r0), (2, .int x2), (5, .int x5)]) C.ex C.by d_Cert_inside_326 hv (by decide) rfl (fun ls hv => ?_)
  refine lv_aload_n C.ex C.by d_Cert_inside_328 rfl (lv_at hv 2 rfl) ?_
  refine lv_aload_n C.ex C.by d_Cert_inside_329 rfl (lv_at hv 2 rfl) ?_
  obtain ⟨b8, hb8, hw⟩ := hw
  refine fx_getR C F lf_Cert_101 hk1 rfl hb8 d_Cert_inside_330 ?_
  refine lv_aload_n C.ex C.by d_Cert_inside_333 rfl (lv_at hv 2 rfl) ?_
  obtain ⟨b9, hb9, hw⟩ := hw
  refine fx_getR C F lf_Cert_10 hk1 rfl hb9 d_Cert_inside_334 ?_
  refine lv_iload C.ex C.by d_Cert_inside_337 (lv_at hv 0 rfl) ?_
  obtain ⟨hk9, hw⟩ := hw
  refine fx_callI C F (c_KM_ofKey hl hw) hm_KM_ofKey hi_KM_ofKey hv.1 (by decide) (Nat.le_of_ble_eq_true rfl) (iv_KM_ofKey_f C F lm_Cert_143 hk9 d_Cert_inside_339) (fx_out0 _) (fun _ _ hE hx => Or.inr ⟨_, rfl, hE hx⟩) (fun v6 h18 H locs cells slots hw hx9 F => ?_)
  replace hw := hw hx9
  have hk2 := (hx9).k hk2
  have hk3 := (hx9).k hk3
  have hk4 := (hx9).k hk4
  have hk5 := (hx9).k hk5
  have hk6 := (hx9).k hk6
  have hk7 := (hx9).k hk7
  have hk8 := (hx9).k hk8
  have hk9 := (hx9).k hk9
  have hk1 := (hx9).k hk1
  let h19 : AH := up_I h18 r0 13 v6
  replace hw := hw h19 rfl
  refine fx_putI C F lf_Cert_51 hk1 rfl rfl (fx_mayF.no rfl rfl) d_Cert_inside_344 (fun H locs (F : fx_F D h0 h19 H locs _ _) => ?_)
  refine lv_aload_n C.ex C.by d_Cert_inside_347 rfl (lv_at hv 2 rfl) ?_
  obtain ⟨b10, hb10, hw⟩ := hw
  refine fx_getR C F lf_Cert_10 hk1 rfl hb10 d_Cert_inside_348 ?_
  refine lv_iconst (v := (3 : Int32)) C.ex C.by d_Cert_inside_351 (by decide) ?_
  refine lv_iload C.ex C.by d_Cert_inside_352 (lv_at hv 0 rfl) ?_
  obtain ⟨hk10, hw⟩ := hw
  refine fx_callI C F (c_Rd_enter hl hw) hm_Rd_enter hi_Rd_enter hv.1 (by decide) (Nat.le_of_ble_eq_true rfl) (iv_Rd_enter C F lm_Cert_115 hk10 d_Cert_inside_354) (fx_out0 _) (fun _ _ hE hx => Or.inr ⟨_, rfl, hE hx⟩) (fun v7 h20 H locs cells slots hw hx10 F => ?_)
  replace hw := hw hx10
  have hk2 := (hx10).k hk2
  have hk10 := (hx10).k hk10
  have hk3 := (hx10).k hk3
  have hk4 := (hx10).k hk4
  have hk5 := (hx10).k hk5
  have hk6 := (hx10).k hk6
  have hk7 := (hx10).k hk7
  have hk8 := (hx10).k hk8
  have hk9 := (hx10).k hk9
  have hk1 := (hx10).k hk1
  refine lv_istore (lv' := [(9, .int v7), (8, .int v5), (7, .int v3), (0, .ref r0), (2, .int x2), (5, .int x5)]) C.ex C.by d_Cert_inside_357 hv (by decide) rfl (fun ls hv => ?_)
  refine lv_aload_n C.ex C.by d_Cert_inside_359 rfl (lv_at hv 3 rfl) ?_
  obtain ⟨b11, hb11, hw⟩ := hw
  refine fx_getR C F lf_Cert_10 hk1 rfl hb11 d_Cert_inside_360 ?_
  obtain ⟨hk11, hw⟩ := hw
  refine fx_getI C F lf_Cert_106 hk11 rfl d_Cert_inside_363 ?_
  refine lv_iload C.ex C.by d_Cert_inside_366 (lv_at hv 0 rfl) ?_
  refine lv_icmp_eq C.ex C.by d_Cert_inside_368 rfl (fun hc => ?_) (fun hc => ?_)
  · replace hw := hw.1 hc
    exact b_Cert_inside_386 C hl _ hw _ _ _ _ _ (lv_sub hv [] rfl) F
  · replace hw := hw.2 hc
    refine lv_aload_n C.ex C.by d_Cert_inside_371 rfl (lv_at hv 3 rfl) ?_
    obtain ⟨b12, hb12, hw⟩ := hw
    refine fx_getR C F lf_Cert_16 hk1 rfl hb12 d_Cert_inside_372 ?_
    refine lv_aload_n C.ex C.by d_Cert_inside_375 rfl (lv_at hv 3 rfl) ?_
    refine fx_getR C F lf_Cert_10 hk1 rfl hb11 d_Cert_inside_376 ?_
    refine fx_getI C F lf_Cert_106 hk11 rfl d_Cert_inside_379 ?_
    obtain ⟨hk12, hw⟩ := hw
    obtain ⟨hi1, hw⟩ := hw
    refine fx_bald C F hk12 hi1 d_Cert_inside_382 (fun h8 => ?_)
    replace hw := hw h8
    refine lv_if_eq C.ex C.by d_Cert_inside_383 rfl (fun hc => ?_) (fun hc => ?_)
    · replace hw := hw.1 hc
      refine lv_aload_n C.ex C.by d_Cert_inside_390 rfl (lv_at hv 3 rfl) ?_
      refine lv_aload_n C.ex C.by d_Cert_inside_391 rfl (lv_at hv 3 rfl) ?_
      refine fx_getR C F lf_Cert_10 hk1 rfl hb11 d_Cert_inside_392 ?_
      refine fx_getI C F lf_Cert_106 hk11 rfl d_Cert_inside_395 ?_
      refine lv_iconst (v := (1 : Int32)) C.ex C.by d_Cert_inside_398 (by decide) ?_
      refine lv_iadd C.ex C.by d_Cert_inside_399 ?_
      let h21 : AH := up_I h20 r0 9 ((hp_I h20 b11 1) + (1 : Int32))
      replace hw := hw h21 rfl
      refine fx_putI C F lf_Cert_39 hk1 rfl rfl (fx_mayF.no rfl rfl) d_Cert_inside_400 (fun H locs (F : fx_F D h0 h21 H locs _ _) => ?_)
      refine lv_aload_n C.ex C.by d_Cert_inside_403 rfl (lv_at hv 3 rfl) ?_
      refine lv_iload C.ex C.by d_Cert_inside_404 (lv_at hv 0 rfl) ?_
      let h22 : AH := up_I h21 r0 10 v7
      replace hw := hw h22 rfl
      refine fx_putI C F lf_Cert_42 hk1 rfl rfl (fx_mayF.no rfl rfl) d_Cert_inside_406 (fun H locs (F : fx_F D h0 h22 H locs _ _) => ?_)
      refine lv_aload_n C.ex C.by d_Cert_inside_409 rfl (lv_at hv 3 rfl) ?_
      refine fx_getR C F lf_Cert_10 hk1 rfl hb11 d_Cert_inside_410 ?_
      refine lv_iload C.ex C.by d_Cert_inside_413 (lv_at hv 0 rfl) ?_
      let h23 : AH := up_I h22 b11 1 v7
      replace hw := hw h23 rfl
      refine fx_putI C F lf_Cert_106 hk11 rfl rfl (fx_mayF.no rfl rfl) d_Cert_inside_415 (fun H locs (F : fx_F D h0 h23 H locs _ _) => ?_)
      refine lv_aload_n C.ex C.by d_Cert_inside_418 rfl (lv_at hv 3 rfl) ?_
      refine fx_getR C F lf_Cert_10 hk1 rfl hb11 d_Cert_inside_419 ?_
      refine lv_iload C.ex C.by d_Cert_inside_422 (lv_at hv 1 rfl) ?_
      refine fx_callV C F (c_Rd_leave hl hw) hm_Rd_leave hi_Rd_leave hv.1 (by decide) (Nat.le_of_ble_eq_true rfl) (iv_Rd_leave C F lm_Cert_132 hk11 d_Cert_inside_424) (fx_out0 _) (fun _ _ hE hx => Or.inr ⟨_, rfl, hE hx⟩) (fun h24 H locs cells slots hw hx11 F => ?_)
      replace hw := hw hx11
      have hk2 := (hx11).k hk2
      have hk10 := (hx11).k hk10
      have hk11 := (hx11).k hk11
      have hk12 := (hx11).gb hk12
      have hk3 := (hx11).k hk3
      have hk4 := (hx11).k hk4
      have hk5 := (hx11).k hk5
      have hk6 := (hx11).k hk6
      have hk7 := (hx11).k hk7
      have hk8 := (hx11).k hk8
      have hk9 := (hx11).k hk9
      have hk1 := (hx11).k hk1
      refine lv_aload_n C.ex C.by d_Cert_inside_427 rfl (lv_at hv 3 rfl) ?_
      obtain ⟨b13, hb13, hw⟩ := hw
      refine fx_getR C F lf_Cert_101 hk1 rfl hb13 d_Cert_inside_428 ?_
      refine lv_aload_n C.ex C.by d_Cert_inside_431 rfl (lv_at hv 3 rfl) ?_
      refine fx_getI C F lf_Cert_51 hk1 rfl d_Cert_inside_432 ?_
      refine lv_aload_n C.ex C.by d_Cert_inside_435 rfl (lv_at hv 3 rfl) ?_
      obtain ⟨b14, hb14, hw⟩ := hw
      refine fx_getR C F lf_Cert_16 hk1 rfl hb14 d_Cert_inside_436 ?_
      refine lv_aload_n C.ex C.by d_Cert_inside_439 rfl (lv_at hv 3 rfl) ?_
      refine fx_getI C F lf_Cert_39 hk1 rfl d_Cert_inside_440 ?_
      refine lv_aload_n C.ex C.by d_Cert_inside_443 rfl (lv_at hv 3 rfl) ?_
      refine fx_getI C F lf_Cert_42 hk1 rfl d_Cert_inside_444 ?_
      refine lv_aload_n C.ex C.by d_Cert_inside_447 rfl (lv_at hv 3 rfl) ?_
      refine fx_getI C F lf_Cert_39 hk1 rfl d_Cert_inside_448 ?_
      refine lv_isub C.ex C.by d_Cert_inside_451 ?_
      obtain ⟨hk13, hw⟩ := hw
      refine fx_callZ C F (c_KM_key hl hw) hm_KM_key hi_KM_key hv.1 (by decide) (Nat.le_of_ble_eq_true rfl) (iv_KM_key_f C F lm_Cert_146 hk13 d_Cert_inside_452) (fx_out0 _) fx_eno (fun v8 h25 H locs cells slots hw hx12 hzb F => ?_)
      replace hw := hw hx12 hzb
      have hk2 := (hx12).k hk2
      have hk10 := (hx12).k hk10
      have hk11 := (hx12).k hk11
      have hk12 := (hx12).gb hk12
      have hk13 := (hx12).k hk13
      have hk3 := (hx12).k hk3
      have hk4 := (hx12).k hk4
      have hk5 := (hx12).k hk5
      have hk6 := (hx12).k hk6
      have hk7 := (hx12).k hk7
      have hk8 := (hx12).k hk8
      have hk9 := (hx12).k hk9
      have hk1 := (hx12).k hk1
      refine lv_if_ne C.ex C.by d_Cert_inside_457 rfl (fun hc => ?_) (fun hc => ?_)
      · replace hw := hw.1 hc
        refine lv_aload_n C.ex C.by d_Cert_inside_464 rfl (lv_at hv 3 rfl) ?_
        refine lv_iload_n C.ex C.by d_Cert_inside_465 rfl (lv_at hv 4 rfl) ?_
        refine fx_callV C F (c_Cert_extensions hl hw) hm_Cert_extensions hi_Cert_extensions hv.1 (by decide) (Nat.le_of_ble_eq_true rfl) (iv_Cert_extensions C F lm_Cert_149 hk1 d_Cert_inside_466) (fx_out0 _) (fun _ _ hE hx => Or.inr ⟨_, rfl, hE hx⟩) (fun h26 H locs cells slots hw hx13 F => ?_)
        replace hw := hw hx13
        have hk2 := (hx13).k hk2
        have hk10 := (hx13).k hk10
        have hk11 := (hx13).k hk11
        have hk12 := (hx13).gb hk12
        have hk13 := (hx13).k hk13
        have hk3 := (hx13).k hk3
        have hk4 := (hx13).k hk4
        have hk5 := (hx13).k hk5
        have hk6 := (hx13).k hk6
        have hk7 := (hx13).k hk7
        have hk8 := (hx13).k hk8
        have hk9 := (hx13).k hk9
        have hk1 := (hx13).k hk1
        refine lv_aload_n C.ex C.by d_Cert_inside_469 rfl (lv_at hv 3 rfl) ?_
        obtain ⟨b15, hb15, hw⟩ := hw
        refine fx_getR C F lf_Cert_10 hk1 rfl hb15 d_Cert_inside_470 ?_
        refine lv_iload_n C.ex C.by d_Cert_inside_473 rfl (lv_at hv 4 rfl) ?_
        obtain ⟨hk14, hw⟩ := hw
        refine fx_callV C F (c_Rd_leave hl hw) hm_Rd_leave hi_Rd_leave hv.1 (by decide) (Nat.le_of_ble_eq_true rfl) (iv_Rd_leave C F lm_Cert_132 hk14 d_Cert_inside_474) (fx_out0 _) (fun _ _ hE hx => Or.inr ⟨_, rfl, hE hx⟩) (fun h27 H locs cells slots hw hx14 F => ?_)
        replace hw := hw hx14
        have hk2 := (hx14).k hk2
        have hk10 := (hx14).k hk10
        have hk11 := (hx14).k hk11
        have hk12 := (hx14).gb hk12
        have hk13 := (hx14).k hk13
        have hk14 := (hx14).k hk14
        have hk3 := (hx14).k hk3
        have hk4 := (hx14).k hk4
        have hk5 := (hx14).k hk5
        have hk6 := (hx14).k hk6
        have hk7 := (hx14).k hk7
        have hk8 := (hx14).k hk8
        have hk9 := (hx14).k hk9
        have hk1 := (hx14).k hk1
        exact fx_vret C F d_Cert_inside_477 (Or.inl ⟨rfl, hw⟩)
      · replace hw := hw.2 hc
        refine fx_callR C F (c_Rd_bad hl hw) hm_Rd_bad hi_Rd_bad hv.1 (by decide) (Nat.le_of_ble_eq_true rfl) (iv_Rd_bad C F lm_Cert_128 d_Cert_inside_460) (fx_out0 _) fx_eno (fun q1 h28 H locs cells slots hw hx15 F => ?_)
        replace hw := hw hx15
        have hk2 := (hx15).k hk2
        have hk10 := (hx15).k hk10
        have hk11 := (hx15).k hk11
        have hk12 := (hx15).gb hk12
        have hk13 := (hx15).k hk13
        have hk3 := (hx15).k hk3
        have hk4 := (hx15).k hk4
        have hk5 := (hx15).k hk5
        have hk6 := (hx15).k hk6
        have hk7 := (hx15).k hk7
        have hk8 := (hx15).k hk8
        have hk9 := (hx15).k hk9
        have hk1 := (hx15).k hk1
        exact fx_athrow C F (fx_out0 _) d_Cert_inside_463 (Or.inr ⟨_, rfl, hw⟩)
    · replace hw := hw.2 hc
      exact b_Cert_inside_386 C hl _ hw _ _ _ _ _ (lv_sub hv [] rfl) F
theorem b_Cert_inside_0 {p : Program} {l : Launch} {e : Env} {R : Room} {s : State} {m : MethodId} {args : Array Value} {below : List Frame} {meth : Method} {c : Code} {D : DD} {h0 : AH} {Q : AH → Prop} {E : Nat → AH → Prop} (C : fx_CX D y_Cert_inside prog_2_method_4_code 10 12 183 (none) [] h0 p R s m meth c) (hl : l.flags = flags0) (r0 : Nat) (x1 : Int32) (h : AH) (hw : m_Cert_inside Q E r0 x1 h) : ∀ (ls : Array Slot) (H : Heap) (locs : List Loc) (cells slots : Nat), lv_has ls 10 [(0, .ref r0), (1, .int x1)] → fx_F D h0 h H locs cells slots → W p l e R s m args below meth c H locs cells slots (fx_Z D below s h0 (fx_oV Q E)) (F0 m 0 ls []) := by
  unfold m_Cert_inside at hw
  intro ls H locs cells slots hv F
  refine lv_aload_n C.ex C.by d_Cert_inside_0 rfl (lv_at hv 0 rfl) ?_
  obtain ⟨hk1, hw⟩ := hw
  obtain ⟨b1, hb1, hw⟩ := hw
  refine fx_getR C F lf_Cert_10 hk1 rfl hb1 d_Cert_inside_1 ?_
  refine lv_bipush (v := (48 : Int32)) C.ex C.by d_Cert_inside_4 (by decide) ?_
  refine lv_iload_n C.ex C.by d_Cert_inside_6 rfl (lv_at hv 1 rfl) ?_
  obtain ⟨hk2, hw⟩ := hw
  refine fx_callI C F (c_Rd_enter hl hw) hm_Rd_enter hi_Rd_enter hv.1 (by decide) (Nat.le_of_ble_eq_true rfl) (iv_Rd_enter C F lm_Cert_115 hk2 d_Cert_inside_7) (fx_out0 _) (fun _ _ hE hx => Or.inr ⟨_, rfl, hE hx⟩) (fun v1 h1 H locs cells slots hw hx1 F => ?_)
  replace hw := hw hx1
  have hk2 := (hx1).k hk2
  have hk1 := (hx1).k hk1
  refine lv_istore_n (lv' := [(2, .int v1), (0, .ref r0), (1, .int x1)]) C.ex C.by d_Cert_inside_10 rfl hv (by decide) rfl (fun ls hv => ?_)
  refine lv_aload_n C.ex C.by d_Cert_inside_11 rfl (lv_at hv 1 rfl) ?_
  refine lv_iload_n C.ex C.by d_Cert_inside_12 rfl (lv_at hv 0 rfl) ?_
  let h2 : AH := up_I h1 r0 4 v1
  replace hw := hw h2 rfl
  refine fx_putI C F lf_Cert_24 hk1 rfl rfl (fx_mayF.no rfl rfl) d_Cert_inside_13 (fun H locs (F : fx_F D h0 h2 H locs _ _) => ?_)
  refine lv_aload_n C.ex C.by d_Cert_inside_16 rfl (lv_at hv 1 rfl) ?_
  obtain ⟨b2, hb2, hw⟩ := hw
  refine fx_getR C F lf_Cert_10 hk1 rfl hb2 d_Cert_inside_17 ?_
  refine lv_sipush (v := (160 : Int32)) C.ex C.by d_Cert_inside_20 (by decide) ?_
  refine lv_iload_n C.ex C.by d_Cert_inside_23 rfl (lv_at hv 0 rfl) ?_
  obtain ⟨hk3, hw⟩ := hw
  refine fx_callI C F (c_Rd_enter hl hw) hm_Rd_enter hi_Rd_enter hv.1 (by decide) (Nat.le_of_ble_eq_true rfl) (iv_Rd_enter C F lm_Cert_115 hk3 d_Cert_inside_24) (fx_out0 _) (fun _ _ hE hx => Or.inr ⟨_, rfl, hE hx⟩) (fun v2 h3 H locs cells slots hw hx2 F => ?_)
  replace hw := hw hx2
  have hk2 := (hx2).k hk2
  have hk3 := (hx2).k hk3
  have hk1 := (hx2).k hk1
  refine lv_istore_n (lv' := [(3, .int v2), (2, .int v1), (0, .ref r0), (1, .int x1)]) C.ex C.by d_Cert_inside_27 rfl hv (by decide) rfl (fun ls hv => ?_)
  refine lv_aload_n C.ex C.by d_Cert_inside_28 rfl (lv_at hv 2 rfl) ?_
  obtain ⟨b3, hb3, hw⟩ := hw
  refine fx_getR C F lf_Cert_10 hk1 rfl hb3 d_Cert_inside_29 ?_
  refine lv_iconst (v := (2 : Int32)) C.ex C.by d_Cert_inside_32 (by decide) ?_
  refine lv_iload_n C.ex C.by d_Cert_inside_33 rfl (lv_at hv 0 rfl) ?_
  obtain ⟨hk4, hw⟩ := hw
  refine fx_callI C F (c_Rd_enter hl hw) hm_Rd_enter hi_Rd_enter hv.1 (by decide) (Nat.le_of_ble_eq_true rfl) (iv_Rd_enter C F lm_Cert_115 hk4 d_Cert_inside_34) (fx_out0 _) (fun _ _ hE hx => Or.inr ⟨_, rfl, hE hx⟩) (fun v3 h4 H locs cells slots hw hx3 F => ?_)
  replace hw := hw hx3
  have hk2 := (hx3).k hk2
  have hk3 := (hx3).k hk3
  have hk4 := (hx3).k hk4
  have hk1 := (hx3).k hk1
  refine lv_istore (lv' := [(4, .int v3), (3, .int v2), (2, .int v1), (0, .ref r0), (1, .int x1)]) C.ex C.by d_Cert_inside_37 hv (by decide) rfl (fun ls hv => ?_)
  refine lv_iload C.ex C.by d_Cert_inside_39 (lv_at hv 0 rfl) ?_
  refine lv_aload_n C.ex C.by d_Cert_inside_41 rfl (lv_at hv 3 rfl) ?_
  obtain ⟨b4, hb4, hw⟩ := hw
  refine fx_getR C F lf_Cert_10 hk1 rfl hb4 d_Cert_inside_42 ?_
  obtain ⟨hk5, hw⟩ := hw
  refine fx_getI C F lf_Cert_106 hk5 rfl d_Cert_inside_45 ?_
  refine lv_isub C.ex C.by d_Cert_inside_48 ?_
  refine lv_iconst (v := (1 : Int32)) C.ex C.by d_Cert_inside_49 (by decide) ?_
  refine lv_icmp_ne C.ex C.by d_Cert_inside_50 rfl (fun hc => ?_) (fun hc => ?_)
  · replace hw := hw.1 hc
    exact b_Cert_inside_69 C hl _ hw _ _ _ _ _ (lv_sub hv [] rfl) F
  · replace hw := hw.2 hc
    refine lv_aload_n C.ex C.by d_Cert_inside_53 rfl (lv_at hv 3 rfl) ?_
    obtain ⟨b5, hb5, hw⟩ := hw
    refine fx_getR C F lf_Cert_16 hk1 rfl hb5 d_Cert_inside_54 ?_
    refine lv_aload_n C.ex C.by d_Cert_inside_57 rfl (lv_at hv 3 rfl) ?_
    refine fx_getR C F lf_Cert_10 hk1 rfl hb4 d_Cert_inside_58 ?_
    refine fx_getI C F lf_Cert_106 hk5 rfl d_Cert_inside_61 ?_
    obtain ⟨hk6, hw⟩ := hw
    obtain ⟨hi1, hw⟩ := hw
    refine fx_bald C F hk6 hi1 d_Cert_inside_64 (fun h8 => ?_)
    replace hw := hw h8
    refine lv_iconst (v := (2 : Int32)) C.ex C.by d_Cert_inside_65 (by decide) ?_
    refine lv_icmp_eq C.ex C.by d_Cert_inside_66 rfl (fun hc => ?_) (fun hc => ?_)
    · replace hw := hw.1 hc
      refine lv_aload_n C.ex C.by d_Cert_inside_73 rfl (lv_at hv 3 rfl) ?_
      refine fx_getR C F lf_Cert_10 hk1 rfl hb4 d_Cert_inside_74 ?_
      refine lv_iload C.ex C.by d_Cert_inside_77 (lv_at hv 0 rfl) ?_
      let h5 : AH := up_I h4 b4 1 v3
      replace hw := hw h5 rfl
      refine fx_putI C F lf_Cert_106 hk5 rfl rfl (fx_mayF.no rfl rfl) d_Cert_inside_79 (fun H locs (F : fx_F D h0 h5 H locs _ _) => ?_)
      refine lv_aload_n C.ex C.by d_Cert_inside_82 rfl (lv_at hv 3 rfl) ?_
      refine fx_getR C F lf_Cert_10 hk1 rfl hb4 d_Cert_inside_83 ?_
      refine lv_iload_n C.ex C.by d_Cert_inside_86 rfl (lv_at hv 1 rfl) ?_
      refine fx_callV C F (c_Rd_leave hl hw) hm_Rd_leave hi_Rd_leave hv.1 (by decide) (Nat.le_of_ble_eq_true rfl) (iv_Rd_leave C F lm_Cert_132 hk5 d_Cert_inside_87) (fx_out0 _) (fun _ _ hE hx => Or.inr ⟨_, rfl, hE hx⟩) (fun h6 H locs cells slots hw hx4 F => ?_)
      replace hw := hw hx4
      have hk2 := (hx4).k hk2
      have hk3 := (hx4).k hk3
      have hk4 := (hx4).k hk4
      have hk5 := (hx4).k hk5
      have hk6 := (hx4).gb hk6
      have hk1 := (hx4).k hk1
      refine lv_aload_n C.ex C.by d_Cert_inside_90 rfl (lv_at hv 3 rfl) ?_
      obtain ⟨b6, hb6, hw⟩ := hw
      refine fx_getR C F lf_Cert_10 hk1 rfl hb6 d_Cert_inside_91 ?_
      refine lv_iconst (v := (2 : Int32)) C.ex C.by d_Cert_inside_94 (by decide) ?_
      refine lv_iload_n C.ex C.by d_Cert_inside_95 rfl (lv_at hv 2 rfl) ?_
      obtain ⟨hk7, hw⟩ := hw
      refine fx_callI C F (c_Rd_enter hl hw) hm_Rd_enter hi_Rd_enter hv.1 (by decide) (Nat.le_of_ble_eq_true rfl) (iv_Rd_enter C F lm_Cert_115 hk7 d_Cert_inside_96) (fx_out0 _) (fun _ _ hE hx => Or.inr ⟨_, rfl, hE hx⟩) (fun v4 h7 H locs cells slots hw hx5 F => ?_)
      replace hw := hw hx5
      have hk2 := (hx5).k hk2
      have hk3 := (hx5).k hk3
      have hk4 := (hx5).k hk4
      have hk5 := (hx5).k hk5
      have hk6 := (hx5).gb hk6
      have hk7 := (hx5).k hk7
      have hk1 := (hx5).k hk1
      refine lv_istore (lv' := [(5, .int v4), (4, .int v3), (3, .int v2), (2, .int v1), (0, .ref r0), (1, .int x1)]) C.ex C.by d_Cert_inside_99 hv (by decide) rfl (fun ls hv => ?_)
      refine lv_iload C.ex C.by d_Cert_inside_101 (lv_at hv 0 rfl) ?_
      refine lv_aload_n C.ex C.by d_Cert_inside_103 rfl (lv_at hv 4 rfl) ?_
      obtain ⟨b7, hb7, hw⟩ := hw
      refine fx_getR C F lf_Cert_10 hk1 rfl hb7 d_Cert_inside_104 ?_
      obtain ⟨hk8, hw⟩ := hw
      refine fx_getI C F lf_Cert_106 hk8 rfl d_Cert_inside_107 ?_
      refine lv_isub C.ex C.by d_Cert_inside_110 ?_
      let v5 : Int32 := (v4 - (hp_I h7 b7 1))
      replace hw := hw v5 rfl
      refine lv_istore (lv' := [(6, .int v5), (5, .int v4), (4, .int v3), (3, .int v2), (2, .int v1), (0, .ref r0), (1, .int x1)]) C.ex C.by d_Cert_inside_111 hv (by decide) rfl (fun ls hv => ?_)
      refine lv_aload_n C.ex C.by d_Cert_inside_113 rfl (lv_at hv 5 rfl) ?_
      refine lv_iload C.ex C.by d_Cert_inside_114 (lv_at hv 0 rfl) ?_
      let h8 : AH := up_I h7 r0 20 v5
      replace hw := hw h8 rfl
      refine fx_putI C F lf_Cert_74 hk1 rfl rfl (fx_mayF.no rfl rfl) d_Cert_inside_116 (fun H locs (F : fx_F D h0 h8 H locs _ _) => ?_)
      refine lv_iload C.ex C.by d_Cert_inside_119 (lv_at hv 0 rfl) ?_
      refine lv_iconst (v := (1 : Int32)) C.ex C.by d_Cert_inside_121 (by decide) ?_
      refine lv_icmp_lt C.ex C.by d_Cert_inside_122 rfl (fun hc => ?_) (fun hc => ?_)
      · replace hw := hw.1 hc
        exact b_Cert_inside_185 C hl _ hw _ _ _ _ _ (lv_sub hv [] rfl) F
      · replace hw := hw.2 hc
        refine lv_iload C.ex C.by d_Cert_inside_125 (lv_at hv 0 rfl) ?_
        refine lv_bipush (v := (20 : Int32)) C.ex C.by d_Cert_inside_127 (by decide) ?_
        refine lv_icmp_gt C.ex C.by d_Cert_inside_129 rfl (fun hc => ?_) (fun hc => ?_)
        · replace hw := hw.1 hc
          exact b_Cert_inside_185 C hl _ hw _ _ _ _ _ (lv_sub hv [] rfl) F
        · replace hw := hw.2 hc
          refine lv_aload_n C.ex C.by d_Cert_inside_132 rfl (lv_at hv 5 rfl) ?_
          obtain ⟨b8, hb8, hw⟩ := hw
          refine fx_getR C F lf_Cert_16 hk1 rfl hb8 d_Cert_inside_133 ?_
          refine lv_aload_n C.ex C.by d_Cert_inside_136 rfl (lv_at hv 5 rfl) ?_
          refine fx_getR C F lf_Cert_10 hk1 rfl hb7 d_Cert_inside_137 ?_
          refine fx_getI C F lf_Cert_106 hk8 rfl d_Cert_inside_140 ?_
          obtain ⟨hk9, hw⟩ := hw
          obtain ⟨hi2, hw⟩ := hw
          refine fx_bald C F hk9 hi2 d_Cert_inside_143 (fun h8 => ?_)
          replace hw := hw h8
          refine lv_if_lt C.ex C.by d_Cert_inside_144 rfl (fun hc => ?_) (fun hc => ?_)
          · replace hw := hw.1 hc
            exact b_Cert_inside_185 C hl _ hw _ _ _ _ _ (lv_sub hv [] rfl) F
          · replace hw := hw.2 hc
            refine lv_aload_n C.ex C.by d_Cert_inside_147 rfl (lv_at hv 5 rfl) ?_
            refine fx_getR C F lf_Cert_16 hk1 rfl hb8 d_Cert_inside_148 ?_
            refine lv_aload_n C.ex C.by d_Cert_inside_151 rfl (lv_at hv 5 rfl) ?_
            refine fx_getR C F lf_Cert_10 hk1 rfl hb7 d_Cert_inside_152 ?_
            refine fx_getI C F lf_Cert_106 hk8 rfl d_Cert_inside_155 ?_
            obtain ⟨hi3, hw⟩ := hw
            refine fx_bald C F hk9 hi3 d_Cert_inside_158 (fun h8 => ?_)
            replace hw := hw h8
            refine lv_if_ne C.ex C.by d_Cert_inside_159 rfl (fun hc => ?_) (fun hc => ?_)
            · replace hw := hw.1 hc
              exact b_Cert_inside_189 C hl _ _ _ _ hw _ _ _ _ _ (lv_sub hv [5, 4, 1] rfl) F
            · replace hw := hw.2 hc
              refine lv_iload C.ex C.by d_Cert_inside_162 (lv_at hv 0 rfl) ?_
              refine lv_iconst (v := (1 : Int32)) C.ex C.by d_Cert_inside_164 (by decide) ?_
              refine lv_icmp_eq C.ex C.by d_Cert_inside_165 rfl (fun hc => ?_) (fun hc => ?_)
              · replace hw := hw.1 hc
                exact b_Cert_inside_185 C hl _ hw _ _ _ _ _ (lv_sub hv [] rfl) F
              · replace hw := hw.2 hc
                refine lv_aload_n C.ex C.by d_Cert_inside_168 rfl (lv_at hv 5 rfl) ?_
                refine fx_getR C F lf_Cert_16 hk1 rfl hb8 d_Cert_inside_169 ?_
                refine lv_aload_n C.ex C.by d_Cert_inside_172 rfl (lv_at hv 5 rfl) ?_
                refine fx_getR C F lf_Cert_10 hk1 rfl hb7 d_Cert_inside_173 ?_
                refine fx_getI C F lf_Cert_106 hk8 rfl d_Cert_inside_176 ?_
                refine lv_iconst (v := (1 : Int32)) C.ex C.by d_Cert_inside_179 (by decide) ?_
                refine lv_iadd C.ex C.by d_Cert_inside_180 ?_
                obtain ⟨hi4, hw⟩ := hw
                refine fx_bald C F hk9 hi4 d_Cert_inside_181 (fun h8 => ?_)
                replace hw := hw h8
                refine lv_if_lt C.ex C.by d_Cert_inside_182 rfl (fun hc => ?_) (fun hc => ?_)
                · replace hw := hw.1 hc
                  exact b_Cert_inside_189 C hl _ _ _ _ hw _ _ _ _ _ (lv_sub hv [5, 4, 1] rfl) F
                · replace hw := hw.2 hc
                  exact b_Cert_inside_185 C hl _ hw _ _ _ _ _ (lv_sub hv [] rfl) F
    · replace hw := hw.2 hc
      exact b_Cert_inside_69 C hl _ hw _ _ _ _ _ (lv_sub hv [] rfl) F
theorem hm_Cert_inside : fx_hd y_Cert_inside prog_2_method_4_code 10 (none) [] ∈ tables_1 := (fx_m3 (List.mem_of_getElem? (i := 141) rfl))
theorem hi_Cert_inside : Cond.initialized y_Cert_inside.cls ∈ tables_1 := (fx_m1 (List.mem_of_getElem? (i := 11) rfl))
theorem c_Cert_inside {l : Launch} (hl : l.flags = flags0) {D : DD} {Q : AH → Prop} {E : Nat → AH → Prop} {r0 : Nat} {x1 : Int32} {h : AH} (hw : m_Cert_inside Q E r0 x1 h) : fx_Mt l D y_Cert_inside (fx_hd y_Cert_inside prog_2_method_4_code 10 (none) []) 12 183 [.ref r0, .int x1] h (fx_oV Q E) := by
  refine fx_ofW (plainFor_of_name (by decide)) (fun p e s m below meth c C F => ?_)
  have hv := lv_entry ([.ref r0, .int x1]) (n := 10) (Nat.le_of_ble_eq_true rfl)
  rw [lg_entry_eq]
  generalize (lg_sl ([.ref r0, .int x1]) ++ List.replicate (10 - (lg_sl ([.ref r0, .int x1])).length) Slot.unset).toArray = ls at hv ⊢
  have hv : lv_has ls 10 [(0, .ref r0), (1, .int x1)] := hv
  exact b_Cert_inside_0 C hl _ _ _ hw _ _ _ _ _ hv F
/-! ChainJudge$Certificate.whole(I)V: frames 13, words 204, throws -/
abbrev y_Cert_whole : MethodName := ⟨"ChainJudge$Certificate", "whole", "(I)V"⟩
theorem lm_Cert_119 : Cond.methodLink "ChainJudge$Certificate" 119 y_Cert_inside ∈ tables_1 ∨ ∃ host, Cond.methodLinkNest "ChainJudge$Certificate" 119 y_Cert_inside host ∈ tables_1 := Or.inl (fx_m3 (List.mem_of_getElem? (i := 138) rfl))
section
variable {p : Program} {l : Launch} {e : Env} {R : Room} {s : State} {m : MethodId} {args : Array Value} {below : List Frame} {meth : Method} {c : Code} {H : Heap} {locs : List Loc} {cells slots : Nat}
variable {D : DD} {y : MethodName} {cc : ByteArray} {nL kf kw : Nat} {ret : Option FieldType} {hh : List (Nat × Nat × Nat × Nat)} {h0 h : AH} {pc : Nat} {ls : Array Slot} {rest : List Value} {b idx : Nat}
theorem iv_Cert_inside {x1 : Int32} (C : fx_CX D y cc nL kf kw ret hh h0 p R s m meth c) (F : fx_F D h0 h H locs cells slots) (hw1 : Cond.methodLink y.cls idx y_Cert_inside ∈ tables_1 ∨ ∃ host, Cond.methodLinkNest y.cls idx y_Cert_inside host ∈ tables_1) (hk : hp_k h b = 8) (hd : decode cc pc = .ok (.invokevirtual idx, 3)) : fx_IV p l e R s m args below meth c H locs cells slots (F0 m pc ls (.int x1 :: .ref b :: rest)) rest y_Cert_inside [.ref b, .int x1] 3 := fun T hT X => fx_invV (As := [.int x1]) (Cn := "ChainJudge$Certificate") C X hw1 (fx_m3 (List.mem_of_getElem? (i := 140) rfl)) (fx_selP C ⟨by decide, by decide⟩ (fx_m1 (List.mem_of_getElem? (i := 197) rfl)) (fx_m3 (List.mem_of_getElem? (i := 139) rfl)) (fx_m3 (List.mem_of_getElem? (i := 140) rfl))) hm_Cert_inside ⟨by decide, by decide⟩ (by rw [hT]; exact fx_clsO (ci := 7) (r := ("ChainJudge$Certificate", fx_T7, 29)) C F rfl (by decide) hk) rfl (n := 1) (by decide +kernel) rfl rfl hd
end
def dl_Cert_whole : List (Nat × Instr × Nat) := [(0, .aload_n 0, 1), (1, .getfield 10, 3), (4, .bipush 48, 2), (6, .iload_n 1, 1), (7, .invokevirtual 115, 3), (10, .istore_n 2, 1), (11, .aload_n 0, 1), (12, .aload_n 0, 1), (13, .getfield 10, 3), (16, .getfield 106, 3), (19, .putfield 20, 3), (22, .aload_n 0, 1), (23, .iload_n 2, 1), (24, .invokevirtual 119, 3), (27, .aload_n 0, 1), (28, .aload_n 0, 1), (29, .getfield 101, 3), (32, .aload_n 0, 1), (33, .getfield 10, 3), (36, .iload_n 2, 1), (37, .invokeinterface 122 3, 5), (42, .putfield 54, 3), (45, .aload_n 0, 1), (46, .getfield 10, 3), (49, .iconst 3, 1), (50, .iload_n 2, 1), (51, .invokevirtual 115, 3), (54, .istore_n 3, 1), (55, .aload_n 0, 1), (56, .getfield 10, 3), (59, .getfield 106, 3), (62, .iload_n 3, 1), (63, .if_icmp .eq 18, 3), (66, .aload_n 0, 1), (67, .getfield 16, 3), (70, .aload_n 0, 1), (71, .getfield 10, 3), (74, .getfield 106, 3), (77, .baload, 1), (78, .ifCond .eq 7, 3), (81, .invokestatic 128, 3), (84, .athrow, 1), (85, .aload_n 0, 1), (86, .aload_n 0, 1), (87, .getfield 10, 3), (90, .getfield 106, 3), (93, .iconst 1, 1), (94, .iadd, 1), (95, .putfield 45, 3), (98, .aload_n 0, 1), (99, .iload_n 3, 1), (100, .putfield 48, 3), (103, .aload_n 0, 1), (104, .getfield 10, 3), (107, .iload_n 3, 1), (108, .putfield 106, 3), (111, .aload_n 0, 1), (112, .getfield 10, 3), (115, .iload_n 2, 1), (116, .invokevirtual 132, 3), (119, .aload_n 0, 1), (120, .getfield 10, 3), (123, .iload_n 1, 1), (124, .invokevirtual 132, 3), (127, .aload_n 0, 1), (128, .getfield 54, 3), (131, .aload_n 0, 1), (132, .getfield 98, 3), (135, .if_icmp .eq 7, 3), (138, .invokestatic 128, 3), (141, .athrow, 1), (142, .return_, 1)]
theorem dk_Cert_whole : fx_dec prog_2_method_3_code dl_Cert_whole = true := by decide +kernel
theorem d_Cert_whole_0 : decode prog_2_method_3_code 0 = .ok (.aload_n 0, 1) := fx_dat dk_Cert_whole 0 rfl
theorem d_Cert_whole_1 : decode prog_2_method_3_code 1 = .ok (.getfield 10, 3) := fx_dat dk_Cert_whole 1 rfl
theorem d_Cert_whole_4 : decode prog_2_method_3_code 4 = .ok (.bipush 48, 2) := fx_dat dk_Cert_whole 2 rfl
theorem d_Cert_whole_6 : decode prog_2_method_3_code 6 = .ok (.iload_n 1, 1) := fx_dat dk_Cert_whole 3 rfl
theorem d_Cert_whole_7 : decode prog_2_method_3_code 7 = .ok (.invokevirtual 115, 3) := fx_dat dk_Cert_whole 4 rfl
theorem d_Cert_whole_10 : decode prog_2_method_3_code 10 = .ok (.istore_n 2, 1) := fx_dat dk_Cert_whole 5 rfl
theorem d_Cert_whole_11 : decode prog_2_method_3_code 11 = .ok (.aload_n 0, 1) := fx_dat dk_Cert_whole 6 rfl
theorem d_Cert_whole_12 : decode prog_2_method_3_code 12 = .ok (.aload_n 0, 1) := fx_dat dk_Cert_whole 7 rfl
theorem d_Cert_whole_13 : decode prog_2_method_3_code 13 = .ok (.getfield 10, 3) := fx_dat dk_Cert_whole 8 rfl
theorem d_Cert_whole_16 : decode prog_2_method_3_code 16 = .ok (.getfield 106, 3) := fx_dat dk_Cert_whole 9 rfl
theorem d_Cert_whole_19 : decode prog_2_method_3_code 19 = .ok (.putfield 20, 3) := fx_dat dk_Cert_whole 10 rfl
theorem d_Cert_whole_22 : decode prog_2_method_3_code 22 = .ok (.aload_n 0, 1) := fx_dat dk_Cert_whole 11 rfl
theorem d_Cert_whole_23 : decode prog_2_method_3_code 23 = .ok (.iload_n 2, 1) := fx_dat dk_Cert_whole 12 rfl
theorem d_Cert_whole_24 : decode prog_2_method_3_code 24 = .ok (.invokevirtual 119, 3) := fx_dat dk_Cert_whole 13 rfl
theorem d_Cert_whole_27 : decode prog_2_method_3_code 27 = .ok (.aload_n 0, 1) := fx_dat dk_Cert_whole 14 rfl
theorem d_Cert_whole_28 : decode prog_2_method_3_code 28 = .ok (.aload_n 0, 1) := fx_dat dk_Cert_whole 15 rfl
theorem d_Cert_whole_29 : decode prog_2_method_3_code 29 = .ok (.getfield 101, 3) := fx_dat dk_Cert_whole 16 rfl
theorem d_Cert_whole_32 : decode prog_2_method_3_code 32 = .ok (.aload_n 0, 1) := fx_dat dk_Cert_whole 17 rfl
theorem d_Cert_whole_33 : decode prog_2_method_3_code 33 = .ok (.getfield 10, 3) := fx_dat dk_Cert_whole 18 rfl
theorem d_Cert_whole_36 : decode prog_2_method_3_code 36 = .ok (.iload_n 2, 1) := fx_dat dk_Cert_whole 19 rfl
theorem d_Cert_whole_37 : decode prog_2_method_3_code 37 = .ok (.invokeinterface 122 3, 5) := fx_dat dk_Cert_whole 20 rfl
theorem d_Cert_whole_42 : decode prog_2_method_3_code 42 = .ok (.putfield 54, 3) := fx_dat dk_Cert_whole 21 rfl
theorem d_Cert_whole_45 : decode prog_2_method_3_code 45 = .ok (.aload_n 0, 1) := fx_dat dk_Cert_whole 22 rfl
theorem d_Cert_whole_46 : decode prog_2_method_3_code 46 = .ok (.getfield 10, 3) := fx_dat dk_Cert_whole 23 rfl
theorem d_Cert_whole_49 : decode prog_2_method_3_code 49 = .ok (.iconst 3, 1) := fx_dat dk_Cert_whole 24 rfl
theorem d_Cert_whole_50 : decode prog_2_method_3_code 50 = .ok (.iload_n 2, 1) := fx_dat dk_Cert_whole 25 rfl
theorem d_Cert_whole_51 : decode prog_2_method_3_code 51 = .ok (.invokevirtual 115, 3) := fx_dat dk_Cert_whole 26 rfl
theorem d_Cert_whole_54 : decode prog_2_method_3_code 54 = .ok (.istore_n 3, 1) := fx_dat dk_Cert_whole 27 rfl
theorem d_Cert_whole_55 : decode prog_2_method_3_code 55 = .ok (.aload_n 0, 1) := fx_dat dk_Cert_whole 28 rfl
theorem d_Cert_whole_56 : decode prog_2_method_3_code 56 = .ok (.getfield 10, 3) := fx_dat dk_Cert_whole 29 rfl
theorem d_Cert_whole_59 : decode prog_2_method_3_code 59 = .ok (.getfield 106, 3) := fx_dat dk_Cert_whole 30 rfl
theorem d_Cert_whole_62 : decode prog_2_method_3_code 62 = .ok (.iload_n 3, 1) := fx_dat dk_Cert_whole 31 rfl
theorem d_Cert_whole_63 : decode prog_2_method_3_code 63 = .ok (.if_icmp .eq 18, 3) := fx_dat dk_Cert_whole 32 rfl
theorem d_Cert_whole_66 : decode prog_2_method_3_code 66 = .ok (.aload_n 0, 1) := fx_dat dk_Cert_whole 33 rfl
theorem d_Cert_whole_67 : decode prog_2_method_3_code 67 = .ok (.getfield 16, 3) := fx_dat dk_Cert_whole 34 rfl
theorem d_Cert_whole_70 : decode prog_2_method_3_code 70 = .ok (.aload_n 0, 1) := fx_dat dk_Cert_whole 35 rfl
theorem d_Cert_whole_71 : decode prog_2_method_3_code 71 = .ok (.getfield 10, 3) := fx_dat dk_Cert_whole 36 rfl
theorem d_Cert_whole_74 : decode prog_2_method_3_code 74 = .ok (.getfield 106, 3) := fx_dat dk_Cert_whole 37 rfl
theorem d_Cert_whole_77 : decode prog_2_method_3_code 77 = .ok (.baload, 1) := fx_dat dk_Cert_whole 38 rfl
theorem d_Cert_whole_78 : decode prog_2_method_3_code 78 = .ok (.ifCond .eq 7, 3) := fx_dat dk_Cert_whole 39 rfl
theorem d_Cert_whole_81 : decode prog_2_method_3_code 81 = .ok (.invokestatic 128, 3) := fx_dat dk_Cert_whole 40 rfl
theorem d_Cert_whole_84 : decode prog_2_method_3_code 84 = .ok (.athrow, 1) := fx_dat dk_Cert_whole 41 rfl
theorem d_Cert_whole_85 : decode prog_2_method_3_code 85 = .ok (.aload_n 0, 1) := fx_dat dk_Cert_whole 42 rfl
theorem d_Cert_whole_86 : decode prog_2_method_3_code 86 = .ok (.aload_n 0, 1) := fx_dat dk_Cert_whole 43 rfl
theorem d_Cert_whole_87 : decode prog_2_method_3_code 87 = .ok (.getfield 10, 3) := fx_dat dk_Cert_whole 44 rfl
theorem d_Cert_whole_90 : decode prog_2_method_3_code 90 = .ok (.getfield 106, 3) := fx_dat dk_Cert_whole 45 rfl
theorem d_Cert_whole_93 : decode prog_2_method_3_code 93 = .ok (.iconst 1, 1) := fx_dat dk_Cert_whole 46 rfl
theorem d_Cert_whole_94 : decode prog_2_method_3_code 94 = .ok (.iadd, 1) := fx_dat dk_Cert_whole 47 rfl
theorem d_Cert_whole_95 : decode prog_2_method_3_code 95 = .ok (.putfield 45, 3) := fx_dat dk_Cert_whole 48 rfl
theorem d_Cert_whole_98 : decode prog_2_method_3_code 98 = .ok (.aload_n 0, 1) := fx_dat dk_Cert_whole 49 rfl
theorem d_Cert_whole_99 : decode prog_2_method_3_code 99 = .ok (.iload_n 3, 1) := fx_dat dk_Cert_whole 50 rfl
theorem d_Cert_whole_100 : decode prog_2_method_3_code 100 = .ok (.putfield 48, 3) := fx_dat dk_Cert_whole 51 rfl
theorem d_Cert_whole_103 : decode prog_2_method_3_code 103 = .ok (.aload_n 0, 1) := fx_dat dk_Cert_whole 52 rfl
theorem d_Cert_whole_104 : decode prog_2_method_3_code 104 = .ok (.getfield 10, 3) := fx_dat dk_Cert_whole 53 rfl
theorem d_Cert_whole_107 : decode prog_2_method_3_code 107 = .ok (.iload_n 3, 1) := fx_dat dk_Cert_whole 54 rfl
theorem d_Cert_whole_108 : decode prog_2_method_3_code 108 = .ok (.putfield 106, 3) := fx_dat dk_Cert_whole 55 rfl
theorem d_Cert_whole_111 : decode prog_2_method_3_code 111 = .ok (.aload_n 0, 1) := fx_dat dk_Cert_whole 56 rfl
theorem d_Cert_whole_112 : decode prog_2_method_3_code 112 = .ok (.getfield 10, 3) := fx_dat dk_Cert_whole 57 rfl
theorem d_Cert_whole_115 : decode prog_2_method_3_code 115 = .ok (.iload_n 2, 1) := fx_dat dk_Cert_whole 58 rfl
theorem d_Cert_whole_116 : decode prog_2_method_3_code 116 = .ok (.invokevirtual 132, 3) := fx_dat dk_Cert_whole 59 rfl
theorem d_Cert_whole_119 : decode prog_2_method_3_code 119 = .ok (.aload_n 0, 1) := fx_dat dk_Cert_whole 60 rfl
theorem d_Cert_whole_120 : decode prog_2_method_3_code 120 = .ok (.getfield 10, 3) := fx_dat dk_Cert_whole 61 rfl
theorem d_Cert_whole_123 : decode prog_2_method_3_code 123 = .ok (.iload_n 1, 1) := fx_dat dk_Cert_whole 62 rfl
theorem d_Cert_whole_124 : decode prog_2_method_3_code 124 = .ok (.invokevirtual 132, 3) := fx_dat dk_Cert_whole 63 rfl
theorem d_Cert_whole_127 : decode prog_2_method_3_code 127 = .ok (.aload_n 0, 1) := fx_dat dk_Cert_whole 64 rfl
theorem d_Cert_whole_128 : decode prog_2_method_3_code 128 = .ok (.getfield 54, 3) := fx_dat dk_Cert_whole 65 rfl
theorem d_Cert_whole_131 : decode prog_2_method_3_code 131 = .ok (.aload_n 0, 1) := fx_dat dk_Cert_whole 66 rfl
theorem d_Cert_whole_132 : decode prog_2_method_3_code 132 = .ok (.getfield 98, 3) := fx_dat dk_Cert_whole 67 rfl
theorem d_Cert_whole_135 : decode prog_2_method_3_code 135 = .ok (.if_icmp .eq 7, 3) := fx_dat dk_Cert_whole 68 rfl
theorem d_Cert_whole_138 : decode prog_2_method_3_code 138 = .ok (.invokestatic 128, 3) := fx_dat dk_Cert_whole 69 rfl
theorem d_Cert_whole_141 : decode prog_2_method_3_code 141 = .ok (.athrow, 1) := fx_dat dk_Cert_whole 70 rfl
theorem d_Cert_whole_142 : decode prog_2_method_3_code 142 = .ok (.return_, 1) := fx_dat dk_Cert_whole 71 rfl
def m_Cert_whole_81 (Q : AH → Prop) (E : Nat → AH → Prop) (h : AH) : Prop := m_Rd_bad (fun q1 h1 => fx_ext h h1 → E q1 h1) h
def m_Cert_whole (Q : AH → Prop) (E : Nat → AH → Prop) (r0 : Nat) (x1 : Int32) (h : AH) : Prop := hp_k h r0 = 8 ∧ ∃ b1, hp_R h r0 1 = some b1 ∧ hp_k h b1 = 9 ∧ m_Rd_enter (fun v1 h1 => fx_ext h h1 → ∃ b2, hp_R h1 r0 1 = some b2 ∧ hp_k h1 b2 = 9 ∧ ∀ h2 : AH, h2 = up_I h1 r0 3 (hp_I h1 b2 1) → m_Cert_inside (fun h3 => fx_ext h2 h3 → ∃ b3, hp_R h3 r0 0 = some b3 ∧ ∃ b4, hp_R h3 r0 1 = some b4 ∧ hp_k h3 b3 = 4 ∧ m_KM_ofMark (fun v2 h4 => fx_ext h3 h4 → ∀ h5 : AH, h5 = up_I h4 r0 14 v2 → ∃ b5, hp_R h5 r0 1 = some b5 ∧ hp_k h5 b5 = 9 ∧ m_Rd_enter (fun v3 h6 => fx_ext h5 h6 → ∃ b6, hp_R h6 r0 1 = some b6 ∧ hp_k h6 b6 = 9 ∧ ((hp_I h6 b6 1) = v3 → m_Cert_whole_81 Q E h6) ∧ (¬ (hp_I h6 b6 1) = v3 → ∃ b7, hp_R h6 r0 2 = some b7 ∧ bk (hp_k h6 b7) ∧ vp_in (hp_I h6 b6 1) (hp_n h6 b7) ∧ (by8 (hp_I h6 b7 ((hp_I h6 b6 1)).toNatClampNeg) → ((hp_I h6 b7 ((hp_I h6 b6 1)).toNatClampNeg) = 0 → ∀ h7 : AH, h7 = up_I h6 r0 11 ((hp_I h6 b6 1) + (1 : Int32)) → ∀ h8 : AH, h8 = up_I h7 r0 12 v3 → ∀ h9 : AH, h9 = up_I h8 b6 1 v3 → m_Rd_leave (fun h10 => fx_ext h9 h10 → ∃ b8, hp_R h10 r0 1 = some b8 ∧ hp_k h10 b8 = 9 ∧ m_Rd_leave (fun h11 => fx_ext h10 h11 → ((hp_I h11 r0 14) = (hp_I h11 r0 28) → Q h11) ∧ (¬ (hp_I h11 r0 14) = (hp_I h11 r0 28) → m_Rd_bad (fun q1 h12 => fx_ext h11 h12 → E q1 h12) h11)) (fun a ht => fx_ext h10 ht → E a ht) b8 x1 h10) (fun a ht => fx_ext h9 ht → E a ht) b6 v1 h9) ∧ (¬ (hp_I h6 b7 ((hp_I h6 b6 1)).toNatClampNeg) = 0 → m_Cert_whole_81 Q E h6)))) (fun a ht => fx_ext h5 ht → E a ht) b5 (3 : Int32) v1 h5) (fun a ht => fx_ext h3 ht → E a ht) b3 b4 v1 h3) (fun a ht => fx_ext h2 ht → E a ht) r0 v1 h2) (fun a ht => fx_ext h ht → E a ht) b1 (48 : Int32) x1 h
theorem b_Cert_whole_81 {p : Program} {l : Launch} {e : Env} {R : Room} {s : State} {m : MethodId} {args : Array Value} {below : List Frame} {meth : Method} {c : Code} {D : DD} {h0 : AH} {Q : AH → Prop} {E : Nat → AH → Prop} (C : fx_CX D y_Cert_whole prog_2_method_3_code 4 13 204 (none) [] h0 p R s m meth c) (hl : l.flags = flags0) (h : AH) (hw : m_Cert_whole_81 Q E h) : ∀ (ls : Array Slot) (H : Heap) (locs : List Loc) (cells slots : Nat), lv_has ls 4 [] → fx_F D h0 h H locs cells slots → W p l e R s m args below meth c H locs cells slots (fx_Z D below s h0 (fx_oV Q E)) (F0 m 81 ls []) := by
  unfold m_Cert_whole_81 at hw
  intro ls H locs cells slots hv F
  refine fx_callR C F (c_Rd_bad hl hw) hm_Rd_bad hi_Rd_bad hv.1 (by decide) (Nat.le_of_ble_eq_true rfl) (iv_Rd_bad C F lm_Cert_128 d_Cert_whole_81) (fx_out0 _) fx_eno (fun q1 h1 H locs cells slots hw hx1 F => ?_)
  replace hw := hw hx1
  exact fx_athrow C F (fx_out0 _) d_Cert_whole_84 (Or.inr ⟨_, rfl, hw⟩)
theorem b_Cert_whole_0 {p : Program} {l : Launch} {e : Env} {R : Room} {s : State} {m : MethodId} {args : Array Value} {below : List Frame} {meth : Method} {c : Code} {D : DD} {h0 : AH} {Q : AH → Prop} {E : Nat → AH → Prop} (C : fx_CX D y_Cert_whole prog_2_method_3_code 4 13 204 (none) [] h0 p R s m meth c) (hl : l.flags = flags0) (r0 : Nat) (x1 : Int32) (h : AH) (hw : m_Cert_whole Q E r0 x1 h) : ∀ (ls : Array Slot) (H : Heap) (locs : List Loc) (cells slots : Nat), lv_has ls 4 [(0, .ref r0), (1, .int x1)] → fx_F D h0 h H locs cells slots → W p l e R s m args below meth c H locs cells slots (fx_Z D below s h0 (fx_oV Q E)) (F0 m 0 ls []) := by
  unfold m_Cert_whole at hw
  intro ls H locs cells slots hv F
  refine lv_aload_n C.ex C.by d_Cert_whole_0 rfl (lv_at hv 0 rfl) ?_
  obtain ⟨hk1, hw⟩ := hw
  obtain ⟨b1, hb1, hw⟩ := hw
  refine fx_getR C F lf_Cert_10 hk1 rfl hb1 d_Cert_whole_1 ?_
  refine lv_bipush (v := (48 : Int32)) C.ex C.by d_Cert_whole_4 (by decide) ?_
  refine lv_iload_n C.ex C.by d_Cert_whole_6 rfl (lv_at hv 1 rfl) ?_
  obtain ⟨hk2, hw⟩ := hw
  refine fx_callI C F (c_Rd_enter hl hw) hm_Rd_enter hi_Rd_enter hv.1 (by decide) (Nat.le_of_ble_eq_true rfl) (iv_Rd_enter C F lm_Cert_115 hk2 d_Cert_whole_7) (fx_out0 _) (fun _ _ hE hx => Or.inr ⟨_, rfl, hE hx⟩) (fun v1 h1 H locs cells slots hw hx1 F => ?_)
  replace hw := hw hx1
  have hk2 := (hx1).k hk2
  have hk1 := (hx1).k hk1
  refine lv_istore_n (lv' := [(2, .int v1), (0, .ref r0), (1, .int x1)]) C.ex C.by d_Cert_whole_10 rfl hv (by decide) rfl (fun ls hv => ?_)
  refine lv_aload_n C.ex C.by d_Cert_whole_11 rfl (lv_at hv 1 rfl) ?_
  refine lv_aload_n C.ex C.by d_Cert_whole_12 rfl (lv_at hv 1 rfl) ?_
  obtain ⟨b2, hb2, hw⟩ := hw
  refine fx_getR C F lf_Cert_10 hk1 rfl hb2 d_Cert_whole_13 ?_
  obtain ⟨hk3, hw⟩ := hw
  refine fx_getI C F lf_Cert_106 hk3 rfl d_Cert_whole_16 ?_
  let h2 : AH := up_I h1 r0 3 (hp_I h1 b2 1)
  replace hw := hw h2 rfl
  refine fx_putI C F lf_Cert_20 hk1 rfl rfl (fx_mayF.no rfl rfl) d_Cert_whole_19 (fun H locs (F : fx_F D h0 h2 H locs _ _) => ?_)
  refine lv_aload_n C.ex C.by d_Cert_whole_22 rfl (lv_at hv 1 rfl) ?_
  refine lv_iload_n C.ex C.by d_Cert_whole_23 rfl (lv_at hv 0 rfl) ?_
  refine fx_callV C F (c_Cert_inside hl hw) hm_Cert_inside hi_Cert_inside hv.1 (by decide) (Nat.le_of_ble_eq_true rfl) (iv_Cert_inside C F lm_Cert_119 hk1 d_Cert_whole_24) (fx_out0 _) (fun _ _ hE hx => Or.inr ⟨_, rfl, hE hx⟩) (fun h3 H locs cells slots hw hx2 F => ?_)
  replace hw := hw hx2
  have hk2 := (hx2).k hk2
  have hk3 := (hx2).k hk3
  have hk1 := (hx2).k hk1
  refine lv_aload_n C.ex C.by d_Cert_whole_27 rfl (lv_at hv 1 rfl) ?_
  refine lv_aload_n C.ex C.by d_Cert_whole_28 rfl (lv_at hv 1 rfl) ?_
  obtain ⟨b3, hb3, hw⟩ := hw
  refine fx_getR C F lf_Cert_101 hk1 rfl hb3 d_Cert_whole_29 ?_
  refine lv_aload_n C.ex C.by d_Cert_whole_32 rfl (lv_at hv 1 rfl) ?_
  obtain ⟨b4, hb4, hw⟩ := hw
  refine fx_getR C F lf_Cert_10 hk1 rfl hb4 d_Cert_whole_33 ?_
  refine lv_iload_n C.ex C.by d_Cert_whole_36 rfl (lv_at hv 0 rfl) ?_
  obtain ⟨hk4, hw⟩ := hw
  refine fx_callI C F (c_KM_ofMark hl hw) hm_KM_ofMark hi_KM_ofMark hv.1 (by decide) (Nat.le_of_ble_eq_true rfl) (iv_KM_ofMark_f C F lm_Cert_122 hk4 d_Cert_whole_37) (fx_out0 _) (fun _ _ hE hx => Or.inr ⟨_, rfl, hE hx⟩) (fun v2 h4 H locs cells slots hw hx3 F => ?_)
  replace hw := hw hx3
  have hk2 := (hx3).k hk2
  have hk3 := (hx3).k hk3
  have hk4 := (hx3).k hk4
  have hk1 := (hx3).k hk1
  let h5 : AH := up_I h4 r0 14 v2
  replace hw := hw h5 rfl
  refine fx_putI C F lf_Cert_54 hk1 rfl rfl (fx_mayF.no rfl rfl) d_Cert_whole_42 (fun H locs (F : fx_F D h0 h5 H locs _ _) => ?_)
  refine lv_aload_n C.ex C.by d_Cert_whole_45 rfl (lv_at hv 1 rfl) ?_
  obtain ⟨b5, hb5, hw⟩ := hw
  refine fx_getR C F lf_Cert_10 hk1 rfl hb5 d_Cert_whole_46 ?_
  refine lv_iconst (v := (3 : Int32)) C.ex C.by d_Cert_whole_49 (by decide) ?_
  refine lv_iload_n C.ex C.by d_Cert_whole_50 rfl (lv_at hv 0 rfl) ?_
  obtain ⟨hk5, hw⟩ := hw
  refine fx_callI C F (c_Rd_enter hl hw) hm_Rd_enter hi_Rd_enter hv.1 (by decide) (Nat.le_of_ble_eq_true rfl) (iv_Rd_enter C F lm_Cert_115 hk5 d_Cert_whole_51) (fx_out0 _) (fun _ _ hE hx => Or.inr ⟨_, rfl, hE hx⟩) (fun v3 h6 H locs cells slots hw hx4 F => ?_)
  replace hw := hw hx4
  have hk2 := (hx4).k hk2
  have hk3 := (hx4).k hk3
  have hk4 := (hx4).k hk4
  have hk5 := (hx4).k hk5
  have hk1 := (hx4).k hk1
  refine lv_istore_n (lv' := [(3, .int v3), (2, .int v1), (0, .ref r0), (1, .int x1)]) C.ex C.by d_Cert_whole_54 rfl hv (by decide) rfl (fun ls hv => ?_)
  refine lv_aload_n C.ex C.by d_Cert_whole_55 rfl (lv_at hv 2 rfl) ?_
  obtain ⟨b6, hb6, hw⟩ := hw
  refine fx_getR C F lf_Cert_10 hk1 rfl hb6 d_Cert_whole_56 ?_
  obtain ⟨hk6, hw⟩ := hw
  refine fx_getI C F lf_Cert_106 hk6 rfl d_Cert_whole_59 ?_
  refine lv_iload_n C.ex C.by d_Cert_whole_62 rfl (lv_at hv 0 rfl) ?_
  refine lv_icmp_eq C.ex C.by d_Cert_whole_63 rfl (fun hc => ?_) (fun hc => ?_)
  · replace hw := hw.1 hc
    exact b_Cert_whole_81 C hl _ hw _ _ _ _ _ (lv_sub hv [] rfl) F
  · replace hw := hw.2 hc
    refine lv_aload_n C.ex C.by d_Cert_whole_66 rfl (lv_at hv 2 rfl) ?_
    obtain ⟨b7, hb7, hw⟩ := hw
    refine fx_getR C F lf_Cert_16 hk1 rfl hb7 d_Cert_whole_67 ?_
    refine lv_aload_n C.ex C.by d_Cert_whole_70 rfl (lv_at hv 2 rfl) ?_
    refine fx_getR C F lf_Cert_10 hk1 rfl hb6 d_Cert_whole_71 ?_
    refine fx_getI C F lf_Cert_106 hk6 rfl d_Cert_whole_74 ?_
    obtain ⟨hk7, hw⟩ := hw
    obtain ⟨hi1, hw⟩ := hw
    refine fx_bald C F hk7 hi1 d_Cert_whole_77 (fun h8 => ?_)
    replace hw := hw h8
    refine lv_if_eq C.ex C.by d_Cert_whole_78 rfl (fun hc => ?_) (fun hc => ?_)
    · replace hw := hw.1 hc
      refine lv_aload_n C.ex C.by d_Cert_whole_85 rfl (lv_at hv 2 rfl) ?_
      refine lv_aload_n C.ex C.by d_Cert_whole_86 rfl (lv_at hv 2 rfl) ?_
      refine fx_getR C F lf_Cert_10 hk1 rfl hb6 d_Cert_whole_87 ?_
      refine fx_getI C F lf_Cert_106 hk6 rfl d_Cert_whole_90 ?_
      refine lv_iconst (v := (1 : Int32)) C.ex C.by d_Cert_whole_93 (by decide) ?_
      refine lv_iadd C.ex C.by d_Cert_whole_94 ?_
      let h7 : AH := up_I h6 r0 11 ((hp_I h6 b6 1) + (1 : Int32))
      replace hw := hw h7 rfl
      refine fx_putI C F lf_Cert_45 hk1 rfl rfl (fx_mayF.no rfl rfl) d_Cert_whole_95 (fun H locs (F : fx_F D h0 h7 H locs _ _) => ?_)
      refine lv_aload_n C.ex C.by d_Cert_whole_98 rfl (lv_at hv 2 rfl) ?_
      refine lv_iload_n C.ex C.by d_Cert_whole_99 rfl (lv_at hv 0 rfl) ?_
      let h8 : AH := up_I h7 r0 12 v3
      replace hw := hw h8 rfl
      refine fx_putI C F lf_Cert_48 hk1 rfl rfl (fx_mayF.no rfl rfl) d_Cert_whole_100 (fun H locs (F : fx_F D h0 h8 H locs _ _) => ?_)
      refine lv_aload_n C.ex C.by d_Cert_whole_103 rfl (lv_at hv 2 rfl) ?_
      refine fx_getR C F lf_Cert_10 hk1 rfl hb6 d_Cert_whole_104 ?_
      refine lv_iload_n C.ex C.by d_Cert_whole_107 rfl (lv_at hv 0 rfl) ?_
      let h9 : AH := up_I h8 b6 1 v3
      replace hw := hw h9 rfl
      refine fx_putI C F lf_Cert_106 hk6 rfl rfl (fx_mayF.no rfl rfl) d_Cert_whole_108 (fun H locs (F : fx_F D h0 h9 H locs _ _) => ?_)
      refine lv_aload_n C.ex C.by d_Cert_whole_111 rfl (lv_at hv 2 rfl) ?_
      refine fx_getR C F lf_Cert_10 hk1 rfl hb6 d_Cert_whole_112 ?_
      refine lv_iload_n C.ex C.by d_Cert_whole_115 rfl (lv_at hv 1 rfl) ?_
      refine fx_callV C F (c_Rd_leave hl hw) hm_Rd_leave hi_Rd_leave hv.1 (by decide) (Nat.le_of_ble_eq_true rfl) (iv_Rd_leave C F lm_Cert_132 hk6 d_Cert_whole_116) (fx_out0 _) (fun _ _ hE hx => Or.inr ⟨_, rfl, hE hx⟩) (fun h10 H locs cells slots hw hx5 F => ?_)
      replace hw := hw hx5
      have hk2 := (hx5).k hk2
      have hk3 := (hx5).k hk3
      have hk4 := (hx5).k hk4
      have hk5 := (hx5).k hk5
      have hk6 := (hx5).k hk6
      have hk7 := (hx5).gb hk7
      have hk1 := (hx5).k hk1
      refine lv_aload_n C.ex C.by d_Cert_whole_119 rfl (lv_at hv 2 rfl) ?_
      obtain ⟨b8, hb8, hw⟩ := hw
      refine fx_getR C F lf_Cert_10 hk1 rfl hb8 d_Cert_whole_120 ?_
      refine lv_iload_n C.ex C.by d_Cert_whole_123 rfl (lv_at hv 3 rfl) ?_
      obtain ⟨hk8, hw⟩ := hw
      refine fx_callV C F (c_Rd_leave hl hw) hm_Rd_leave hi_Rd_leave hv.1 (by decide) (Nat.le_of_ble_eq_true rfl) (iv_Rd_leave C F lm_Cert_132 hk8 d_Cert_whole_124) (fx_out0 _) (fun _ _ hE hx => Or.inr ⟨_, rfl, hE hx⟩) (fun h11 H locs cells slots hw hx6 F => ?_)
      replace hw := hw hx6
      have hk2 := (hx6).k hk2
      have hk3 := (hx6).k hk3
      have hk4 := (hx6).k hk4
      have hk5 := (hx6).k hk5
      have hk6 := (hx6).k hk6
      have hk7 := (hx6).gb hk7
      have hk8 := (hx6).k hk8
      have hk1 := (hx6).k hk1
      refine lv_aload_n C.ex C.by d_Cert_whole_127 rfl (lv_at hv 2 rfl) ?_
      refine fx_getI C F lf_Cert_54 hk1 rfl d_Cert_whole_128 ?_
      refine lv_aload_n C.ex C.by d_Cert_whole_131 rfl (lv_at hv 2 rfl) ?_
      refine fx_getI C F lf_Cert_98 hk1 rfl d_Cert_whole_132 ?_
      refine lv_icmp_eq C.ex C.by d_Cert_whole_135 rfl (fun hc => ?_) (fun hc => ?_)
      · replace hw := hw.1 hc
        exact fx_vret C F d_Cert_whole_142 (Or.inl ⟨rfl, hw⟩)
      · replace hw := hw.2 hc
        refine fx_callR C F (c_Rd_bad hl hw) hm_Rd_bad hi_Rd_bad hv.1 (by decide) (Nat.le_of_ble_eq_true rfl) (iv_Rd_bad C F lm_Cert_128 d_Cert_whole_138) (fx_out0 _) fx_eno (fun q1 h12 H locs cells slots hw hx7 F => ?_)
        replace hw := hw hx7
        have hk2 := (hx7).k hk2
        have hk3 := (hx7).k hk3
        have hk4 := (hx7).k hk4
        have hk5 := (hx7).k hk5
        have hk6 := (hx7).k hk6
        have hk7 := (hx7).gb hk7
        have hk8 := (hx7).k hk8
        have hk1 := (hx7).k hk1
        exact fx_athrow C F (fx_out0 _) d_Cert_whole_141 (Or.inr ⟨_, rfl, hw⟩)
    · replace hw := hw.2 hc
      exact b_Cert_whole_81 C hl _ hw _ _ _ _ _ (lv_sub hv [] rfl) F
theorem hm_Cert_whole : fx_hd y_Cert_whole prog_2_method_3_code 4 (none) [] ∈ tables_1 := (fx_m3 (List.mem_of_getElem? (i := 121) rfl))
theorem hi_Cert_whole : Cond.initialized y_Cert_whole.cls ∈ tables_1 := (fx_m1 (List.mem_of_getElem? (i := 11) rfl))
theorem c_Cert_whole {l : Launch} (hl : l.flags = flags0) {D : DD} {Q : AH → Prop} {E : Nat → AH → Prop} {r0 : Nat} {x1 : Int32} {h : AH} (hw : m_Cert_whole Q E r0 x1 h) : fx_Mt l D y_Cert_whole (fx_hd y_Cert_whole prog_2_method_3_code 4 (none) []) 13 204 [.ref r0, .int x1] h (fx_oV Q E) := by
  refine fx_ofW (plainFor_of_name (by decide)) (fun p e s m below meth c C F => ?_)
  have hv := lv_entry ([.ref r0, .int x1]) (n := 4) (Nat.le_of_ble_eq_true rfl)
  rw [lg_entry_eq]
  generalize (lg_sl ([.ref r0, .int x1]) ++ List.replicate (4 - (lg_sl ([.ref r0, .int x1])).length) Slot.unset).toArray = ls at hv ⊢
  have hv : lv_has ls 4 [(0, .ref r0), (1, .int x1)] := hv
  exact b_Cert_whole_0 C hl _ _ _ hw _ _ _ _ _ hv F
/-! ChainJudge$Certificate.parse([BII)Z: frames 14, words 219 -/
abbrev y_Cert_parse : MethodName := ⟨"ChainJudge$Certificate", "parse", "([BII)Z"⟩
theorem lf_Cert_105 : fx_Lk "ChainJudge$Certificate" 105 8 0 := fx_Lk.mk (C := "ChainJudge$Reader") (T := fx_T8) (N := 2) rfl (by decide) (by decide) (fx_m1 (List.mem_of_getElem? (i := 209) rfl))
theorem lm_Cert_109 : Cond.methodLink "ChainJudge$Certificate" 109 y_Cert_whole ∈ tables_1 ∨ ∃ host, Cond.methodLinkNest "ChainJudge$Certificate" 109 y_Cert_whole host ∈ tables_1 := Or.inl (fx_m3 (List.mem_of_getElem? (i := 118) rfl))
section
variable {p : Program} {l : Launch} {e : Env} {R : Room} {s : State} {m : MethodId} {args : Array Value} {below : List Frame} {meth : Method} {c : Code} {H : Heap} {locs : List Loc} {cells slots : Nat}
variable {D : DD} {y : MethodName} {cc : ByteArray} {nL kf kw : Nat} {ret : Option FieldType} {hh : List (Nat × Nat × Nat × Nat)} {h0 h : AH} {pc : Nat} {ls : Array Slot} {rest : List Value} {b idx : Nat}
theorem iv_Cert_whole {x1 : Int32} (C : fx_CX D y cc nL kf kw ret hh h0 p R s m meth c) (F : fx_F D h0 h H locs cells slots) (hw1 : Cond.methodLink y.cls idx y_Cert_whole ∈ tables_1 ∨ ∃ host, Cond.methodLinkNest y.cls idx y_Cert_whole host ∈ tables_1) (hk : hp_k h b = 8) (hd : decode cc pc = .ok (.invokevirtual idx, 3)) : fx_IV p l e R s m args below meth c H locs cells slots (F0 m pc ls (.int x1 :: .ref b :: rest)) rest y_Cert_whole [.ref b, .int x1] 3 := fun T hT X => fx_invV (As := [.int x1]) (Cn := "ChainJudge$Certificate") C X hw1 (fx_m3 (List.mem_of_getElem? (i := 120) rfl)) (fx_selP C ⟨by decide, by decide⟩ (fx_m1 (List.mem_of_getElem? (i := 197) rfl)) (fx_m3 (List.mem_of_getElem? (i := 119) rfl)) (fx_m3 (List.mem_of_getElem? (i := 120) rfl))) hm_Cert_whole ⟨by decide, by decide⟩ (by rw [hT]; exact fx_clsO (ci := 7) (r := ("ChainJudge$Certificate", fx_T7, 29)) C F rfl (by decide) hk) rfl (n := 1) (by decide +kernel) rfl rfl hd
end
def dl_Cert_parse : List (Nat × Instr × Nat) := [(0, .aload_n 0, 1), (1, .aload_n 1, 1), (2, .putfield 16, 3), (5, .aload_n 0, 1), (6, .getfield 10, 3), (9, .aload_n 1, 1), (10, .putfield 105, 3), (13, .aload_n 0, 1), (14, .getfield 10, 3), (17, .iload_n 2, 1), (18, .putfield 106, 3), (21, .aload_n 0, 1), (22, .iload_n 2, 1), (23, .iload_n 3, 1), (24, .iadd, 1), (25, .invokevirtual 109, 3), (28, .goto 7, 3), (31, .astore 4, 2), (33, .iconst 0, 1), (34, .ireturn, 1), (35, .iconst 1, 1), (36, .ireturn, 1)]
theorem dk_Cert_parse : fx_dec prog_2_method_2_code dl_Cert_parse = true := by decide +kernel
theorem d_Cert_parse_0 : decode prog_2_method_2_code 0 = .ok (.aload_n 0, 1) := fx_dat dk_Cert_parse 0 rfl
theorem d_Cert_parse_1 : decode prog_2_method_2_code 1 = .ok (.aload_n 1, 1) := fx_dat dk_Cert_parse 1 rfl
theorem d_Cert_parse_2 : decode prog_2_method_2_code 2 = .ok (.putfield 16, 3) := fx_dat dk_Cert_parse 2 rfl
theorem d_Cert_parse_5 : decode prog_2_method_2_code 5 = .ok (.aload_n 0, 1) := fx_dat dk_Cert_parse 3 rfl
theorem d_Cert_parse_6 : decode prog_2_method_2_code 6 = .ok (.getfield 10, 3) := fx_dat dk_Cert_parse 4 rfl
theorem d_Cert_parse_9 : decode prog_2_method_2_code 9 = .ok (.aload_n 1, 1) := fx_dat dk_Cert_parse 5 rfl
theorem d_Cert_parse_10 : decode prog_2_method_2_code 10 = .ok (.putfield 105, 3) := fx_dat dk_Cert_parse 6 rfl
theorem d_Cert_parse_13 : decode prog_2_method_2_code 13 = .ok (.aload_n 0, 1) := fx_dat dk_Cert_parse 7 rfl
theorem d_Cert_parse_14 : decode prog_2_method_2_code 14 = .ok (.getfield 10, 3) := fx_dat dk_Cert_parse 8 rfl
theorem d_Cert_parse_17 : decode prog_2_method_2_code 17 = .ok (.iload_n 2, 1) := fx_dat dk_Cert_parse 9 rfl
theorem d_Cert_parse_18 : decode prog_2_method_2_code 18 = .ok (.putfield 106, 3) := fx_dat dk_Cert_parse 10 rfl
theorem d_Cert_parse_21 : decode prog_2_method_2_code 21 = .ok (.aload_n 0, 1) := fx_dat dk_Cert_parse 11 rfl
theorem d_Cert_parse_22 : decode prog_2_method_2_code 22 = .ok (.iload_n 2, 1) := fx_dat dk_Cert_parse 12 rfl
theorem d_Cert_parse_23 : decode prog_2_method_2_code 23 = .ok (.iload_n 3, 1) := fx_dat dk_Cert_parse 13 rfl
theorem d_Cert_parse_24 : decode prog_2_method_2_code 24 = .ok (.iadd, 1) := fx_dat dk_Cert_parse 14 rfl
theorem d_Cert_parse_25 : decode prog_2_method_2_code 25 = .ok (.invokevirtual 109, 3) := fx_dat dk_Cert_parse 15 rfl
theorem d_Cert_parse_28 : decode prog_2_method_2_code 28 = .ok (.goto 7, 3) := fx_dat dk_Cert_parse 16 rfl
theorem d_Cert_parse_31 : decode prog_2_method_2_code 31 = .ok (.astore 4, 2) := fx_dat dk_Cert_parse 17 rfl
theorem d_Cert_parse_33 : decode prog_2_method_2_code 33 = .ok (.iconst 0, 1) := fx_dat dk_Cert_parse 18 rfl
theorem d_Cert_parse_34 : decode prog_2_method_2_code 34 = .ok (.ireturn, 1) := fx_dat dk_Cert_parse 19 rfl
theorem d_Cert_parse_35 : decode prog_2_method_2_code 35 = .ok (.iconst 1, 1) := fx_dat dk_Cert_parse 20 rfl
theorem d_Cert_parse_36 : decode prog_2_method_2_code 36 = .ok (.ireturn, 1) := fx_dat dk_Cert_parse 21 rfl
def m_Cert_parse (Q : Int32 → AH → Prop) (r0 : Nat) (r1 : Nat) (x2 : Int32) (x3 : Int32) (h : AH) : Prop := hp_k h r0 = 8 ∧ ∀ h1 : AH, h1 = up_R h r0 2 (some r1) → ∃ b1, hp_R h1 r0 1 = some b1 ∧ hp_k h1 b1 = 9 ∧ ∀ h2 : AH, h2 = up_R h1 b1 0 (some r1) → ∃ b2, hp_R h2 r0 1 = some b2 ∧ hp_k h2 b2 = 9 ∧ ∀ h3 : AH, h3 = up_I h2 b2 1 x2 → m_Cert_whole (fun h4 => fx_ext h3 h4 → Q (1 : Int32) h4) (fun q1 h5 => fx_ext h3 h5 → (hp_k h5 q1 = 14 ∧ Q (0 : Int32) h5)) r0 (x2 + x3) h3
theorem b_Cert_parse_0 {p : Program} {l : Launch} {e : Env} {R : Room} {s : State} {m : MethodId} {args : Array Value} {below : List Frame} {meth : Method} {c : Code} {D : DD} {h0 : AH} {Q : Int32 → AH → Prop} (C : fx_CX D y_Cert_parse prog_2_method_2_code 5 14 219 (Option.some FieldType.boolean) [(21, 28, 31, 113)] h0 p R s m meth c) (hl : l.flags = flags0) (r0 : Nat) (r1 : Nat) (x2 : Int32) (x3 : Int32) (h : AH) (hw : m_Cert_parse Q r0 r1 x2 x3 h) : ∀ (ls : Array Slot) (H : Heap) (locs : List Loc) (cells slots : Nat), lv_has ls 5 [(0, .ref r0), (1, .ref r1), (2, .int x2), (3, .int x3)] → fx_F D h0 h H locs cells slots → W p l e R s m args below meth c H locs cells slots (fx_Z D below s h0 (fx_oZ Q fx_no)) (F0 m 0 ls []) := by
  unfold m_Cert_parse at hw
  intro ls H locs cells slots hv F
  refine lv_aload_n C.ex C.by d_Cert_parse_0 rfl (lv_at hv 0 rfl) ?_
  refine lv_aload_n C.ex C.by d_Cert_parse_1 rfl (lv_at hv 1 rfl) ?_
  obtain ⟨hk1, hw⟩ := hw
  let h1 : AH := up_R h r0 2 (some r1)
  replace hw := hw h1 rfl
  refine fx_putR C F lf_Cert_16 hk1 rfl rfl (fx_mayF.no rfl rfl) d_Cert_parse_2 (fun H locs (F : fx_F D h0 h1 H locs _ _) => ?_)
  refine lv_aload_n C.ex C.by d_Cert_parse_5 rfl (lv_at hv 0 rfl) ?_
  obtain ⟨b1, hb1, hw⟩ := hw
  refine fx_getR C F lf_Cert_10 hk1 rfl hb1 d_Cert_parse_6 ?_
  refine lv_aload_n C.ex C.by d_Cert_parse_9 rfl (lv_at hv 1 rfl) ?_
  obtain ⟨hk2, hw⟩ := hw
  let h2 : AH := up_R h1 b1 0 (some r1)
  replace hw := hw h2 rfl
  refine fx_putR C F lf_Cert_105 hk2 rfl rfl (fx_mayF.no rfl rfl) d_Cert_parse_10 (fun H locs (F : fx_F D h0 h2 H locs _ _) => ?_)
  refine lv_aload_n C.ex C.by d_Cert_parse_13 rfl (lv_at hv 0 rfl) ?_
  obtain ⟨b2, hb2, hw⟩ := hw
  refine fx_getR C F lf_Cert_10 hk1 rfl hb2 d_Cert_parse_14 ?_
  refine lv_iload_n C.ex C.by d_Cert_parse_17 rfl (lv_at hv 2 rfl) ?_
  obtain ⟨hk3, hw⟩ := hw
  let h3 : AH := up_I h2 b2 1 x2
  replace hw := hw h3 rfl
  refine fx_putI C F lf_Cert_106 hk3 rfl rfl (fx_mayF.no rfl rfl) d_Cert_parse_18 (fun H locs (F : fx_F D h0 h3 H locs _ _) => ?_)
  refine lv_aload_n C.ex C.by d_Cert_parse_21 rfl (lv_at hv 0 rfl) ?_
  refine lv_iload_n C.ex C.by d_Cert_parse_22 rfl (lv_at hv 2 rfl) ?_
  refine lv_iload_n C.ex C.by d_Cert_parse_23 rfl (lv_at hv 3 rfl) ?_
  refine lv_iadd C.ex C.by d_Cert_parse_24 ?_
  refine fx_callVc C F (c_Cert_whole hl hw) hm_Cert_whole hi_Cert_whole hv.1 (by decide) (Nat.le_of_ble_eq_true rfl) (iv_Cert_whole C F lm_Cert_109 hk1 d_Cert_parse_25) (fun h4 H locs cells slots hw hx1 F => ?_) (fun q1 h5 T locs cells slots hw hx1 F X => ?_)
  · replace hw := hw hx1
    have hk2 := (hx1).k hk2
    have hk3 := (hx1).k hk3
    have hk1 := (hx1).k hk1
    refine lv_goto C.ex C.by d_Cert_parse_28 rfl ?_
    refine lv_iconst (v := (1 : Int32)) C.ex C.by d_Cert_parse_35 (by decide) ?_
    exact fx_zret C F d_Cert_parse_36 (Or.inr rfl) (Or.inl ⟨_, rfl, Or.inr rfl, hw⟩)
  · replace hw := hw hx1
    rcases hw with ⟨hk9, hw⟩
    · have hp0 : ∀ q ∈ ([] : List ((Nat × Nat × Nat × Nat) × String)), fx_passes "ChainJudge$Certificate" "java/lang/IllegalArgumentException" 25 q := by
        intro q hq
        cases hq
      refine fx_caught (ci := 13) (r := ("java/lang/IllegalArgumentException", fx_T13, 0)) C F X rfl (by decide) hk9 [] (21, 28, 31, 113) [] "java/lang/IllegalArgumentException" rfl hp0 rfl (by decide) (fx_m3 (List.mem_of_getElem? (i := 117) rfl)) (fx_m3 (List.mem_of_getElem? (i := 38) rfl)) (fun H locs cells slots F => ?_)
      have hk2 := (hx1).k hk2
      have hk3 := (hx1).k hk3
      have hk1 := (hx1).k hk1
      refine lv_astore (lv' := [(4, .ref q1), (0, .ref r0), (1, .ref r1), (2, .int x2), (3, .int x3)]) C.ex C.by d_Cert_parse_31 hv (by decide) rfl (fun ls hv => ?_)
      refine lv_iconst (v := (0 : Int32)) C.ex C.by d_Cert_parse_33 (by decide) ?_
      exact fx_zret C F d_Cert_parse_34 (Or.inl rfl) (Or.inl ⟨_, rfl, Or.inl rfl, hw⟩)
theorem hm_Cert_parse : fx_hd y_Cert_parse prog_2_method_2_code 5 (Option.some FieldType.boolean) [(21, 28, 31, 113)] ∈ tables_1 := (fx_m3 (List.mem_of_getElem? (i := 116) rfl))
theorem hi_Cert_parse : Cond.initialized y_Cert_parse.cls ∈ tables_1 := (fx_m1 (List.mem_of_getElem? (i := 11) rfl))
theorem c_Cert_parse {l : Launch} (hl : l.flags = flags0) {D : DD} {Q : Int32 → AH → Prop} {r0 : Nat} {r1 : Nat} {x2 : Int32} {x3 : Int32} {h : AH} (hw : m_Cert_parse Q r0 r1 x2 x3 h) : fx_Mt l D y_Cert_parse (fx_hd y_Cert_parse prog_2_method_2_code 5 (Option.some FieldType.boolean) [(21, 28, 31, 113)]) 14 219 [.ref r0, .ref r1, .int x2, .int x3] h (fx_oZ Q fx_no) := by
  refine fx_ofW (plainFor_of_name (by decide)) (fun p e s m below meth c C F => ?_)
  have hv := lv_entry ([.ref r0, .ref r1, .int x2, .int x3]) (n := 5) (Nat.le_of_ble_eq_true rfl)
  rw [lg_entry_eq]
  generalize (lg_sl ([.ref r0, .ref r1, .int x2, .int x3]) ++ List.replicate (5 - (lg_sl ([.ref r0, .ref r1, .int x2, .int x3])).length) Slot.unset).toArray = ls at hv ⊢
  have hv : lv_has ls 5 [(0, .ref r0), (1, .ref r1), (2, .int x2), (3, .int x3)] := hv
  exact b_Cert_parse_0 C hl _ _ _ _ _ hw _ _ _ _ _ hv F
