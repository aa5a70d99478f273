set_option maxRecDepth 10000
/-! ChainJudge$Certificate.names(I)I: frames 9, words 124, throws -/
abbrev y_Cert_names : MethodName := ⟨"ChainJudge$Certificate", "names", "(I)I"⟩
theorem lf_Cert_106 : fx_Lk "ChainJudge$Certificate" 106 8 1 := fx_Lk.mk (C := "ChainJudge$Reader") (T := fx_T8) (N := 2) rfl (by decide) (by decide) (fx_m1 (List.mem_of_getElem? (i := 211) rfl))
theorem lm_Cert_115 : Cond.methodLink "ChainJudge$Certificate" 115 y_Rd_enter ∈ tables_1 ∨ ∃ host, Cond.methodLinkNest "ChainJudge$Certificate" 115 y_Rd_enter host ∈ tables_1 := Or.inl (fx_m3 (List.mem_of_getElem? (i := 122) rfl))
theorem lm_Cert_128 : Cond.methodLink "ChainJudge$Certificate" 128 y_Rd_bad ∈ tables_1 ∨ ∃ host, Cond.methodLinkNest "ChainJudge$Certificate" 128 y_Rd_bad host ∈ tables_1 := Or.inl (fx_m3 (List.mem_of_getElem? (i := 142) rfl))
theorem lm_Cert_132 : Cond.methodLink "ChainJudge$Certificate" 132 y_Rd_leave ∈ tables_1 ∨ ∃ host, Cond.methodLinkNest "ChainJudge$Certificate" 132 y_Rd_leave host ∈ tables_1 := Or.inl (fx_m3 (List.mem_of_getElem? (i := 143) rfl))
theorem lm_Cert_152 : Cond.methodLink "ChainJudge$Certificate" 152 y_Rd_oid ∈ tables_1 ∨ ∃ host, Cond.methodLinkNest "ChainJudge$Certificate" 152 y_Rd_oid host ∈ tables_1 := Or.inl (fx_m3 (List.mem_of_getElem? (i := 179) rfl))
theorem lm_Cert_155 : Cond.methodLink "ChainJudge$Certificate" 155 y_Rd_tag ∈ tables_1 ∨ ∃ host, Cond.methodLinkNest "ChainJudge$Certificate" 155 y_Rd_tag host ∈ tables_1 := Or.inl (fx_m3 (List.mem_of_getElem? (i := 180) rfl))
theorem lm_Cert_158 : Cond.methodLink "ChainJudge$Certificate" 158 y_Rd_skip ∈ tables_1 ∨ ∃ host, Cond.methodLinkNest "ChainJudge$Certificate" 158 y_Rd_skip host ∈ tables_1 := Or.inl (fx_m3 (List.mem_of_getElem? (i := 181) rfl))
section
variable {p : Program} {l : Launch} {e : Env} {R : Room} {s : State} {m : MethodId} {args : Array Value} {below : List Frame} {meth : Method} {c : Code} {H : Heap} {locs : List Loc} {cells slots : Nat}
variable {D : DD} {y : MethodName} {cc : ByteArray} {nL kf kw : Nat} {ret : Option FieldType} {hh : List (Nat × Nat × Nat × Nat)} {h0 h : AH} {pc : Nat} {ls : Array Slot} {rest : List Value} {b idx : Nat}
theorem iv_Rd_skip {x1 : Int32} {x2 : Int32} (C : fx_CX D y cc nL kf kw ret hh h0 p R s m meth c) (F : fx_F D h0 h H locs cells slots) (hw1 : Cond.methodLink y.cls idx y_Rd_skip ∈ tables_1 ∨ ∃ host, Cond.methodLinkNest y.cls idx y_Rd_skip host ∈ tables_1) (hk : hp_k h b = 9) (hd : decode cc pc = .ok (.invokevirtual idx, 3)) : fx_IV p l e R s m args below meth c H locs cells slots (F0 m pc ls (.int x2 :: .int x1 :: .ref b :: rest)) rest y_Rd_skip [.ref b, .int x1, .int x2] 3 := fun T hT X => fx_invV (As := [.int x1, .int x2]) (Cn := "ChainJudge$Reader") C X hw1 (fx_m3 (List.mem_of_getElem? (i := 182) rfl)) (fx_selW C (fx_m3 (List.mem_of_getElem? (i := 183) rfl))) hm_Rd_skip ⟨by decide, by decide⟩ (by rw [hT]; exact fx_clsO (ci := 8) (r := ("ChainJudge$Reader", fx_T8, 2)) C F rfl (by decide) hk) rfl (n := 2) (by decide +kernel) rfl rfl hd
end
def dl_Cert_names : List (Nat × Instr × Nat) := [(0, .aload_n 0, 1), (1, .getfield 10, 3), (4, .bipush 48, 2), (6, .iload_n 1, 1), (7, .invokevirtual 115, 3), (10, .istore_n 2, 1), (11, .iconst 0, 1), (12, .istore_n 3, 1), (13, .aload_n 0, 1), (14, .getfield 10, 3), (17, .getfield 106, 3), (20, .iload_n 2, 1), (21, .if_icmp .ge 127, 3), (24, .aload_n 0, 1), (25, .getfield 10, 3), (28, .bipush 49, 2), (30, .iload_n 2, 1), (31, .invokevirtual 115, 3), (34, .istore 4, 2), (36, .aload_n 0, 1), (37, .getfield 10, 3), (40, .bipush 48, 2), (42, .iload 4, 2), (44, .invokevirtual 115, 3), (47, .istore 5, 2), (49, .aload_n 0, 1), (50, .getfield 10, 3), (53, .iload 5, 2), (55, .invokevirtual 152, 3), (58, .pop, 1), (59, .aload_n 0, 1), (60, .getfield 10, 3), (63, .aload_n 0, 1), (64, .getfield 10, 3), (67, .iload 5, 2), (69, .invokevirtual 155, 3), (72, .bipush 19, 2), (74, .if_icmp .ne 8, 3), (77, .bipush 19, 2), (79, .goto 5, 3), (82, .bipush 12, 2), (84, .iload 5, 2), (86, .invokevirtual 158, 3), (89, .istore 6, 2), (91, .aload_n 0, 1), (92, .getfield 10, 3), (95, .getfield 106, 3), (98, .iload 6, 2), (100, .isub, 1), (101, .iconst 1, 1), (102, .if_icmp .lt 18, 3), (105, .aload_n 0, 1), (106, .getfield 10, 3), (109, .getfield 106, 3), (112, .iload 6, 2), (114, .isub, 1), (115, .bipush 64, 2), (117, .if_icmp .le 7, 3), (120, .invokestatic 128, 3), (123, .athrow, 1), (124, .aload_n 0, 1), (125, .getfield 10, 3), (128, .iload 5, 2), (130, .invokevirtual 132, 3), (133, .aload_n 0, 1), (134, .getfield 10, 3), (137, .iload 4, 2), (139, .invokevirtual 132, 3), (142, .iinc 3 1, 3), (145, .goto (-132), 3), (148, .iload_n 3, 1), (149, .iconst 1, 1), (150, .if_icmp .lt 9, 3), (153, .iload_n 3, 1), (154, .bipush 8, 2), (156, .if_icmp .le 7, 3), (159, .invokestatic 128, 3), (162, .athrow, 1), (163, .iload_n 3, 1), (164, .ireturn, 1)]
theorem dk_Cert_names : fx_dec prog_2_method_5_code dl_Cert_names = true := by decide +kernel
theorem d_Cert_names_0 : decode prog_2_method_5_code 0 = .ok (.aload_n 0, 1) := fx_dat dk_Cert_names 0 rfl
theorem d_Cert_names_1 : decode prog_2_method_5_code 1 = .ok (.getfield 10, 3) := fx_dat dk_Cert_names 1 rfl
theorem d_Cert_names_4 : decode prog_2_method_5_code 4 = .ok (.bipush 48, 2) := fx_dat dk_Cert_names 2 rfl
theorem d_Cert_names_6 : decode prog_2_method_5_code 6 = .ok (.iload_n 1, 1) := fx_dat dk_Cert_names 3 rfl
theorem d_Cert_names_7 : decode prog_2_method_5_code 7 = .ok (.invokevirtual 115, 3) := fx_dat dk_Cert_names 4 rfl
theorem d_Cert_names_10 : decode prog_2_method_5_code 10 = .ok (.istore_n 2, 1) := fx_dat dk_Cert_names 5 rfl
theorem d_Cert_names_11 : decode prog_2_method_5_code 11 = .ok (.iconst 0, 1) := fx_dat dk_Cert_names 6 rfl
theorem d_Cert_names_12 : decode prog_2_method_5_code 12 = .ok (.istore_n 3, 1) := fx_dat dk_Cert_names 7 rfl
theorem d_Cert_names_13 : decode prog_2_method_5_code 13 = .ok (.aload_n 0, 1) := fx_dat dk_Cert_names 8 rfl
theorem d_Cert_names_14 : decode prog_2_method_5_code 14 = .ok (.getfield 10, 3) := fx_dat dk_Cert_names 9 rfl
theorem d_Cert_names_17 : decode prog_2_method_5_code 17 = .ok (.getfield 106, 3) := fx_dat dk_Cert_names 10 rfl
theorem d_Cert_names_20 : decode prog_2_method_5_code 20 = .ok (.iload_n 2, 1) := fx_dat dk_Cert_names 11 rfl
theorem d_Cert_names_21 : decode prog_2_method_5_code 21 = .ok (.if_icmp .ge 127, 3) := fx_dat dk_Cert_names 12 rfl
theorem d_Cert_names_24 : decode prog_2_method_5_code 24 = .ok (.aload_n 0, 1) := fx_dat dk_Cert_names 13 rfl
theorem d_Cert_names_25 : decode prog_2_method_5_code 25 = .ok (.getfield 10, 3) := fx_dat dk_Cert_names 14 rfl
theorem d_Cert_names_28 : decode prog_2_method_5_code 28 = .ok (.bipush 49, 2) := fx_dat dk_Cert_names 15 rfl
theorem d_Cert_names_30 : decode prog_2_method_5_code 30 = .ok (.iload_n 2, 1) := fx_dat dk_Cert_names 16 rfl
theorem d_Cert_names_31 : decode prog_2_method_5_code 31 = .ok (.invokevirtual 115, 3) := fx_dat dk_Cert_names 17 rfl
theorem d_Cert_names_34 : decode prog_2_method_5_code 34 = .ok (.istore 4, 2) := fx_dat dk_Cert_names 18 rfl
theorem d_Cert_names_36 : decode prog_2_method_5_code 36 = .ok (.aload_n 0, 1) := fx_dat dk_Cert_names 19 rfl
theorem d_Cert_names_37 : decode prog_2_method_5_code 37 = .ok (.getfield 10, 3) := fx_dat dk_Cert_names 20 rfl
theorem d_Cert_names_40 : decode prog_2_method_5_code 40 = .ok (.bipush 48, 2) := fx_dat dk_Cert_names 21 rfl
theorem d_Cert_names_42 : decode prog_2_method_5_code 42 = .ok (.iload 4, 2) := fx_dat dk_Cert_names 22 rfl
theorem d_Cert_names_44 : decode prog_2_method_5_code 44 = .ok (.invokevirtual 115, 3) := fx_dat dk_Cert_names 23 rfl
theorem d_Cert_names_47 : decode prog_2_method_5_code 47 = .ok (.istore 5, 2) := fx_dat dk_Cert_names 24 rfl
theorem d_Cert_names_49 : decode prog_2_method_5_code 49 = .ok (.aload_n 0, 1) := fx_dat dk_Cert_names 25 rfl
theorem d_Cert_names_50 : decode prog_2_method_5_code 50 = .ok (.getfield 10, 3) := fx_dat dk_Cert_names 26 rfl
theorem d_Cert_names_53 : decode prog_2_method_5_code 53 = .ok (.iload 5, 2) := fx_dat dk_Cert_names 27 rfl
theorem d_Cert_names_55 : decode prog_2_method_5_code 55 = .ok (.invokevirtual 152, 3) := fx_dat dk_Cert_names 28 rfl
theorem d_Cert_names_58 : decode prog_2_method_5_code 58 = .ok (.pop, 1) := fx_dat dk_Cert_names 29 rfl
theorem d_Cert_names_59 : decode prog_2_method_5_code 59 = .ok (.aload_n 0, 1) := fx_dat dk_Cert_names 30 rfl
theorem d_Cert_names_60 : decode prog_2_method_5_code 60 = .ok (.getfield 10, 3) := fx_dat dk_Cert_names 31 rfl
theorem d_Cert_names_63 : decode prog_2_method_5_code 63 = .ok (.aload_n 0, 1) := fx_dat dk_Cert_names 32 rfl
theorem d_Cert_names_64 : decode prog_2_method_5_code 64 = .ok (.getfield 10, 3) := fx_dat dk_Cert_names 33 rfl
theorem d_Cert_names_67 : decode prog_2_method_5_code 67 = .ok (.iload 5, 2) := fx_dat dk_Cert_names 34 rfl
theorem d_Cert_names_69 : decode prog_2_method_5_code 69 = .ok (.invokevirtual 155, 3) := fx_dat dk_Cert_names 35 rfl
theorem d_Cert_names_72 : decode prog_2_method_5_code 72 = .ok (.bipush 19, 2) := fx_dat dk_Cert_names 36 rfl
theorem d_Cert_names_74 : decode prog_2_method_5_code 74 = .ok (.if_icmp .ne 8, 3) := fx_dat dk_Cert_names 37 rfl
theorem d_Cert_names_77 : decode prog_2_method_5_code 77 = .ok (.bipush 19, 2) := fx_dat dk_Cert_names 38 rfl
theorem d_Cert_names_79 : decode prog_2_method_5_code 79 = .ok (.goto 5, 3) := fx_dat dk_Cert_names 39 rfl
theorem d_Cert_names_82 : decode prog_2_method_5_code 82 = .ok (.bipush 12, 2) := fx_dat dk_Cert_names 40 rfl
theorem d_Cert_names_84 : decode prog_2_method_5_code 84 = .ok (.iload 5, 2) := fx_dat dk_Cert_names 41 rfl
theorem d_Cert_names_86 : decode prog_2_method_5_code 86 = .ok (.invokevirtual 158, 3) := fx_dat dk_Cert_names 42 rfl
theorem d_Cert_names_89 : decode prog_2_method_5_code 89 = .ok (.istore 6, 2) := fx_dat dk_Cert_names 43 rfl
theorem d_Cert_names_91 : decode prog_2_method_5_code 91 = .ok (.aload_n 0, 1) := fx_dat dk_Cert_names 44 rfl
theorem d_Cert_names_92 : decode prog_2_method_5_code 92 = .ok (.getfield 10, 3) := fx_dat dk_Cert_names 45 rfl
theorem d_Cert_names_95 : decode prog_2_method_5_code 95 = .ok (.getfield 106, 3) := fx_dat dk_Cert_names 46 rfl
theorem d_Cert_names_98 : decode prog_2_method_5_code 98 = .ok (.iload 6, 2) := fx_dat dk_Cert_names 47 rfl
theorem d_Cert_names_100 : decode prog_2_method_5_code 100 = .ok (.isub, 1) := fx_dat dk_Cert_names 48 rfl
theorem d_Cert_names_101 : decode prog_2_method_5_code 101 = .ok (.iconst 1, 1) := fx_dat dk_Cert_names 49 rfl
theorem d_Cert_names_102 : decode prog_2_method_5_code 102 = .ok (.if_icmp .lt 18, 3) := fx_dat dk_Cert_names 50 rfl
theorem d_Cert_names_105 : decode prog_2_method_5_code 105 = .ok (.aload_n 0, 1) := fx_dat dk_Cert_names 51 rfl
theorem d_Cert_names_106 : decode prog_2_method_5_code 106 = .ok (.getfield 10, 3) := fx_dat dk_Cert_names 52 rfl
theorem d_Cert_names_109 : decode prog_2_method_5_code 109 = .ok (.getfield 106, 3) := fx_dat dk_Cert_names 53 rfl
theorem d_Cert_names_112 : decode prog_2_method_5_code 112 = .ok (.iload 6, 2) := fx_dat dk_Cert_names 54 rfl
theorem d_Cert_names_114 : decode prog_2_method_5_code 114 = .ok (.isub, 1) := fx_dat dk_Cert_names 55 rfl
theorem d_Cert_names_115 : decode prog_2_method_5_code 115 = .ok (.bipush 64, 2) := fx_dat dk_Cert_names 56 rfl
theorem d_Cert_names_117 : decode prog_2_method_5_code 117 = .ok (.if_icmp .le 7, 3) := fx_dat dk_Cert_names 57 rfl
theorem d_Cert_names_120 : decode prog_2_method_5_code 120 = .ok (.invokestatic 128, 3) := fx_dat dk_Cert_names 58 rfl
theorem d_Cert_names_123 : decode prog_2_method_5_code 123 = .ok (.athrow, 1) := fx_dat dk_Cert_names 59 rfl
theorem d_Cert_names_124 : decode prog_2_method_5_code 124 = .ok (.aload_n 0, 1) := fx_dat dk_Cert_names 60 rfl
theorem d_Cert_names_125 : decode prog_2_method_5_code 125 = .ok (.getfield 10, 3) := fx_dat dk_Cert_names 61 rfl
theorem d_Cert_names_128 : decode prog_2_method_5_code 128 = .ok (.iload 5, 2) := fx_dat dk_Cert_names 62 rfl
theorem d_Cert_names_130 : decode prog_2_method_5_code 130 = .ok (.invokevirtual 132, 3) := fx_dat dk_Cert_names 63 rfl
theorem d_Cert_names_133 : decode prog_2_method_5_code 133 = .ok (.aload_n 0, 1) := fx_dat dk_Cert_names 64 rfl
theorem d_Cert_names_134 : decode prog_2_method_5_code 134 = .ok (.getfield 10, 3) := fx_dat dk_Cert_names 65 rfl
theorem d_Cert_names_137 : decode prog_2_method_5_code 137 = .ok (.iload 4, 2) := fx_dat dk_Cert_names 66 rfl
theorem d_Cert_names_139 : decode prog_2_method_5_code 139 = .ok (.invokevirtual 132, 3) := fx_dat dk_Cert_names 67 rfl
theorem d_Cert_names_142 : decode prog_2_method_5_code 142 = .ok (.iinc 3 1, 3) := fx_dat dk_Cert_names 68 rfl
theorem d_Cert_names_145 : decode prog_2_method_5_code 145 = .ok (.goto (-132), 3) := fx_dat dk_Cert_names 69 rfl
theorem d_Cert_names_148 : decode prog_2_method_5_code 148 = .ok (.iload_n 3, 1) := fx_dat dk_Cert_names 70 rfl
theorem d_Cert_names_149 : decode prog_2_method_5_code 149 = .ok (.iconst 1, 1) := fx_dat dk_Cert_names 71 rfl
theorem d_Cert_names_150 : decode prog_2_method_5_code 150 = .ok (.if_icmp .lt 9, 3) := fx_dat dk_Cert_names 72 rfl
theorem d_Cert_names_153 : decode prog_2_method_5_code 153 = .ok (.iload_n 3, 1) := fx_dat dk_Cert_names 73 rfl
theorem d_Cert_names_154 : decode prog_2_method_5_code 154 = .ok (.bipush 8, 2) := fx_dat dk_Cert_names 74 rfl
theorem d_Cert_names_156 : decode prog_2_method_5_code 156 = .ok (.if_icmp .le 7, 3) := fx_dat dk_Cert_names 75 rfl
theorem d_Cert_names_159 : decode prog_2_method_5_code 159 = .ok (.invokestatic 128, 3) := fx_dat dk_Cert_names 76 rfl
theorem d_Cert_names_162 : decode prog_2_method_5_code 162 = .ok (.athrow, 1) := fx_dat dk_Cert_names 77 rfl
theorem d_Cert_names_163 : decode prog_2_method_5_code 163 = .ok (.iload_n 3, 1) := fx_dat dk_Cert_names 78 rfl
theorem d_Cert_names_164 : decode prog_2_method_5_code 164 = .ok (.ireturn, 1) := fx_dat dk_Cert_names 79 rfl
def m_Cert_names_159 (Q : Int32 → AH → Prop) (E : Nat → AH → Prop) (h : AH) : Prop := m_Rd_bad (fun q1 h1 => fx_ext h h1 → E q1 h1) h
def m_Cert_names_120 (Q : Int32 → AH → Prop) (E : Nat → AH → Prop) (h : AH) : Prop := m_Rd_bad (fun q1 h1 => fx_ext h h1 → E q1 h1) h
def m_Cert_names_84 (Q : Int32 → AH → Prop) (E : Nat → AH → Prop) (X13 : Int32 × AH → Prop) (r0 : Nat) (x2 : Int32) (x3 : Int32) (x4 : Int32) (x5 : Int32) (sr0 : Nat) (sx1 : Int32) (h : AH) : Prop := hp_k h sr0 = 9 ∧ m_Rd_skip (fun v1 h1 => fx_ext h h1 → hp_k h1 r0 = 8 ∧ ∃ b1, hp_R h1 r0 1 = some b1 ∧ hp_k h1 b1 = 9 ∧ (((hp_I h1 b1 1) - v1) < (1 : Int32) → m_Cert_names_120 Q E h1) ∧ (¬ ((hp_I h1 b1 1) - v1) < (1 : Int32) → (((hp_I h1 b1 1) - v1) ≤ (64 : Int32) → m_Rd_leave (fun h2 => fx_ext h1 h2 → ∃ b2, hp_R h2 r0 1 = some b2 ∧ hp_k h2 b2 = 9 ∧ m_Rd_leave (fun h3 => fx_ext h2 h3 → ∀ v2 : Int32, v2 = (x3 + (1 : Int32)) → X13 (v2, h3)) (fun a ht => fx_ext h2 ht → E a ht) b2 x4 h2) (fun a ht => fx_ext h1 ht → E a ht) b1 x5 h1) ∧ (¬ ((hp_I h1 b1 1) - v1) ≤ (64 : Int32) → m_Cert_names_120 Q E h1))) (fun a ht => fx_ext h ht → E a ht) sr0 sx1 x5 h
def m_Cert_names_13_b (Q : Int32 → AH → Prop) (E : Nat → AH → Prop) (X13 : Int32 × AH → Prop) (r0 : Nat) (x2 : Int32) (x3 : Int32) (h : AH) : Prop := hp_k h r0 = 8 ∧ ∃ b1, hp_R h r0 1 = some b1 ∧ hp_k h b1 = 9 ∧ (x2 ≤ (hp_I h b1 1) → (x3 < (1 : Int32) → m_Cert_names_159 Q E h) ∧ (¬ x3 < (1 : Int32) → (x3 ≤ (8 : Int32) → Q x3 h) ∧ (¬ x3 ≤ (8 : Int32) → m_Cert_names_159 Q E h))) ∧ (¬ x2 ≤ (hp_I h b1 1) → m_Rd_enter (fun v1 h1 => fx_ext h h1 → ∃ b2, hp_R h1 r0 1 = some b2 ∧ hp_k h1 b2 = 9 ∧ m_Rd_enter (fun v2 h2 => fx_ext h1 h2 → ∃ b3, hp_R h2 r0 1 = some b3 ∧ hp_k h2 b3 = 9 ∧ m_Rd_oid (fun v3 h3 => fx_ext h2 h3 → ∃ b4, hp_R h3 r0 1 = some b4 ∧ hp_k h3 b4 = 9 ∧ m_Rd_tag (fun v4 h4 => fx_ext h3 h4 → (¬ v4 = (19 : Int32) → m_Cert_names_84 Q E X13 r0 x2 x3 v1 v2 b4 (12 : Int32) h4) ∧ (v4 = (19 : Int32) → m_Cert_names_84 Q E X13 r0 x2 x3 v1 v2 b4 (19 : Int32) h4)) b4 v2 h3) (fun a ht => fx_ext h2 ht → E a ht) b3 v2 h2) (fun a ht => fx_ext h1 ht → E a ht) b2 (48 : Int32) v1 h1) (fun a ht => fx_ext h ht → E a ht) b1 (49 : Int32) x2 h)
def m_Cert_names_13 (Q : Int32 → AH → Prop) (E : Nat → AH → Prop) (r0 : Nat) (x2 : Int32) (x3 : Int32) (h : AH) : Prop := fx_loop (fun (X13 : Int32 × AH → Prop) (st : Int32 × AH) => m_Cert_names_13_b Q E X13 r0 x2 st.1 st.2) (x3, h)
def m_Cert_names (Q : Int32 → AH → Prop) (E : Nat → AH → Prop) (r0 : Nat) (x1 : Int32) (h : AH) : Prop := hp_k h r0 = 8 ∧ ∃ b1, hp_R h r0 1 = some b1 ∧ hp_k h b1 = 9 ∧ m_Rd_enter (fun v1 h1 => fx_ext h h1 → m_Cert_names_13 Q E r0 v1 (0 : Int32) h1) (fun a ht => fx_ext h ht → E a ht) b1 (48 : Int32) x1 h
theorem b_Cert_names_159 {p : Program} {l : Launch} {e : Env} {R : Room} {s : State} {m : MethodId} {args : Array Value} {below : List Frame} {meth : Method} {c : Code} {D : DD} {h0 : AH} {Q : Int32 → AH → Prop} {E : Nat → AH → Prop} (C : fx_CX D y_Cert_names prog_2_method_5_code 7 9 124 (Option.some FieldType.int) [] h0 p R s m meth c) (hl : l.flags = flags0) (h : AH) (hw : m_Cert_names_159 Q E h) : ∀ (ls : Array Slot) (H : Heap) (locs : List Loc) (cells slots : Nat), lv_has ls 7 [] → fx_F D h0 h H locs cells slots → W p l e R s m args below meth c H locs cells slots (fx_Z D below s h0 (fx_oI Q E)) (F0 m 159 ls []) := by
  unfold m_Cert_names_159 at hw
  intro ls H locs cells slots hv F
  refine fx_callR C F (c_Rd_bad hl hw) hm_Rd_bad hi_Rd_bad hv.1 (by decide) (Nat.le_of_ble_eq_true rfl) (iv_Rd_bad C F lm_Cert_128 d_Cert_names_159) (fx_out0 _) fx_eno (fun q1 h1 H locs cells slots hw hx1 F => ?_)
  replace hw := hw hx1
  exact fx_athrow C F (fx_out0 _) d_Cert_names_162 (Or.inr ⟨_, rfl, hw⟩)
theorem b_Cert_names_120 {p : Program} {l : Launch} {e : Env} {R : Room} {s : State} {m : MethodId} {args : Array Value} {below : List Frame} {meth : Method} {c : Code} {D : DD} {h0 : AH} {Q : Int32 → AH → Prop} {E : Nat → AH → Prop} (C : fx_CX D y_Cert_names prog_2_method_5_code 7 9 124 (Option.some FieldType.int) [] h0 p R s m meth c) (hl : l.flags = flags0) (h : AH) (hw : m_Cert_names_120 Q E h) : ∀ (ls : Array Slot) (H : Heap) (locs : List Loc) (cells slots : Nat), lv_has ls 7 [] → fx_F D h0 h H locs cells slots → W p l e R s m args below meth c H locs cells slots (fx_Z D below s h0 (fx_oI Q E)) (F0 m 120 ls []) := by
  unfold m_Cert_names_120 at hw
  intro ls H locs cells slots hv F
  refine fx_callR C F (c_Rd_bad hl hw) hm_Rd_bad hi_Rd_bad hv.1 (by decide) (Nat.le_of_ble_eq_true rfl) (iv_Rd_bad C F lm_Cert_128 d_Cert_names_120) (fx_out0 _) fx_eno (fun q1 h1 H locs cells slots hw hx1 F => ?_)
  replace hw := hw hx1
  exact fx_athrow C F (fx_out0 _) d_Cert_names_123 (Or.inr ⟨_, rfl, hw⟩)
theorem b_Cert_names_84 {p : Program} {l : Launch} {e : Env} {R : Room} {s : State} {m : MethodId} {args : Array Value} {below : List Frame} {meth : Method} {c : Code} {D : DD} {h0 : AH} {Q : Int32 → AH → Prop} {E : Nat → AH → Prop} {X13 : Int32 × AH → Prop} (C : fx_CX D y_Cert_names prog_2_method_5_code 7 9 124 (Option.some FieldType.int) [] h0 p R s m meth c) (hl : l.flags = flags0) (r0 : Nat) (x2 : Int32) (x3 : Int32) (x4 : Int32) (x5 : Int32) (sr0 : Nat) (sx1 : Int32) (h : AH) (hX13 : ∀ st, X13 st → ∀ (ls : Array Slot) (H : Heap) (locs : List Loc) (cells slots : Nat), lv_has ls 7 [(0, .ref r0), (2, .int x2), (3, .int st.1)] → fx_F D h0 st.2 H locs cells slots → W p l e R s m args below meth c H locs cells slots (fx_Z D below s h0 (fx_oI Q E)) (F0 m 13 ls [])) (hw : m_Cert_names_84 Q E X13 r0 x2 x3 x4 x5 sr0 sx1 h) : ∀ (ls : Array Slot) (H : Heap) (locs : List Loc) (cells slots : Nat), lv_has ls 7 [(0, .ref r0), (2, .int x2), (3, .int x3), (4, .int x4), (5, .int x5)] → fx_F D h0 h H locs cells slots → W p l e R s m args below meth c H locs cells slots (fx_Z D below s h0 (fx_oI Q E)) (F0 m 84 ls [.int sx1, .ref sr0]) := by
  unfold m_Cert_names_84 at hw
  intro ls H locs cells slots hv F
  refine lv_iload C.ex C.by d_Cert_names_84 (lv_at hv 4 rfl) ?_
  obtain ⟨hk1, hw⟩ := hw
  refine fx_callI C F (c_Rd_skip hl hw) hm_Rd_skip hi_Rd_skip hv.1 (by decide) (Nat.le_of_ble_eq_true rfl) (iv_Rd_skip C F lm_Cert_158 hk1 d_Cert_names_86) (fx_out0 _) (fun _ _ hE hx => Or.inr ⟨_, rfl, hE hx⟩) (fun v1 h1 H locs cells slots hw hx1 F => ?_)
  replace hw := hw hx1
  have hk1 := (hx1).k hk1
  refine lv_istore (lv' := [(6, .int v1), (0, .ref r0), (2, .int x2), (3, .int x3), (4, .int x4), (5, .int x5)]) C.ex C.by d_Cert_names_89 hv (by decide) rfl (fun ls hv => ?_)
  refine lv_aload_n C.ex C.by d_Cert_names_91 rfl (lv_at hv 1 rfl) ?_
  obtain ⟨hk2, hw⟩ := hw
  obtain ⟨b1, hb1, hw⟩ := hw
  refine fx_getR C F lf_Cert_10 hk2 rfl hb1 d_Cert_names_92 ?_
  obtain ⟨hk3, hw⟩ := hw
  refine fx_getI C F lf_Cert_106 hk3 rfl d_Cert_names_95 ?_
  refine lv_iload C.ex C.by d_Cert_names_98 (lv_at hv 0 rfl) ?_
  refine lv_isub C.ex C.by d_Cert_names_100 ?_
  refine lv_iconst (v := (1 : Int32)) C.ex C.by d_Cert_names_101 (by decide) ?_
  refine lv_icmp_lt C.ex C.by d_Cert_names_102 rfl (fun hc => ?_) (fun hc => ?_)
  · replace hw := hw.1 hc
    exact b_Cert_names_120 C hl _ hw _ _ _ _ _ (lv_sub hv [] rfl) F
  · replace hw := hw.2 hc
    refine lv_aload_n C.ex C.by d_Cert_names_105 rfl (lv_at hv 1 rfl) ?_
    refine fx_getR C F lf_Cert_10 hk2 rfl hb1 d_Cert_names_106 ?_
    refine fx_getI C F lf_Cert_106 hk3 rfl d_Cert_names_109 ?_
    refine lv_iload C.ex C.by d_Cert_names_112 (lv_at hv 0 rfl) ?_
    refine lv_isub C.ex C.by d_Cert_names_114 ?_
    refine lv_bipush (v := (64 : Int32)) C.ex C.by d_Cert_names_115 (by decide) ?_
    refine lv_icmp_le C.ex C.by d_Cert_names_117 rfl (fun hc => ?_) (fun hc => ?_)
    · replace hw := hw.1 hc
      refine lv_aload_n C.ex C.by d_Cert_names_124 rfl (lv_at hv 1 rfl) ?_
      refine fx_getR C F lf_Cert_10 hk2 rfl hb1 d_Cert_names_125 ?_
      refine lv_iload C.ex C.by d_Cert_names_128 (lv_at hv 5 rfl) ?_
      refine fx_callV C F (c_Rd_leave hl hw) hm_Rd_leave hi_Rd_leave hv.1 (by decide) (Nat.le_of_ble_eq_true rfl) (iv_Rd_leave C F lm_Cert_132 hk3 d_Cert_names_130) (fx_out0 _) (fun _ _ hE hx => Or.inr ⟨_, rfl, hE hx⟩) (fun h2 H locs cells slots hw hx2 F => ?_)
      replace hw := hw hx2
      have hk3 := (hx2).k hk3
      have hk2 := (hx2).k hk2
      have hk1 := (hx2).k hk1
      refine lv_aload_n C.ex C.by d_Cert_names_133 rfl (lv_at hv 1 rfl) ?_
      obtain ⟨b2, hb2, hw⟩ := hw
      refine fx_getR C F lf_Cert_10 hk2 rfl hb2 d_Cert_names_134 ?_
      refine lv_iload C.ex C.by d_Cert_names_137 (lv_at hv 4 rfl) ?_
      obtain ⟨hk4, hw⟩ := hw
      refine fx_callV C F (c_Rd_leave hl hw) hm_Rd_leave hi_Rd_leave hv.1 (by decide) (Nat.le_of_ble_eq_true rfl) (iv_Rd_leave C F lm_Cert_132 hk4 d_Cert_names_139) (fx_out0 _) (fun _ _ hE hx => Or.inr ⟨_, rfl, hE hx⟩) (fun h3 H locs cells slots hw hx3 F => ?_)
      replace hw := hw hx3
      have hk3 := (hx3).k hk3
      have hk4 := (hx3).k hk4
      have hk2 := (hx3).k hk2
      have hk1 := (hx3).k hk1
      let v2 : Int32 := (x3 + (1 : Int32))
      replace hw := hw v2 rfl
      refine lv_iinc (v := v2) (k := 3) (lv' := [(3, .int v2), (6, .int v1), (0, .ref r0), (2, .int x2), (4, .int x4), (5, .int x5)]) C.ex C.by d_Cert_names_142 hv rfl (congrArg (fun z => x3 + z) (by decide)) (by decide) rfl (fun ls hv => ?_)
      refine lv_goto C.ex C.by d_Cert_names_145 rfl ?_
      exact hX13 _ hw _ _ _ _ _ (lv_sub hv [2, 3, 0] rfl) F
    · replace hw := hw.2 hc
      exact b_Cert_names_120 C hl _ hw _ _ _ _ _ (lv_sub hv [] rfl) F
theorem b_Cert_names_13 {p : Program} {l : Launch} {e : Env} {R : Room} {s : State} {m : MethodId} {args : Array Value} {below : List Frame} {meth : Method} {c : Code} {D : DD} {h0 : AH} {Q : Int32 → AH → Prop} {E : Nat → AH → Prop} (C : fx_CX D y_Cert_names prog_2_method_5_code 7 9 124 (Option.some FieldType.int) [] h0 p R s m meth c) (hl : l.flags = flags0) (r0 : Nat) (x2 : Int32) (x3 : Int32) (h : AH) (hw : m_Cert_names_13 Q E r0 x2 x3 h) : ∀ (ls : Array Slot) (H : Heap) (locs : List Loc) (cells slots : Nat), lv_has ls 7 [(0, .ref r0), (2, .int x2), (3, .int x3)] → fx_F D h0 h H locs cells slots → W p l e R s m args below meth c H locs cells slots (fx_Z D below s h0 (fx_oI Q E)) (F0 m 13 ls []) := by
  refine fx_loop.use hw (fun st => ∀ (ls : Array Slot) (H : Heap) (locs : List Loc) (cells slots : Nat), lv_has ls 7 [(0, .ref r0), (2, .int x2), (3, .int st.1)] → fx_F D h0 st.2 H locs cells slots → W p l e R s m args below meth c H locs cells slots (fx_Z D below s h0 (fx_oI Q E)) (F0 m 13 ls [])) (fun X13 st hX13 hw => ?_)
  obtain ⟨x3, h⟩ := st
  replace hw : m_Cert_names_13_b Q E X13 r0 x2 x3 h := hw
  unfold m_Cert_names_13_b at hw
  intro ls H locs cells slots hv F
  refine lv_aload_n C.ex C.by d_Cert_names_13 rfl (lv_at hv 0 rfl) ?_
  obtain ⟨hk1, hw⟩ := hw
  obtain ⟨b1, hb1, hw⟩ := hw
  refine fx_getR C F lf_Cert_10 hk1 rfl hb1 d_Cert_names_14 ?_
  obtain ⟨hk2, hw⟩ := hw
  refine fx_getI C F lf_Cert_106 hk2 rfl d_Cert_names_17 ?_
  refine lv_iload_n C.ex C.by d_Cert_names_20 rfl (lv_at hv 1 rfl) ?_
  refine lv_icmp_ge C.ex C.by d_Cert_names_21 rfl (fun hc => ?_) (fun hc => ?_)
  · replace hw := hw.1 hc
    refine lv_iload_n C.ex C.by d_Cert_names_148 rfl (lv_at hv 2 rfl) ?_
    refine lv_iconst (v := (1 : Int32)) C.ex C.by d_Cert_names_149 (by decide) ?_
    refine lv_icmp_lt C.ex C.by d_Cert_names_150 rfl (fun hc => ?_) (fun hc => ?_)
    · replace hw := hw.1 hc
      exact b_Cert_names_159 C hl _ hw _ _ _ _ _ (lv_sub hv [] rfl) F
    · replace hw := hw.2 hc
      refine lv_iload_n C.ex C.by d_Cert_names_153 rfl (lv_at hv 2 rfl) ?_
      refine lv_bipush (v := (8 : Int32)) C.ex C.by d_Cert_names_154 (by decide) ?_
      refine lv_icmp_le C.ex C.by d_Cert_names_156 rfl (fun hc => ?_) (fun hc => ?_)
      · replace hw := hw.1 hc
        refine lv_iload_n C.ex C.by d_Cert_names_163 rfl (lv_at hv 2 rfl) ?_
        exact fx_iret C F d_Cert_names_164 (Or.inl ⟨_, rfl, hw⟩)
      · replace hw := hw.2 hc
        exact b_Cert_names_159 C hl _ hw _ _ _ _ _ (lv_sub hv [] rfl) F
  · replace hw := hw.2 hc
    refine lv_aload_n C.ex C.by d_Cert_names_24 rfl (lv_at hv 0 rfl) ?_
    refine fx_getR C F lf_Cert_10 hk1 rfl hb1 d_Cert_names_25 ?_
    refine lv_bipush (v := (49 : Int32)) C.ex C.by d_Cert_names_28 (by decide) ?_
    refine lv_iload_n C.ex C.by d_Cert_names_30 rfl (lv_at hv 1 rfl) ?_
    refine fx_callI C F (c_Rd_enter hl hw) hm_Rd_enter hi_Rd_enter hv.1 (by decide) (Nat.le_of_ble_eq_true rfl) (iv_Rd_enter C F lm_Cert_115 hk2 d_Cert_names_31) (fx_out0 _) (fun _ _ hE hx => Or.inr ⟨_, rfl, hE hx⟩) (fun v1 h1 H locs cells slots hw hx1 F => ?_)
    replace hw := hw hx1
    have hk2 := (hx1).k hk2
    have hk1 := (hx1).k hk1
    refine lv_istore (lv' := [(4, .int v1), (0, .ref r0), (2, .int x2), (3, .int x3)]) C.ex C.by d_Cert_names_34 hv (by decide) rfl (fun ls hv => ?_)
    refine lv_aload_n C.ex C.by d_Cert_names_36 rfl (lv_at hv 1 rfl) ?_
    obtain ⟨b2, hb2, hw⟩ := hw
    refine fx_getR C F lf_Cert_10 hk1 rfl hb2 d_Cert_names_37 ?_
    refine lv_bipush (v := (48 : Int32)) C.ex C.by d_Cert_names_40 (by decide) ?_
    refine lv_iload C.ex C.by d_Cert_names_42 (lv_at hv 0 rfl) ?_
    obtain ⟨hk3, hw⟩ := hw
    refine fx_callI C F (c_Rd_enter hl hw) hm_Rd_enter hi_Rd_enter hv.1 (by decide) (Nat.le_of_ble_eq_true rfl) (iv_Rd_enter C F lm_Cert_115 hk3 d_Cert_names_44) (fx_out0 _) (fun _ _ hE hx => Or.inr ⟨_, rfl, hE hx⟩) (fun v2 h2 H locs cells slots hw hx2 F => ?_)
    replace hw := hw hx2
    have hk2 := (hx2).k hk2
    have hk3 := (hx2).k hk3
    have hk1 := (hx2).k hk1
    refine lv_istore (lv' := [(5, .int v2), (4, .int v1), (0, .ref r0), (2, .int x2), (3, .int x3)]) C.ex C.by d_Cert_names_47 hv (by decide) rfl (fun ls hv => ?_)
    refine lv_aload_n C.ex C.by d_Cert_names_49 rfl (lv_at hv 2 rfl) ?_
    obtain ⟨b3, hb3, hw⟩ := hw
    refine fx_getR C F lf_Cert_10 hk1 rfl hb3 d_Cert_names_50 ?_
    refine lv_iload C.ex C.by d_Cert_names_53 (lv_at hv 0 rfl) ?_
    obtain ⟨hk4, hw⟩ := hw
    refine fx_callI C F (c_Rd_oid hl hw) hm_Rd_oid hi_Rd_oid hv.1 (by decide) (Nat.le_of_ble_eq_true rfl) (iv_Rd_oid C F lm_Cert_152 hk4 d_Cert_names_55) (fx_out0 _) (fun _ _ hE hx => Or.inr ⟨_, rfl, hE hx⟩) (fun v3 h3 H locs cells slots hw hx3 F => ?_)
    replace hw := hw hx3
    have hk2 := (hx3).k hk2
    have hk3 := (hx3).k hk3
    have hk4 := (hx3).k hk4
    have hk1 := (hx3).k hk1
    refine lv_pop C.ex C.by d_Cert_names_58 rfl ?_
    refine lv_aload_n C.ex C.by d_Cert_names_59 rfl (lv_at hv 2 rfl) ?_
    obtain ⟨b4, hb4, hw⟩ := hw
    refine fx_getR C F lf_Cert_10 hk1 rfl hb4 d_Cert_names_60 ?_
    refine lv_aload_n C.ex C.by d_Cert_names_63 rfl (lv_at hv 2 rfl) ?_
    refine fx_getR C F lf_Cert_10 hk1 rfl hb4 d_Cert_names_64 ?_
    refine lv_iload C.ex C.by d_Cert_names_67 (lv_at hv 0 rfl) ?_
    obtain ⟨hk5, hw⟩ := hw
    refine fx_callI C F (c_Rd_tag hl hw) hm_Rd_tag hi_Rd_tag hv.1 (by decide) (Nat.le_of_ble_eq_true rfl) (iv_Rd_tag C F lm_Cert_155 hk5 d_Cert_names_69) (fx_out0 _) fx_eno (fun v4 h4 H locs cells slots hw hx4 F => ?_)
    replace hw := hw hx4
    have hk2 := (hx4).k hk2
    have hk3 := (hx4).k hk3
    have hk4 := (hx4).k hk4
    have hk5 := (hx4).k hk5
    have hk1 := (hx4).k hk1
    refine lv_bipush (v := (19 : Int32)) C.ex C.by d_Cert_names_72 (by decide) ?_
    refine lv_icmp_ne C.ex C.by d_Cert_names_74 rfl (fun hc => ?_) (fun hc => ?_)
    · replace hw := hw.1 hc
      refine lv_bipush (v := (12 : Int32)) C.ex C.by d_Cert_names_82 (by decide) ?_
      exact b_Cert_names_84 C hl _ _ _ _ _ _ _ _ hX13 hw _ _ _ _ _ (lv_sub hv [2, 3, 4, 1, 0] rfl) F
    · replace hw := hw.2 hc
      refine lv_bipush (v := (19 : Int32)) C.ex C.by d_Cert_names_77 (by decide) ?_
      refine lv_goto C.ex C.by d_Cert_names_79 rfl ?_
      exact b_Cert_names_84 C hl _ _ _ _ _ _ _ _ hX13 hw _ _ _ _ _ (lv_sub hv [2, 3, 4, 1, 0] rfl) F
theorem b_Cert_names_0 {p : Program} {l : Launch} {e : Env} {R : Room} {s : State} {m : MethodId} {args : Array Value} {below : List Frame} {meth : Method} {c : Code} {D : DD} {h0 : AH} {Q : Int32 → AH → Prop} {E : Nat → AH → Prop} (C : fx_CX D y_Cert_names prog_2_method_5_code 7 9 124 (Option.some FieldType.int) [] h0 p R s m meth c) (hl : l.flags = flags0) (r0 : Nat) (x1 : Int32) (h : AH) (hw : m_Cert_names Q E r0 x1 h) : ∀ (ls : Array Slot) (H : Heap) (locs : List Loc) (cells slots : Nat), lv_has ls 7 [(0, .ref r0), (1, .int x1)] → fx_F D h0 h H locs cells slots → W p l e R s m args below meth c H locs cells slots (fx_Z D below s h0 (fx_oI Q E)) (F0 m 0 ls []) := by
  unfold m_Cert_names at hw
  intro ls H locs cells slots hv F
  refine lv_aload_n C.ex C.by d_Cert_names_0 rfl (lv_at hv 0 rfl) ?_
  obtain ⟨hk1, hw⟩ := hw
  obtain ⟨b1, hb1, hw⟩ := hw
  refine fx_getR C F lf_Cert_10 hk1 rfl hb1 d_Cert_names_1 ?_
  refine lv_bipush (v := (48 : Int32)) C.ex C.by d_Cert_names_4 (by decide) ?_
  refine lv_iload_n C.ex C.by d_Cert_names_6 rfl (lv_at hv 1 rfl) ?_
  obtain ⟨hk2, hw⟩ := hw
  refine fx_callI C F (c_Rd_enter hl hw) hm_Rd_enter hi_Rd_enter hv.1 (by decide) (Nat.le_of_ble_eq_true rfl) (iv_Rd_enter C F lm_Cert_115 hk2 d_Cert_names_7) (fx_out0 _) (fun _ _ hE hx => Or.inr ⟨_, rfl, hE hx⟩) (fun v1 h1 H locs cells slots hw hx1 F => ?_)
  replace hw := hw hx1
  have hk2 := (hx1).k hk2
  have hk1 := (hx1).k hk1
  refine lv_istore_n (lv' := [(2, .int v1), (0, .ref r0), (1, .int x1)]) C.ex C.by d_Cert_names_10 rfl hv (by decide) rfl (fun ls hv => ?_)
  refine lv_iconst (v := (0 : Int32)) C.ex C.by d_Cert_names_11 (by decide) ?_
  refine lv_istore_n (lv' := [(3, .int (0 : Int32)), (2, .int v1), (0, .ref r0), (1, .int x1)]) C.ex C.by d_Cert_names_12 rfl hv (by decide) rfl (fun ls hv => ?_)
  exact b_Cert_names_13 C hl _ _ _ _ hw _ _ _ _ _ (lv_sub hv [2, 1, 0] rfl) F
theorem hm_Cert_names : fx_hd y_Cert_names prog_2_method_5_code 7 (Option.some FieldType.int) [] ∈ tables_1 := (fx_m3 (List.mem_of_getElem? (i := 178) rfl))
theorem hi_Cert_names : Cond.initialized y_Cert_names.cls ∈ tables_1 := (fx_m1 (List.mem_of_getElem? (i := 11) rfl))
theorem c_Cert_names {l : Launch} (hl : l.flags = flags0) {D : DD} {Q : Int32 → AH → Prop} {E : Nat → AH → Prop} {r0 : Nat} {x1 : Int32} {h : AH} (hw : m_Cert_names Q E r0 x1 h) : fx_Mt l D y_Cert_names (fx_hd y_Cert_names prog_2_method_5_code 7 (Option.some FieldType.int) []) 9 124 [.ref r0, .int x1] h (fx_oI Q E) := by
  refine fx_ofW (plainFor_of_name (by decide)) (fun p e s m below meth c C F => ?_)
  have hv := lv_entry ([.ref r0, .int x1]) (n := 7) (Nat.le_of_ble_eq_true rfl)
  rw [lg_entry_eq]
  generalize (lg_sl ([.ref r0, .int x1]) ++ List.replicate (7 - (lg_sl ([.ref r0, .int x1])).length) Slot.unset).toArray = ls at hv ⊢
  have hv : lv_has ls 7 [(0, .ref r0), (1, .int x1)] := hv
  exact b_Cert_names_0 C hl _ _ _ hw _ _ _ _ _ hv F
/-! ChainJudge$Certificate.digits(II)I: frames 7, words 92, throws -/
abbrev y_Cert_digits : MethodName := ⟨"ChainJudge$Certificate", "digits", "(II)I"⟩
def dl_Cert_digits : List (Nat × Instr × Nat) := [(0, .iconst 0, 1), (1, .istore_n 3, 1), (2, .iload_n 1, 1), (3, .istore 4, 2), (5, .iload 4, 2), (7, .iload_n 1, 1), (8, .iload_n 2, 1), (9, .iadd, 1), (10, .if_icmp .ge 53, 3), (13, .aload_n 0, 1), (14, .getfield 16, 3), (17, .iload 4, 2), (19, .baload, 1), (20, .bipush 48, 2), (22, .if_icmp .lt 15, 3), (25, .aload_n 0, 1), (26, .getfield 16, 3), (29, .iload 4, 2), (31, .baload, 1), (32, .bipush 57, 2), (34, .if_icmp .le 7, 3), (37, .invokestatic 128, 3), (40, .athrow, 1), (41, .iload_n 3, 1), (42, .bipush 10, 2), (44, .imul, 1), (45, .aload_n 0, 1), (46, .getfield 16, 3), (49, .iload 4, 2), (51, .baload, 1), (52, .iadd, 1), (53, .bipush 48, 2), (55, .isub, 1), (56, .istore_n 3, 1), (57, .iinc 4 1, 3), (60, .goto (-55), 3), (63, .iload_n 3, 1), (64, .ireturn, 1)]
theorem dk_Cert_digits : fx_dec prog_2_method_6_code dl_Cert_digits = true := by decide +kernel
theorem d_Cert_digits_0 : decode prog_2_method_6_code 0 = .ok (.iconst 0, 1) := fx_dat dk_Cert_digits 0 rfl
theorem d_Cert_digits_1 : decode prog_2_method_6_code 1 = .ok (.istore_n 3, 1) := fx_dat dk_Cert_digits 1 rfl
theorem d_Cert_digits_2 : decode prog_2_method_6_code 2 = .ok (.iload_n 1, 1) := fx_dat dk_Cert_digits 2 rfl
theorem d_Cert_digits_3 : decode prog_2_method_6_code 3 = .ok (.istore 4, 2) := fx_dat dk_Cert_digits 3 rfl
theorem d_Cert_digits_5 : decode prog_2_method_6_code 5 = .ok (.iload 4, 2) := fx_dat dk_Cert_digits 4 rfl
theorem d_Cert_digits_7 : decode prog_2_method_6_code 7 = .ok (.iload_n 1, 1) := fx_dat dk_Cert_digits 5 rfl
theorem d_Cert_digits_8 : decode prog_2_method_6_code 8 = .ok (.iload_n 2, 1) := fx_dat dk_Cert_digits 6 rfl
theorem d_Cert_digits_9 : decode prog_2_method_6_code 9 = .ok (.iadd, 1) := fx_dat dk_Cert_digits 7 rfl
theorem d_Cert_digits_10 : decode prog_2_method_6_code 10 = .ok (.if_icmp .ge 53, 3) := fx_dat dk_Cert_digits 8 rfl
theorem d_Cert_digits_13 : decode prog_2_method_6_code 13 = .ok (.aload_n 0, 1) := fx_dat dk_Cert_digits 9 rfl
theorem d_Cert_digits_14 : decode prog_2_method_6_code 14 = .ok (.getfield 16, 3) := fx_dat dk_Cert_digits 10 rfl
theorem d_Cert_digits_17 : decode prog_2_method_6_code 17 = .ok (.iload 4, 2) := fx_dat dk_Cert_digits 11 rfl
theorem d_Cert_digits_19 : decode prog_2_method_6_code 19 = .ok (.baload, 1) := fx_dat dk_Cert_digits 12 rfl
theorem d_Cert_digits_20 : decode prog_2_method_6_code 20 = .ok (.bipush 48, 2) := fx_dat dk_Cert_digits 13 rfl
theorem d_Cert_digits_22 : decode prog_2_method_6_code 22 = .ok (.if_icmp .lt 15, 3) := fx_dat dk_Cert_digits 14 rfl
theorem d_Cert_digits_25 : decode prog_2_method_6_code 25 = .ok (.aload_n 0, 1) := fx_dat dk_Cert_digits 15 rfl
theorem d_Cert_digits_26 : decode prog_2_method_6_code 26 = .ok (.getfield 16, 3) := fx_dat dk_Cert_digits 16 rfl
theorem d_Cert_digits_29 : decode prog_2_method_6_code 29 = .ok (.iload 4, 2) := fx_dat dk_Cert_digits 17 rfl
theorem d_Cert_digits_31 : decode prog_2_method_6_code 31 = .ok (.baload, 1) := fx_dat dk_Cert_digits 18 rfl
theorem d_Cert_digits_32 : decode prog_2_method_6_code 32 = .ok (.bipush 57, 2) := fx_dat dk_Cert_digits 19 rfl
theorem d_Cert_digits_34 : decode prog_2_method_6_code 34 = .ok (.if_icmp .le 7, 3) := fx_dat dk_Cert_digits 20 rfl
theorem d_Cert_digits_37 : decode prog_2_method_6_code 37 = .ok (.invokestatic 128, 3) := fx_dat dk_Cert_digits 21 rfl
theorem d_Cert_digits_40 : decode prog_2_method_6_code 40 = .ok (.athrow, 1) := fx_dat dk_Cert_digits 22 rfl
theorem d_Cert_digits_41 : decode prog_2_method_6_code 41 = .ok (.iload_n 3, 1) := fx_dat dk_Cert_digits 23 rfl
theorem d_Cert_digits_42 : decode prog_2_method_6_code 42 = .ok (.bipush 10, 2) := fx_dat dk_Cert_digits 24 rfl
theorem d_Cert_digits_44 : decode prog_2_method_6_code 44 = .ok (.imul, 1) := fx_dat dk_Cert_digits 25 rfl
theorem d_Cert_digits_45 : decode prog_2_method_6_code 45 = .ok (.aload_n 0, 1) := fx_dat dk_Cert_digits 26 rfl
theorem d_Cert_digits_46 : decode prog_2_method_6_code 46 = .ok (.getfield 16, 3) := fx_dat dk_Cert_digits 27 rfl
theorem d_Cert_digits_49 : decode prog_2_method_6_code 49 = .ok (.iload 4, 2) := fx_dat dk_Cert_digits 28 rfl
theorem d_Cert_digits_51 : decode prog_2_method_6_code 51 = .ok (.baload, 1) := fx_dat dk_Cert_digits 29 rfl
theorem d_Cert_digits_52 : decode prog_2_method_6_code 52 = .ok (.iadd, 1) := fx_dat dk_Cert_digits 30 rfl
theorem d_Cert_digits_53 : decode prog_2_method_6_code 53 = .ok (.bipush 48, 2) := fx_dat dk_Cert_digits 31 rfl
theorem d_Cert_digits_55 : decode prog_2_method_6_code 55 = .ok (.isub, 1) := fx_dat dk_Cert_digits 32 rfl
theorem d_Cert_digits_56 : decode prog_2_method_6_code 56 = .ok (.istore_n 3, 1) := fx_dat dk_Cert_digits 33 rfl
theorem d_Cert_digits_57 : decode prog_2_method_6_code 57 = .ok (.iinc 4 1, 3) := fx_dat dk_Cert_digits 34 rfl
theorem d_Cert_digits_60 : decode prog_2_method_6_code 60 = .ok (.goto (-55), 3) := fx_dat dk_Cert_digits 35 rfl
theorem d_Cert_digits_63 : decode prog_2_method_6_code 63 = .ok (.iload_n 3, 1) := fx_dat dk_Cert_digits 36 rfl
theorem d_Cert_digits_64 : decode prog_2_method_6_code 64 = .ok (.ireturn, 1) := fx_dat dk_Cert_digits 37 rfl
def m_Cert_digits_37 (Q : Int32 → AH → Prop) (E : Nat → AH → Prop) (h : AH) : Prop := m_Rd_bad (fun q1 h1 => fx_ext h h1 → E q1 h1) h
def m_Cert_digits_5_b (Q : Int32 → AH → Prop) (E : Nat → AH → Prop) (X5 : Int32 × Int32 × AH → Prop) (r0 : Nat) (x1 : Int32) (x2 : Int32) (x3 : Int32) (x4 : Int32) (h : AH) : Prop := ((x1 + x2) ≤ x4 → Q x3 h) ∧ (¬ (x1 + x2) ≤ x4 → hp_k h r0 = 8 ∧ ∃ b1, hp_R h r0 2 = some b1 ∧ bk (hp_k h b1) ∧ vp_in x4 (hp_n h b1) ∧ (by8 (hp_I h b1 x4.toNatClampNeg) → ((hp_I h b1 x4.toNatClampNeg) < (48 : Int32) → m_Cert_digits_37 Q E h) ∧ (¬ (hp_I h b1 x4.toNatClampNeg) < (48 : Int32) → vp_in x4 (hp_n h b1) ∧ (by8 (hp_I h b1 x4.toNatClampNeg) → ((hp_I h b1 x4.toNatClampNeg) ≤ (57 : Int32) → vp_in x4 (hp_n h b1) ∧ (by8 (hp_I h b1 x4.toNatClampNeg) → ∀ v1 : Int32, v1 = (((x3 * (10 : Int32)) + (hp_I h b1 x4.toNatClampNeg)) - (48 : Int32)) → ∀ v2 : Int32, v2 = (x4 + (1 : Int32)) → X5 (v1, v2, h))) ∧ (¬ (hp_I h b1 x4.toNatClampNeg) ≤ (57 : Int32) → m_Cert_digits_37 Q E h)))))
def m_Cert_digits_5 (Q : Int32 → AH → Prop) (E : Nat → AH → Prop) (r0 : Nat) (x1 : Int32) (x2 : Int32) (x3 : Int32) (x4 : Int32) (h : AH) : Prop := fx_loop (fun (X5 : Int32 × Int32 × AH → Prop) (st : Int32 × Int32 × AH) => m_Cert_digits_5_b Q E X5 r0 x1 x2 st.1 st.2.1 st.2.2) (x3, x4, h)
def m_Cert_digits (Q : Int32 → AH → Prop) (E : Nat → AH → Prop) (r0 : Nat) (x1 : Int32) (x2 : Int32) (h : AH) : Prop := m_Cert_digits_5 Q E r0 x1 x2 (0 : Int32) x1 h
theorem b_Cert_digits_37 {p : Program} {l : Launch} {e : Env} {R : Room} {s : State} {m : MethodId} {args : Array Value} {below : List Frame} {meth : Method} {c : Code} {D : DD} {h0 : AH} {Q : Int32 → AH → Prop} {E : Nat → AH → Prop} (C : fx_CX D y_Cert_digits prog_2_method_6_code 5 7 92 (Option.some FieldType.int) [] h0 p R s m meth c) (hl : l.flags = flags0) (h : AH) (hw : m_Cert_digits_37 Q E h) : ∀ (ls : Array Slot) (H : Heap) (locs : List Loc) (cells slots : Nat), lv_has ls 5 [] → fx_F D h0 h H locs cells slots → W p l e R s m args below meth c H locs cells slots (fx_Z D below s h0 (fx_oI Q E)) (F0 m 37 ls []) := by
  unfold m_Cert_digits_37 at hw
  intro ls H locs cells slots hv F
  refine fx_callR C F (c_Rd_bad hl hw) hm_Rd_bad hi_Rd_bad hv.1 (by decide) (Nat.le_of_ble_eq_true rfl) (iv_Rd_bad C F lm_Cert_128 d_Cert_digits_37) (fx_out0 _) fx_eno (fun q1 h1 H locs cells slots hw hx1 F => ?_)
  replace hw := hw hx1
  exact fx_athrow C F (fx_out0 _) d_Cert_digits_40 (Or.inr ⟨_, rfl, hw⟩)
theorem b_Cert_digits_5 {p : Program} {l : Launch} {e : Env} {R : Room} {s : State} {m : MethodId} {args : Array Value} {below : List Frame} {meth : Method} {c : Code} {D : DD} {h0 : AH} {Q : Int32 → AH → Prop} {E : Nat → AH → Prop} (C : fx_CX D y_Cert_digits prog_2_method_6_code 5 7 92 (Option.some FieldType.int) [] h0 p R s m meth c) (hl : l.flags = flags0) (r0 : Nat) (x1 : Int32) (x2 : Int32) (x3 : Int32) (x4 : Int32) (h : AH) (hw : m_Cert_digits_5 Q E r0 x1 x2 x3 x4 h) : ∀ (ls : Array Slot) (H : Heap) (locs : List Loc) (cells slots : Nat), lv_has ls 5 [(0, .ref r0), (1, .int x1), (2, .int x2), (3, .int x3), (4, .int x4)] → fx_F D h0 h H locs cells slots → W p l e R s m args below meth c H locs cells slots (fx_Z D below s h0 (fx_oI Q E)) (F0 m 5 ls []) := by
  refine fx_loop.use hw (fun st => ∀ (ls : Array Slot) (H : Heap) (locs : List Loc) (cells slots : Nat), lv_has ls 5 [(0, .ref r0), (1, .int x1), (2, .int x2), (3, .int st.1), (4, .int st.2.1)] → fx_F D h0 st.2.2 H locs cells slots → W p l e R s m args below meth c H locs cells slots (fx_Z D below s h0 (fx_oI Q E)) (F0 m 5 ls [])) (fun X5 st hX5 hw => ?_)
  obtain ⟨x3, x4, h⟩ := st
  replace hw : m_Cert_digits_5_b Q E X5 r0 x1 x2 x3 x4 h := hw
  unfold m_Cert_digits_5_b at hw
  intro ls H locs cells slots hv F
  refine lv_iload C.ex C.by d_Cert_digits_5 (lv_at hv 4 rfl) ?_
  refine lv_iload_n C.ex C.by d_Cert_digits_7 rfl (lv_at hv 1 rfl) ?_
  refine lv_iload_n C.ex C.by d_Cert_digits_8 rfl (lv_at hv 2 rfl) ?_
  refine lv_iadd C.ex C.by d_Cert_digits_9 ?_
  refine lv_icmp_ge C.ex C.by d_Cert_digits_10 rfl (fun hc => ?_) (fun hc => ?_)
  · replace hw := hw.1 hc
    refine lv_iload_n C.ex C.by d_Cert_digits_63 rfl (lv_at hv 3 rfl) ?_
    exact fx_iret C F d_Cert_digits_64 (Or.inl ⟨_, rfl, hw⟩)
  · replace hw := hw.2 hc
    refine lv_aload_n C.ex C.by d_Cert_digits_13 rfl (lv_at hv 0 rfl) ?_
    obtain ⟨hk1, hw⟩ := hw
    obtain ⟨b1, hb1, hw⟩ := hw
    refine fx_getR C F lf_Cert_16 hk1 rfl hb1 d_Cert_digits_14 ?_
    refine lv_iload C.ex C.by d_Cert_digits_17 (lv_at hv 4 rfl) ?_
    obtain ⟨hk2, hw⟩ := hw
    obtain ⟨hi1, hw⟩ := hw
    refine fx_bald C F hk2 hi1 d_Cert_digits_19 (fun h8 => ?_)
    replace hw := hw h8
    refine lv_bipush (v := (48 : Int32)) C.ex C.by d_Cert_digits_20 (by decide) ?_
    refine lv_icmp_lt C.ex C.by d_Cert_digits_22 rfl (fun hc => ?_) (fun hc => ?_)
    · replace hw := hw.1 hc
      exact b_Cert_digits_37 C hl _ hw _ _ _ _ _ (lv_sub hv [] rfl) F
    · replace hw := hw.2 hc
      refine lv_aload_n C.ex C.by d_Cert_digits_25 rfl (lv_at hv 0 rfl) ?_
      refine fx_getR C F lf_Cert_16 hk1 rfl hb1 d_Cert_digits_26 ?_
      refine lv_iload C.ex C.by d_Cert_digits_29 (lv_at hv 4 rfl) ?_
      obtain ⟨hi2, hw⟩ := hw
      refine fx_bald C F hk2 hi2 d_Cert_digits_31 (fun h8 => ?_)
      replace hw := hw h8
      refine lv_bipush (v := (57 : Int32)) C.ex C.by d_Cert_digits_32 (by decide) ?_
      refine lv_icmp_le C.ex C.by d_Cert_digits_34 rfl (fun hc => ?_) (fun hc => ?_)
      · replace hw := hw.1 hc
        refine lv_iload_n C.ex C.by d_Cert_digits_41 rfl (lv_at hv 3 rfl) ?_
        refine lv_bipush (v := (10 : Int32)) C.ex C.by d_Cert_digits_42 (by decide) ?_
        refine lv_imul C.ex C.by d_Cert_digits_44 ?_
        refine lv_aload_n C.ex C.by d_Cert_digits_45 rfl (lv_at hv 0 rfl) ?_
        refine fx_getR C F lf_Cert_16 hk1 rfl hb1 d_Cert_digits_46 ?_
        refine lv_iload C.ex C.by d_Cert_digits_49 (lv_at hv 4 rfl) ?_
        obtain ⟨hi3, hw⟩ := hw
        refine fx_bald C F hk2 hi3 d_Cert_digits_51 (fun h8 => ?_)
        replace hw := hw h8
        refine lv_iadd C.ex C.by d_Cert_digits_52 ?_
        refine lv_bipush (v := (48 : Int32)) C.ex C.by d_Cert_digits_53 (by decide) ?_
        refine lv_isub C.ex C.by d_Cert_digits_55 ?_
        let v1 : Int32 := (((x3 * (10 : Int32)) + (hp_I h b1 x4.toNatClampNeg)) - (48 : Int32))
        replace hw := hw v1 rfl
        refine lv_istore_n (lv' := [(3, .int v1), (0, .ref r0), (1, .int x1), (2, .int x2), (4, .int x4)]) C.ex C.by d_Cert_digits_56 rfl hv (by decide) rfl (fun ls hv => ?_)
        let v2 : Int32 := (x4 + (1 : Int32))
        replace hw := hw v2 rfl
        refine lv_iinc (v := v2) (k := 4) (lv' := [(4, .int v2), (3, .int v1), (0, .ref r0), (1, .int x1), (2, .int x2)]) C.ex C.by d_Cert_digits_57 hv rfl (congrArg (fun z => x4 + z) (by decide)) (by decide) rfl (fun ls hv => ?_)
        refine lv_goto C.ex C.by d_Cert_digits_60 rfl ?_
        exact hX5 _ hw _ _ _ _ _ (lv_sub hv [2, 3, 4, 1, 0] rfl) F
      · replace hw := hw.2 hc
        exact b_Cert_digits_37 C hl _ hw _ _ _ _ _ (lv_sub hv [] rfl) F
theorem b_Cert_digits_0 {p : Program} {l : Launch} {e : Env} {R : Room} {s : State} {m : MethodId} {args : Array Value} {below : List Frame} {meth : Method} {c : Code} {D : DD} {h0 : AH} {Q : Int32 → AH → Prop} {E : Nat → AH → Prop} (C : fx_CX D y_Cert_digits prog_2_method_6_code 5 7 92 (Option.some FieldType.int) [] h0 p R s m meth c) (hl : l.flags = flags0) (r0 : Nat) (x1 : Int32) (x2 : Int32) (h : AH) (hw : m_Cert_digits Q E r0 x1 x2 h) : ∀ (ls : Array Slot) (H : Heap) (locs : List Loc) (cells slots : Nat), lv_has ls 5 [(0, .ref r0), (1, .int x1), (2, .int x2)] → fx_F D h0 h H locs cells slots → W p l e R s m args below meth c H locs cells slots (fx_Z D below s h0 (fx_oI Q E)) (F0 m 0 ls []) := by
  unfold m_Cert_digits at hw
  intro ls H locs cells slots hv F
  refine lv_iconst (v := (0 : Int32)) C.ex C.by d_Cert_digits_0 (by decide) ?_
  refine lv_istore_n (lv' := [(3, .int (0 : Int32)), (0, .ref r0), (1, .int x1), (2, .int x2)]) C.ex C.by d_Cert_digits_1 rfl hv (by decide) rfl (fun ls hv => ?_)
  refine lv_iload_n C.ex C.by d_Cert_digits_2 rfl (lv_at hv 2 rfl) ?_
  refine lv_istore (lv' := [(4, .int x1), (3, .int (0 : Int32)), (0, .ref r0), (1, .int x1), (2, .int x2)]) C.ex C.by d_Cert_digits_3 hv (by decide) rfl (fun ls hv => ?_)
  exact b_Cert_digits_5 C hl _ _ _ _ _ _ hw _ _ _ _ _ (lv_sub hv [2, 3, 4, 1, 0] rfl) F
theorem hm_Cert_digits : fx_hd y_Cert_digits prog_2_method_6_code 5 (Option.some FieldType.int) [] ∈ tables_1 := (fx_m3 (List.mem_of_getElem? (i := 192) rfl))
theorem hi_Cert_digits : Cond.initialized y_Cert_digits.cls ∈ tables_1 := (fx_m1 (List.mem_of_getElem? (i := 11) rfl))
theorem c_Cert_digits {l : Launch} (hl : l.flags = flags0) {D : DD} {Q : Int32 → AH → Prop} {E : Nat → AH → Prop} {r0 : Nat} {x1 : Int32} {x2 : Int32} {h : AH} (hw : m_Cert_digits Q E r0 x1 x2 h) : fx_Mt l D y_Cert_digits (fx_hd y_Cert_digits prog_2_method_6_code 5 (Option.some FieldType.int) []) 7 92 [.ref r0, .int x1, .int x2] h (fx_oI Q E) := by
  refine fx_ofW (plainFor_of_name (by decide)) (fun p e s m below meth c C F => ?_)
  have hv := lv_entry ([.ref r0, .int x1, .int x2]) (n := 5) (Nat.le_of_ble_eq_true rfl)
  rw [lg_entry_eq]
  generalize (lg_sl ([.ref r0, .int x1, .int x2]) ++ List.replicate (5 - (lg_sl ([.ref r0, .int x1, .int x2])).length) Slot.unset).toArray = ls at hv ⊢
  have hv : lv_has ls 5 [(0, .ref r0), (1, .int x1), (2, .int x2)] := hv
  exact b_Cert_digits_0 C hl _ _ _ _ hw _ _ _ _ _ hv F
/-! ChainJudge.monthDays(II)I: frames 0, words 0 -/
abbrev y_J_monthDays : MethodName := ⟨"ChainJudge", "monthDays", "(II)I"⟩
def dl_J_monthDays : List (Nat × Instr × Nat) := [(0, .iload_n 1, 1), (1, .iconst 2, 1), (2, .if_icmp .ne 32, 3), (5, .iload_n 0, 1), (6, .iconst 4, 1), (7, .irem, 1), (8, .ifCond .ne 23, 3), (11, .iload_n 0, 1), (12, .bipush 100, 2), (14, .irem, 1), (15, .ifCond .ne 11, 3), (18, .iload_n 0, 1), (19, .sipush 400, 3), (22, .irem, 1), (23, .ifCond .ne 8, 3), (26, .bipush 29, 2), (28, .goto 5, 3), (31, .bipush 28, 2), (33, .ireturn, 1), (34, .iload_n 1, 1), (35, .iconst 4, 1), (36, .if_icmp .eq 21, 3), (39, .iload_n 1, 1), (40, .bipush 6, 2), (42, .if_icmp .eq 15, 3), (45, .iload_n 1, 1), (46, .bipush 9, 2), (48, .if_icmp .eq 9, 3), (51, .iload_n 1, 1), (52, .bipush 11, 2), (54, .if_icmp .ne 8, 3), (57, .bipush 30, 2), (59, .goto 5, 3), (62, .bipush 31, 2), (64, .ireturn, 1)]
theorem dk_J_monthDays : fx_dec prog_1_method_3_code dl_J_monthDays = true := by decide +kernel
theorem d_J_monthDays_0 : decode prog_1_method_3_code 0 = .ok (.iload_n 1, 1) := fx_dat dk_J_monthDays 0 rfl
theorem d_J_monthDays_1 : decode prog_1_method_3_code 1 = .ok (.iconst 2, 1) := fx_dat dk_J_monthDays 1 rfl
theorem d_J_monthDays_2 : decode prog_1_method_3_code 2 = .ok (.if_icmp .ne 32, 3) := fx_dat dk_J_monthDays 2 rfl
theorem d_J_monthDays_5 : decode prog_1_method_3_code 5 = .ok (.iload_n 0, 1) := fx_dat dk_J_monthDays 3 rfl
theorem d_J_monthDays_6 : decode prog_1_method_3_code 6 = .ok (.iconst 4, 1) := fx_dat dk_J_monthDays 4 rfl
theorem d_J_monthDays_7 : decode prog_1_method_3_code 7 = .ok (.irem, 1) := fx_dat dk_J_monthDays 5 rfl
theorem d_J_monthDays_8 : decode prog_1_method_3_code 8 = .ok (.ifCond .ne 23, 3) := fx_dat dk_J_monthDays 6 rfl
theorem d_J_monthDays_11 : decode prog_1_method_3_code 11 = .ok (.iload_n 0, 1) := fx_dat dk_J_monthDays 7 rfl
theorem d_J_monthDays_12 : decode prog_1_method_3_code 12 = .ok (.bipush 100, 2) := fx_dat dk_J_monthDays 8 rfl
theorem d_J_monthDays_14 : decode prog_1_method_3_code 14 = .ok (.irem, 1) := fx_dat dk_J_monthDays 9 rfl
theorem d_J_monthDays_15 : decode prog_1_method_3_code 15 = .ok (.ifCond .ne 11, 3) := fx_dat dk_J_monthDays 10 rfl
theorem d_J_monthDays_18 : decode prog_1_method_3_code 18 = .ok (.iload_n 0, 1) := fx_dat dk_J_monthDays 11 rfl
theorem d_J_monthDays_19 : decode prog_1_method_3_code 19 = .ok (.sipush 400, 3) := fx_dat dk_J_monthDays 12 rfl
theorem d_J_monthDays_22 : decode prog_1_method_3_code 22 = .ok (.irem, 1) := fx_dat dk_J_monthDays 13 rfl
theorem d_J_monthDays_23 : decode prog_1_method_3_code 23 = .ok (.ifCond .ne 8, 3) := fx_dat dk_J_monthDays 14 rfl
theorem d_J_monthDays_26 : decode prog_1_method_3_code 26 = .ok (.bipush 29, 2) := fx_dat dk_J_monthDays 15 rfl
theorem d_J_monthDays_28 : decode prog_1_method_3_code 28 = .ok (.goto 5, 3) := fx_dat dk_J_monthDays 16 rfl
theorem d_J_monthDays_31 : decode prog_1_method_3_code 31 = .ok (.bipush 28, 2) := fx_dat dk_J_monthDays 17 rfl
theorem d_J_monthDays_33 : decode prog_1_method_3_code 33 = .ok (.ireturn, 1) := fx_dat dk_J_monthDays 18 rfl
theorem d_J_monthDays_34 : decode prog_1_method_3_code 34 = .ok (.iload_n 1, 1) := fx_dat dk_J_monthDays 19 rfl
theorem d_J_monthDays_35 : decode prog_1_method_3_code 35 = .ok (.iconst 4, 1) := fx_dat dk_J_monthDays 20 rfl
theorem d_J_monthDays_36 : decode prog_1_method_3_code 36 = .ok (.if_icmp .eq 21, 3) := fx_dat dk_J_monthDays 21 rfl
theorem d_J_monthDays_39 : decode prog_1_method_3_code 39 = .ok (.iload_n 1, 1) := fx_dat dk_J_monthDays 22 rfl
theorem d_J_monthDays_40 : decode prog_1_method_3_code 40 = .ok (.bipush 6, 2) := fx_dat dk_J_monthDays 23 rfl
theorem d_J_monthDays_42 : decode prog_1_method_3_code 42 = .ok (.if_icmp .eq 15, 3) := fx_dat dk_J_monthDays 24 rfl
theorem d_J_monthDays_45 : decode prog_1_method_3_code 45 = .ok (.iload_n 1, 1) := fx_dat dk_J_monthDays 25 rfl
theorem d_J_monthDays_46 : decode prog_1_method_3_code 46 = .ok (.bipush 9, 2) := fx_dat dk_J_monthDays 26 rfl
theorem d_J_monthDays_48 : decode prog_1_method_3_code 48 = .ok (.if_icmp .eq 9, 3) := fx_dat dk_J_monthDays 27 rfl
theorem d_J_monthDays_51 : decode prog_1_method_3_code 51 = .ok (.iload_n 1, 1) := fx_dat dk_J_monthDays 28 rfl
theorem d_J_monthDays_52 : decode prog_1_method_3_code 52 = .ok (.bipush 11, 2) := fx_dat dk_J_monthDays 29 rfl
theorem d_J_monthDays_54 : decode prog_1_method_3_code 54 = .ok (.if_icmp .ne 8, 3) := fx_dat dk_J_monthDays 30 rfl
theorem d_J_monthDays_57 : decode prog_1_method_3_code 57 = .ok (.bipush 30, 2) := fx_dat dk_J_monthDays 31 rfl
theorem d_J_monthDays_59 : decode prog_1_method_3_code 59 = .ok (.goto 5, 3) := fx_dat dk_J_monthDays 32 rfl
theorem d_J_monthDays_62 : decode prog_1_method_3_code 62 = .ok (.bipush 31, 2) := fx_dat dk_J_monthDays 33 rfl
theorem d_J_monthDays_64 : decode prog_1_method_3_code 64 = .ok (.ireturn, 1) := fx_dat dk_J_monthDays 34 rfl
def m_J_monthDays_64 (Q : Int32 → AH → Prop) (sx0 : Int32) (h : AH) : Prop := Q sx0 h
def m_J_monthDays_57 (Q : Int32 → AH → Prop) (h : AH) : Prop := m_J_monthDays_64 Q (30 : Int32) h
def m_J_monthDays_33 (Q : Int32 → AH → Prop) (sx0 : Int32) (h : AH) : Prop := Q sx0 h
def m_J_monthDays_31 (Q : Int32 → AH → Prop) (h : AH) : Prop := m_J_monthDays_33 Q (28 : Int32) h
def m_J_monthDays_26 (Q : Int32 → AH → Prop) (h : AH) : Prop := m_J_monthDays_33 Q (29 : Int32) h
def m_J_monthDays (Q : Int32 → AH → Prop) (x0 : Int32) (x1 : Int32) (h : AH) : Prop := (¬ x1 = (2 : Int32) → (x1 = (4 : Int32) → m_J_monthDays_57 Q h) ∧ (¬ x1 = (4 : Int32) → (x1 = (6 : Int32) → m_J_monthDays_57 Q h) ∧ (¬ x1 = (6 : Int32) → (x1 = (9 : Int32) → m_J_monthDays_57 Q h) ∧ (¬ x1 = (9 : Int32) → (¬ x1 = (11 : Int32) → m_J_monthDays_64 Q (31 : Int32) h) ∧ (x1 = (11 : Int32) → m_J_monthDays_57 Q h))))) ∧ (x1 = (2 : Int32) → (¬ (x0 - x0 / (4 : Int32) * (4 : Int32)) = 0 → m_J_monthDays_31 Q h) ∧ ((x0 - x0 / (4 : Int32) * (4 : Int32)) = 0 → (¬ (x0 - x0 / (100 : Int32) * (100 : Int32)) = 0 → m_J_monthDays_26 Q h) ∧ ((x0 - x0 / (100 : Int32) * (100 : Int32)) = 0 → (¬ (x0 - x0 / (400 : Int32) * (400 : Int32)) = 0 → m_J_monthDays_31 Q h) ∧ ((x0 - x0 / (400 : Int32) * (400 : Int32)) = 0 → m_J_monthDays_26 Q h))))
theorem b_J_monthDays_64 {p : Program} {l : Launch} {e : Env} {R : Room} {s : State} {m : MethodId} {args : Array Value} {below : List Frame} {meth : Method} {c : Code} {D : DD} {h0 : AH} {Q : Int32 → AH → Prop} (C : fx_CX D y_J_monthDays prog_1_method_3_code 2 0 0 (Option.some FieldType.int) [] h0 p R s m meth c) (hl : l.flags = flags0) (sx0 : Int32) (h : AH) (hw : m_J_monthDays_64 Q sx0 h) : ∀ (ls : Array Slot) (H : Heap) (locs : List Loc) (cells slots : Nat), lv_has ls 2 [] → fx_F D h0 h H locs cells slots → W p l e R s m args below meth c H locs cells slots (fx_Z D below s h0 (fx_oI Q fx_no)) (F0 m 64 ls [.int sx0]) := by
  unfold m_J_monthDays_64 at hw
  intro ls H locs cells slots hv F
  exact fx_iret C F d_J_monthDays_64 (Or.inl ⟨_, rfl, hw⟩)
theorem b_J_monthDays_57 {p : Program} {l : Launch} {e : Env} {R : Room} {s : State} {m : MethodId} {args : Array Value} {below : List Frame} {meth : Method} {c : Code} {D : DD} {h0 : AH} {Q : Int32 → AH → Prop} (C : fx_CX D y_J_monthDays prog_1_method_3_code 2 0 0 (Option.some FieldType.int) [] h0 p R s m meth c) (hl : l.flags = flags0) (h : AH) (hw : m_J_monthDays_57 Q h) : ∀ (ls : Array Slot) (H : Heap) (locs : List Loc) (cells slots : Nat), lv_has ls 2 [] → fx_F D h0 h H locs cells slots → W p l e R s m args below meth c H locs cells slots (fx_Z D below s h0 (fx_oI Q fx_no)) (F0 m 57 ls []) := by
  unfold m_J_monthDays_57 at hw
  intro ls H locs cells slots hv F
  refine lv_bipush (v := (30 : Int32)) C.ex C.by d_J_monthDays_57 (by decide) ?_
  refine lv_goto C.ex C.by d_J_monthDays_59 rfl ?_
  exact b_J_monthDays_64 C hl _ _ hw _ _ _ _ _ hv F
theorem b_J_monthDays_33 {p : Program} {l : Launch} {e : Env} {R : Room} {s : State} {m : MethodId} {args : Array Value} {below : List Frame} {meth : Method} {c : Code} {D : DD} {h0 : AH} {Q : Int32 → AH → Prop} (C : fx_CX D y_J_monthDays prog_1_method_3_code 2 0 0 (Option.some FieldType.int) [] h0 p R s m meth c) (hl : l.flags = flags0) (sx0 : Int32) (h : AH) (hw : m_J_monthDays_33 Q sx0 h) : ∀ (ls : Array Slot) (H : Heap) (locs : List Loc) (cells slots : Nat), lv_has ls 2 [] → fx_F D h0 h H locs cells slots → W p l e R s m args below meth c H locs cells slots (fx_Z D below s h0 (fx_oI Q fx_no)) (F0 m 33 ls [.int sx0]) := by
  unfold m_J_monthDays_33 at hw
  intro ls H locs cells slots hv F
  exact fx_iret C F d_J_monthDays_33 (Or.inl ⟨_, rfl, hw⟩)
theorem b_J_monthDays_31 {p : Program} {l : Launch} {e : Env} {R : Room} {s : State} {m : MethodId} {args : Array Value} {below : List Frame} {meth : Method} {c : Code} {D : DD} {h0 : AH} {Q : Int32 → AH → Prop} (C : fx_CX D y_J_monthDays prog_1_method_3_code 2 0 0 (Option.some FieldType.int) [] h0 p R s m meth c) (hl : l.flags = flags0) (h : AH) (hw : m_J_monthDays_31 Q h) : ∀ (ls : Array Slot) (H : Heap) (locs : List Loc) (cells slots : Nat), lv_has ls 2 [] → fx_F D h0 h H locs cells slots → W p l e R s m args below meth c H locs cells slots (fx_Z D below s h0 (fx_oI Q fx_no)) (F0 m 31 ls []) := by
  unfold m_J_monthDays_31 at hw
  intro ls H locs cells slots hv F
  refine lv_bipush (v := (28 : Int32)) C.ex C.by d_J_monthDays_31 (by decide) ?_
  exact b_J_monthDays_33 C hl _ _ hw _ _ _ _ _ hv F
theorem b_J_monthDays_26 {p : Program} {l : Launch} {e : Env} {R : Room} {s : State} {m : MethodId} {args : Array Value} {below : List Frame} {meth : Method} {c : Code} {D : DD} {h0 : AH} {Q : Int32 → AH → Prop} (C : fx_CX D y_J_monthDays prog_1_method_3_code 2 0 0 (Option.some FieldType.int) [] h0 p R s m meth c) (hl : l.flags = flags0) (h : AH) (hw : m_J_monthDays_26 Q h) : ∀ (ls : Array Slot) (H : Heap) (locs : List Loc) (cells slots : Nat), lv_has ls 2 [] → fx_F D h0 h H locs cells slots → W p l e R s m args below meth c H locs cells slots (fx_Z D below s h0 (fx_oI Q fx_no)) (F0 m 26 ls []) := by
  unfold m_J_monthDays_26 at hw
  intro ls H locs cells slots hv F
  refine lv_bipush (v := (29 : Int32)) C.ex C.by d_J_monthDays_26 (by decide) ?_
  refine lv_goto C.ex C.by d_J_monthDays_28 rfl ?_
  exact b_J_monthDays_33 C hl _ _ hw _ _ _ _ _ hv F
theorem b_J_monthDays_0 {p : Program} {l : Launch} {e : Env} {R : Room} {s : State} {m : MethodId} {args : Array Value} {below : List Frame} {meth : Method} {c : Code} {D : DD} {h0 : AH} {Q : Int32 → AH → Prop} (C : fx_CX D y_J_monthDays prog_1_method_3_code 2 0 0 (Option.some FieldType.int) [] h0 p R s m meth c) (hl : l.flags = flags0) (x0 : Int32) (x1 : Int32) (h : AH) (hw : m_J_monthDays Q x0 x1 h) : ∀ (ls : Array Slot) (H : Heap) (locs : List Loc) (cells slots : Nat), lv_has ls 2 [(0, .int x0), (1, .int x1)] → fx_F D h0 h H locs cells slots → W p l e R s m args below meth c H locs cells slots (fx_Z D below s h0 (fx_oI Q fx_no)) (F0 m 0 ls []) := by
  unfold m_J_monthDays at hw
  intro ls H locs cells slots hv F
  refine lv_iload_n C.ex C.by d_J_monthDays_0 rfl (lv_at hv 1 rfl) ?_
  refine lv_iconst (v := (2 : Int32)) C.ex C.by d_J_monthDays_1 (by decide) ?_
  refine lv_icmp_ne C.ex C.by d_J_monthDays_2 rfl (fun hc => ?_) (fun hc => ?_)
  · replace hw := hw.1 hc
    refine lv_iload_n C.ex C.by d_J_monthDays_34 rfl (lv_at hv 1 rfl) ?_
    refine lv_iconst (v := (4 : Int32)) C.ex C.by d_J_monthDays_35 (by decide) ?_
    refine lv_icmp_eq C.ex C.by d_J_monthDays_36 rfl (fun hc => ?_) (fun hc => ?_)
    · replace hw := hw.1 hc
      exact b_J_monthDays_57 C hl _ hw _ _ _ _ _ (lv_sub hv [] rfl) F
    · replace hw := hw.2 hc
      refine lv_iload_n C.ex C.by d_J_monthDays_39 rfl (lv_at hv 1 rfl) ?_
      refine lv_bipush (v := (6 : Int32)) C.ex C.by d_J_monthDays_40 (by decide) ?_
      refine lv_icmp_eq C.ex C.by d_J_monthDays_42 rfl (fun hc => ?_) (fun hc => ?_)
      · replace hw := hw.1 hc
        exact b_J_monthDays_57 C hl _ hw _ _ _ _ _ (lv_sub hv [] rfl) F
      · replace hw := hw.2 hc
        refine lv_iload_n C.ex C.by d_J_monthDays_45 rfl (lv_at hv 1 rfl) ?_
        refine lv_bipush (v := (9 : Int32)) C.ex C.by d_J_monthDays_46 (by decide) ?_
        refine lv_icmp_eq C.ex C.by d_J_monthDays_48 rfl (fun hc => ?_) (fun hc => ?_)
        · replace hw := hw.1 hc
          exact b_J_monthDays_57 C hl _ hw _ _ _ _ _ (lv_sub hv [] rfl) F
        · replace hw := hw.2 hc
          refine lv_iload_n C.ex C.by d_J_monthDays_51 rfl (lv_at hv 1 rfl) ?_
          refine lv_bipush (v := (11 : Int32)) C.ex C.by d_J_monthDays_52 (by decide) ?_
          refine lv_icmp_ne C.ex C.by d_J_monthDays_54 rfl (fun hc => ?_) (fun hc => ?_)
          · replace hw := hw.1 hc
            refine lv_bipush (v := (31 : Int32)) C.ex C.by d_J_monthDays_62 (by decide) ?_
            exact b_J_monthDays_64 C hl _ _ hw _ _ _ _ _ (lv_sub hv [] rfl) F
          · replace hw := hw.2 hc
            exact b_J_monthDays_57 C hl _ hw _ _ _ _ _ (lv_sub hv [] rfl) F
  · replace hw := hw.2 hc
    refine lv_iload_n C.ex C.by d_J_monthDays_5 rfl (lv_at hv 0 rfl) ?_
    refine lv_iconst (v := (4 : Int32)) C.ex C.by d_J_monthDays_6 (by decide) ?_
    refine lv_irem C.ex C.by d_J_monthDays_7 (by decide) ?_
    refine lv_if_ne C.ex C.by d_J_monthDays_8 rfl (fun hc => ?_) (fun hc => ?_)
    · replace hw := hw.1 hc
      exact b_J_monthDays_31 C hl _ hw _ _ _ _ _ (lv_sub hv [] rfl) F
    · replace hw := hw.2 hc
      refine lv_iload_n C.ex C.by d_J_monthDays_11 rfl (lv_at hv 0 rfl) ?_
      refine lv_bipush (v := (100 : Int32)) C.ex C.by d_J_monthDays_12 (by decide) ?_
      refine lv_irem C.ex C.by d_J_monthDays_14 (by decide) ?_
      refine lv_if_ne C.ex C.by d_J_monthDays_15 rfl (fun hc => ?_) (fun hc => ?_)
      · replace hw := hw.1 hc
        exact b_J_monthDays_26 C hl _ hw _ _ _ _ _ (lv_sub hv [] rfl) F
      · replace hw := hw.2 hc
        refine lv_iload_n C.ex C.by d_J_monthDays_18 rfl (lv_at hv 0 rfl) ?_
        refine lv_sipush (v := (400 : Int32)) C.ex C.by d_J_monthDays_19 (by decide) ?_
        refine lv_irem C.ex C.by d_J_monthDays_22 (by decide) ?_
        refine lv_if_ne C.ex C.by d_J_monthDays_23 rfl (fun hc => ?_) (fun hc => ?_)
        · replace hw := hw.1 hc
          exact b_J_monthDays_31 C hl _ hw _ _ _ _ _ (lv_sub hv [] rfl) F
        · replace hw := hw.2 hc
          exact b_J_monthDays_26 C hl _ hw _ _ _ _ _ (lv_sub hv [] rfl) F
theorem hm_J_monthDays : fx_hd y_J_monthDays prog_1_method_3_code 2 (Option.some FieldType.int) [] ∈ tables_1 := (fx_m3 (List.mem_of_getElem? (i := 195) rfl))
theorem hi_J_monthDays : Cond.initialized y_J_monthDays.cls ∈ tables_1 := (fx_m1 (List.mem_of_getElem? (i := 1) rfl))
theorem c_J_monthDays {l : Launch} (hl : l.flags = flags0) {D : DD} {Q : Int32 → AH → Prop} {x0 : Int32} {x1 : Int32} {h : AH} (hw : m_J_monthDays Q x0 x1 h) : fx_Mt l D y_J_monthDays (fx_hd y_J_monthDays prog_1_method_3_code 2 (Option.some FieldType.int) []) 0 0 [.int x0, .int x1] h (fx_oI Q fx_no) := by
  refine fx_ofW (plainFor_of_name (by decide)) (fun p e s m below meth c C F => ?_)
  have hv := lv_entry ([.int x0, .int x1]) (n := 2) (Nat.le_of_ble_eq_true rfl)
  rw [lg_entry_eq]
  generalize (lg_sl ([.int x0, .int x1]) ++ List.replicate (2 - (lg_sl ([.int x0, .int x1])).length) Slot.unset).toArray = ls at hv ⊢
  have hv : lv_has ls 2 [(0, .int x0), (1, .int x1)] := hv
  exact b_J_monthDays_0 C hl _ _ _ hw _ _ _ _ _ hv F
/-! ChainJudge.days(III)J: frames 0, words 0 -/
abbrev y_J_days : MethodName := ⟨"ChainJudge", "days", "(III)J"⟩
def dl_J_days : List (Nat × Instr × Nat) := [(0, .iload_n 1, 1), (1, .iconst 3, 1), (2, .if_icmp .ge 9, 3), (5, .iload_n 0, 1), (6, .iconst 1, 1), (7, .isub, 1), (8, .goto 4, 3), (11, .iload_n 0, 1), (12, .istore_n 3, 1), (13, .iload_n 1, 1), (14, .iconst 3, 1), (15, .if_icmp .ge 10, 3), (18, .iload_n 1, 1), (19, .bipush 9, 2), (21, .iadd, 1), (22, .goto 6, 3), (25, .iload_n 1, 1), (26, .iconst 3, 1), (27, .isub, 1), (28, .istore 4, 2), (30, .ldc2_w 1, 3), (33, .iload_n 3, 1), (34, .i2l, 1), (35, .lmul, 1), (36, .iload_n 3, 1), (37, .iconst 4, 1), (38, .idiv, 1), (39, .i2l, 1), (40, .ladd, 1), (41, .iload_n 3, 1), (42, .bipush 100, 2), (44, .idiv, 1), (45, .i2l, 1), (46, .lsub, 1), (47, .iload_n 3, 1), (48, .sipush 400, 3), (51, .idiv, 1), (52, .i2l, 1), (53, .ladd, 1), (54, .sipush 153, 3), (57, .iload 4, 2), (59, .imul, 1), (60, .iconst 2, 1), (61, .iadd, 1), (62, .iconst 5, 1), (63, .idiv, 1), (64, .i2l, 1), (65, .ladd, 1), (66, .iload_n 2, 1), (67, .i2l, 1), (68, .ladd, 1), (69, .lconst 1, 1), (70, .lsub, 1), (71, .ldc2_w 3, 3), (74, .lsub, 1), (75, .lreturn, 1)]
theorem dk_J_days : fx_dec prog_1_method_2_code dl_J_days = true := by decide +kernel
theorem d_J_days_0 : decode prog_1_method_2_code 0 = .ok (.iload_n 1, 1) := fx_dat dk_J_days 0 rfl
theorem d_J_days_1 : decode prog_1_method_2_code 1 = .ok (.iconst 3, 1) := fx_dat dk_J_days 1 rfl
theorem d_J_days_2 : decode prog_1_method_2_code 2 = .ok (.if_icmp .ge 9, 3) := fx_dat dk_J_days 2 rfl
theorem d_J_days_5 : decode prog_1_method_2_code 5 = .ok (.iload_n 0, 1) := fx_dat dk_J_days 3 rfl
theorem d_J_days_6 : decode prog_1_method_2_code 6 = .ok (.iconst 1, 1) := fx_dat dk_J_days 4 rfl
theorem d_J_days_7 : decode prog_1_method_2_code 7 = .ok (.isub, 1) := fx_dat dk_J_days 5 rfl
theorem d_J_days_8 : decode prog_1_method_2_code 8 = .ok (.goto 4, 3) := fx_dat dk_J_days 6 rfl
theorem d_J_days_11 : decode prog_1_method_2_code 11 = .ok (.iload_n 0, 1) := fx_dat dk_J_days 7 rfl
theorem d_J_days_12 : decode prog_1_method_2_code 12 = .ok (.istore_n 3, 1) := fx_dat dk_J_days 8 rfl
theorem d_J_days_13 : decode prog_1_method_2_code 13 = .ok (.iload_n 1, 1) := fx_dat dk_J_days 9 rfl
theorem d_J_days_14 : decode prog_1_method_2_code 14 = .ok (.iconst 3, 1) := fx_dat dk_J_days 10 rfl
theorem d_J_days_15 : decode prog_1_method_2_code 15 = .ok (.if_icmp .ge 10, 3) := fx_dat dk_J_days 11 rfl
theorem d_J_days_18 : decode prog_1_method_2_code 18 = .ok (.iload_n 1, 1) := fx_dat dk_J_days 12 rfl
theorem d_J_days_19 : decode prog_1_method_2_code 19 = .ok (.bipush 9, 2) := fx_dat dk_J_days 13 rfl
theorem d_J_days_21 : decode prog_1_method_2_code 21 = .ok (.iadd, 1) := fx_dat dk_J_days 14 rfl
theorem d_J_days_22 : decode prog_1_method_2_code 22 = .ok (.goto 6, 3) := fx_dat dk_J_days 15 rfl
theorem d_J_days_25 : decode prog_1_method_2_code 25 = .ok (.iload_n 1, 1) := fx_dat dk_J_days 16 rfl
theorem d_J_days_26 : decode prog_1_method_2_code 26 = .ok (.iconst 3, 1) := fx_dat dk_J_days 17 rfl
theorem d_J_days_27 : decode prog_1_method_2_code 27 = .ok (.isub, 1) := fx_dat dk_J_days 18 rfl
theorem d_J_days_28 : decode prog_1_method_2_code 28 = .ok (.istore 4, 2) := fx_dat dk_J_days 19 rfl
theorem d_J_days_30 : decode prog_1_method_2_code 30 = .ok (.ldc2_w 1, 3) := fx_dat dk_J_days 20 rfl
theorem d_J_days_33 : decode prog_1_method_2_code 33 = .ok (.iload_n 3, 1) := fx_dat dk_J_days 21 rfl
theorem d_J_days_34 : decode prog_1_method_2_code 34 = .ok (.i2l, 1) := fx_dat dk_J_days 22 rfl
theorem d_J_days_35 : decode prog_1_method_2_code 35 = .ok (.lmul, 1) := fx_dat dk_J_days 23 rfl
theorem d_J_days_36 : decode prog_1_method_2_code 36 = .ok (.iload_n 3, 1) := fx_dat dk_J_days 24 rfl
theorem d_J_days_37 : decode prog_1_method_2_code 37 = .ok (.iconst 4, 1) := fx_dat dk_J_days 25 rfl
theorem d_J_days_38 : decode prog_1_method_2_code 38 = .ok (.idiv, 1) := fx_dat dk_J_days 26 rfl
theorem d_J_days_39 : decode prog_1_method_2_code 39 = .ok (.i2l, 1) := fx_dat dk_J_days 27 rfl
theorem d_J_days_40 : decode prog_1_method_2_code 40 = .ok (.ladd, 1) := fx_dat dk_J_days 28 rfl
theorem d_J_days_41 : decode prog_1_method_2_code 41 = .ok (.iload_n 3, 1) := fx_dat dk_J_days 29 rfl
theorem d_J_days_42 : decode prog_1_method_2_code 42 = .ok (.bipush 100, 2) := fx_dat dk_J_days 30 rfl
theorem d_J_days_44 : decode prog_1_method_2_code 44 = .ok (.idiv, 1) := fx_dat dk_J_days 31 rfl
theorem d_J_days_45 : decode prog_1_method_2_code 45 = .ok (.i2l, 1) := fx_dat dk_J_days 32 rfl
theorem d_J_days_46 : decode prog_1_method_2_code 46 = .ok (.lsub, 1) := fx_dat dk_J_days 33 rfl
theorem d_J_days_47 : decode prog_1_method_2_code 47 = .ok (.iload_n 3, 1) := fx_dat dk_J_days 34 rfl
theorem d_J_days_48 : decode prog_1_method_2_code 48 = .ok (.sipush 400, 3) := fx_dat dk_J_days 35 rfl
theorem d_J_days_51 : decode prog_1_method_2_code 51 = .ok (.idiv, 1) := fx_dat dk_J_days 36 rfl
theorem d_J_days_52 : decode prog_1_method_2_code 52 = .ok (.i2l, 1) := fx_dat dk_J_days 37 rfl
theorem d_J_days_53 : decode prog_1_method_2_code 53 = .ok (.ladd, 1) := fx_dat dk_J_days 38 rfl
theorem d_J_days_54 : decode prog_1_method_2_code 54 = .ok (.sipush 153, 3) := fx_dat dk_J_days 39 rfl
theorem d_J_days_57 : decode prog_1_method_2_code 57 = .ok (.iload 4, 2) := fx_dat dk_J_days 40 rfl
theorem d_J_days_59 : decode prog_1_method_2_code 59 = .ok (.imul, 1) := fx_dat dk_J_days 41 rfl
theorem d_J_days_60 : decode prog_1_method_2_code 60 = .ok (.iconst 2, 1) := fx_dat dk_J_days 42 rfl
theorem d_J_days_61 : decode prog_1_method_2_code 61 = .ok (.iadd, 1) := fx_dat dk_J_days 43 rfl
theorem d_J_days_62 : decode prog_1_method_2_code 62 = .ok (.iconst 5, 1) := fx_dat dk_J_days 44 rfl
theorem d_J_days_63 : decode prog_1_method_2_code 63 = .ok (.idiv, 1) := fx_dat dk_J_days 45 rfl
theorem d_J_days_64 : decode prog_1_method_2_code 64 = .ok (.i2l, 1) := fx_dat dk_J_days 46 rfl
theorem d_J_days_65 : decode prog_1_method_2_code 65 = .ok (.ladd, 1) := fx_dat dk_J_days 47 rfl
theorem d_J_days_66 : decode prog_1_method_2_code 66 = .ok (.iload_n 2, 1) := fx_dat dk_J_days 48 rfl
theorem d_J_days_67 : decode prog_1_method_2_code 67 = .ok (.i2l, 1) := fx_dat dk_J_days 49 rfl
theorem d_J_days_68 : decode prog_1_method_2_code 68 = .ok (.ladd, 1) := fx_dat dk_J_days 50 rfl
theorem d_J_days_69 : decode prog_1_method_2_code 69 = .ok (.lconst 1, 1) := fx_dat dk_J_days 51 rfl
theorem d_J_days_70 : decode prog_1_method_2_code 70 = .ok (.lsub, 1) := fx_dat dk_J_days 52 rfl
theorem d_J_days_71 : decode prog_1_method_2_code 71 = .ok (.ldc2_w 3, 3) := fx_dat dk_J_days 53 rfl
theorem d_J_days_74 : decode prog_1_method_2_code 74 = .ok (.lsub, 1) := fx_dat dk_J_days 54 rfl
theorem d_J_days_75 : decode prog_1_method_2_code 75 = .ok (.lreturn, 1) := fx_dat dk_J_days 55 rfl
def m_J_days_28 (Q : Int64 → AH → Prop) (x2 : Int32) (x3 : Int32) (sx0 : Int32) (h : AH) : Prop := Q (((((((((365 : Int64) * ((x3).toInt64)) + (((x3 / (4 : Int32))).toInt64)) - (((x3 / (100 : Int32))).toInt64)) + (((x3 / (400 : Int32))).toInt64)) + ((((((153 : Int32) * sx0) + (2 : Int32)) / (5 : Int32))).toInt64)) + ((x2).toInt64)) - (1 : Int64)) - (719468 : Int64)) h
def m_J_days_12 (Q : Int64 → AH → Prop) (x1 : Int32) (x2 : Int32) (sx0 : Int32) (h : AH) : Prop := ((3 : Int32) ≤ x1 → m_J_days_28 Q x2 sx0 (x1 - (3 : Int32)) h) ∧ (¬ (3 : Int32) ≤ x1 → m_J_days_28 Q x2 sx0 (x1 + (9 : Int32)) h)
def m_J_days (Q : Int64 → AH → Prop) (x0 : Int32) (x1 : Int32) (x2 : Int32) (h : AH) : Prop := ((3 : Int32) ≤ x1 → m_J_days_12 Q x1 x2 x0 h) ∧ (¬ (3 : Int32) ≤ x1 → m_J_days_12 Q x1 x2 (x0 - (1 : Int32)) h)
theorem b_J_days_28 {p : Program} {l : Launch} {e : Env} {R : Room} {s : State} {m : MethodId} {args : Array Value} {below : List Frame} {meth : Method} {c : Code} {D : DD} {h0 : AH} {Q : Int64 → AH → Prop} (C : fx_CX D y_J_days prog_1_method_2_code 5 0 0 (Option.some FieldType.long) [] h0 p R s m meth c) (hl : l.flags = flags0) (x2 : Int32) (x3 : Int32) (sx0 : Int32) (h : AH) (hw : m_J_days_28 Q x2 x3 sx0 h) : ∀ (ls : Array Slot) (H : Heap) (locs : List Loc) (cells slots : Nat), lv_has ls 5 [(2, .int x2), (3, .int x3)] → fx_F D h0 h H locs cells slots → W p l e R s m args below meth c H locs cells slots (fx_Z D below s h0 (fx_oL Q fx_no)) (F0 m 28 ls [.int sx0]) := by
  unfold m_J_days_28 at hw
  intro ls H locs cells slots hv F
  refine lv_istore (lv' := [(4, .int sx0), (2, .int x2), (3, .int x3)]) C.ex C.by d_J_days_28 hv (by decide) rfl (fun ls hv => ?_)
  refine lv_ldc2 (v := (365 : Int64)) C.ex C.by C.ow (C.tw.at (fx_m3 (List.mem_of_getElem? (i := 199) rfl)) rfl rfl) d_J_days_30 ?_
  refine lv_iload_n C.ex C.by d_J_days_33 rfl (lv_at hv 2 rfl) ?_
  refine lv_i2l (v := ((x3).toInt64)) C.ex C.by d_J_days_34 rfl ?_
  refine lv_lmul C.ex C.by d_J_days_35 ?_
  refine lv_iload_n C.ex C.by d_J_days_36 rfl (lv_at hv 2 rfl) ?_
  refine lv_iconst (v := (4 : Int32)) C.ex C.by d_J_days_37 (by decide) ?_
  refine lv_idiv C.ex C.by d_J_days_38 (by decide) ?_
  refine lv_i2l (v := (((x3 / (4 : Int32))).toInt64)) C.ex C.by d_J_days_39 rfl ?_
  refine lv_ladd C.ex C.by d_J_days_40 ?_
  refine lv_iload_n C.ex C.by d_J_days_41 rfl (lv_at hv 2 rfl) ?_
  refine lv_bipush (v := (100 : Int32)) C.ex C.by d_J_days_42 (by decide) ?_
  refine lv_idiv C.ex C.by d_J_days_44 (by decide) ?_
  refine lv_i2l (v := (((x3 / (100 : Int32))).toInt64)) C.ex C.by d_J_days_45 rfl ?_
  refine lv_lsub C.ex C.by d_J_days_46 ?_
  refine lv_iload_n C.ex C.by d_J_days_47 rfl (lv_at hv 2 rfl) ?_
  refine lv_sipush (v := (400 : Int32)) C.ex C.by d_J_days_48 (by decide) ?_
  refine lv_idiv C.ex C.by d_J_days_51 (by decide) ?_
  refine lv_i2l (v := (((x3 / (400 : Int32))).toInt64)) C.ex C.by d_J_days_52 rfl ?_
  refine lv_ladd C.ex C.by d_J_days_53 ?_
  refine lv_sipush (v := (153 : Int32)) C.ex C.by d_J_days_54 (by decide) ?_
  refine lv_iload C.ex C.by d_J_days_57 (lv_at hv 0 rfl) ?_
  refine lv_imul C.ex C.by d_J_days_59 ?_
  refine lv_iconst (v := (2 : Int32)) C.ex C.by d_J_days_60 (by decide) ?_
  refine lv_iadd C.ex C.by d_J_days_61 ?_
  refine lv_iconst (v := (5 : Int32)) C.ex C.by d_J_days_62 (by decide) ?_
  refine lv_idiv C.ex C.by d_J_days_63 (by decide) ?_
  refine lv_i2l (v := ((((((153 : Int32) * sx0) + (2 : Int32)) / (5 : Int32))).toInt64)) C.ex C.by d_J_days_64 rfl ?_
  refine lv_ladd C.ex C.by d_J_days_65 ?_
  refine lv_iload_n C.ex C.by d_J_days_66 rfl (lv_at hv 1 rfl) ?_
  refine lv_i2l (v := ((x2).toInt64)) C.ex C.by d_J_days_67 rfl ?_
  refine lv_ladd C.ex C.by d_J_days_68 ?_
  refine lv_lconst (v := (1 : Int64)) C.ex C.by d_J_days_69 (by decide) ?_
  refine lv_lsub C.ex C.by d_J_days_70 ?_
  refine lv_ldc2 (v := (719468 : Int64)) C.ex C.by C.ow (C.tw.at (fx_m3 (List.mem_of_getElem? (i := 200) rfl)) rfl rfl) d_J_days_71 ?_
  refine lv_lsub C.ex C.by d_J_days_74 ?_
  exact fx_lret C F d_J_days_75 (Or.inl ⟨_, rfl, hw⟩)
theorem b_J_days_12 {p : Program} {l : Launch} {e : Env} {R : Room} {s : State} {m : MethodId} {args : Array Value} {below : List Frame} {meth : Method} {c : Code} {D : DD} {h0 : AH} {Q : Int64 → AH → Prop} (C : fx_CX D y_J_days prog_1_method_2_code 5 0 0 (Option.some FieldType.long) [] h0 p R s m meth c) (hl : l.flags = flags0) (x1 : Int32) (x2 : Int32) (sx0 : Int32) (h : AH) (hw : m_J_days_12 Q x1 x2 sx0 h) : ∀ (ls : Array Slot) (H : Heap) (locs : List Loc) (cells slots : Nat), lv_has ls 5 [(1, .int x1), (2, .int x2)] → fx_F D h0 h H locs cells slots → W p l e R s m args below meth c H locs cells slots (fx_Z D below s h0 (fx_oL Q fx_no)) (F0 m 12 ls [.int sx0]) := by
  unfold m_J_days_12 at hw
  intro ls H locs cells slots hv F
  refine lv_istore_n (lv' := [(3, .int sx0), (1, .int x1), (2, .int x2)]) C.ex C.by d_J_days_12 rfl hv (by decide) rfl (fun ls hv => ?_)
  refine lv_iload_n C.ex C.by d_J_days_13 rfl (lv_at hv 1 rfl) ?_
  refine lv_iconst (v := (3 : Int32)) C.ex C.by d_J_days_14 (by decide) ?_
  refine lv_icmp_ge C.ex C.by d_J_days_15 rfl (fun hc => ?_) (fun hc => ?_)
  · replace hw := hw.1 hc
    refine lv_iload_n C.ex C.by d_J_days_25 rfl (lv_at hv 1 rfl) ?_
    refine lv_iconst (v := (3 : Int32)) C.ex C.by d_J_days_26 (by decide) ?_
    refine lv_isub C.ex C.by d_J_days_27 ?_
    exact b_J_days_28 C hl _ _ _ _ hw _ _ _ _ _ (lv_sub hv [2, 0] rfl) F
  · replace hw := hw.2 hc
    refine lv_iload_n C.ex C.by d_J_days_18 rfl (lv_at hv 1 rfl) ?_
    refine lv_bipush (v := (9 : Int32)) C.ex C.by d_J_days_19 (by decide) ?_
    refine lv_iadd C.ex C.by d_J_days_21 ?_
    refine lv_goto C.ex C.by d_J_days_22 rfl ?_
    exact b_J_days_28 C hl _ _ _ _ hw _ _ _ _ _ (lv_sub hv [2, 0] rfl) F
theorem b_J_days_0 {p : Program} {l : Launch} {e : Env} {R : Room} {s : State} {m : MethodId} {args : Array Value} {below : List Frame} {meth : Method} {c : Code} {D : DD} {h0 : AH} {Q : Int64 → AH → Prop} (C : fx_CX D y_J_days prog_1_method_2_code 5 0 0 (Option.some FieldType.long) [] h0 p R s m meth c) (hl : l.flags = flags0) (x0 : Int32) (x1 : Int32) (x2 : Int32) (h : AH) (hw : m_J_days Q x0 x1 x2 h) : ∀ (ls : Array Slot) (H : Heap) (locs : List Loc) (cells slots : Nat), lv_has ls 5 [(0, .int x0), (1, .int x1), (2, .int x2)] → fx_F D h0 h H locs cells slots → W p l e R s m args below meth c H locs cells slots (fx_Z D below s h0 (fx_oL Q fx_no)) (F0 m 0 ls []) := by
  unfold m_J_days at hw
  intro ls H locs cells slots hv F
  refine lv_iload_n C.ex C.by d_J_days_0 rfl (lv_at hv 1 rfl) ?_
  refine lv_iconst (v := (3 : Int32)) C.ex C.by d_J_days_1 (by decide) ?_
  refine lv_icmp_ge C.ex C.by d_J_days_2 rfl (fun hc => ?_) (fun hc => ?_)
  · replace hw := hw.1 hc
    refine lv_iload_n C.ex C.by d_J_days_11 rfl (lv_at hv 0 rfl) ?_
    exact b_J_days_12 C hl _ _ _ _ hw _ _ _ _ _ (lv_sub hv [1, 2] rfl) F
  · replace hw := hw.2 hc
    refine lv_iload_n C.ex C.by d_J_days_5 rfl (lv_at hv 0 rfl) ?_
    refine lv_iconst (v := (1 : Int32)) C.ex C.by d_J_days_6 (by decide) ?_
    refine lv_isub C.ex C.by d_J_days_7 ?_
    refine lv_goto C.ex C.by d_J_days_8 rfl ?_
    exact b_J_days_12 C hl _ _ _ _ hw _ _ _ _ _ (lv_sub hv [1, 2] rfl) F
theorem hm_J_days : fx_hd y_J_days prog_1_method_2_code 5 (Option.some FieldType.long) [] ∈ tables_1 := (fx_m3 (List.mem_of_getElem? (i := 198) rfl))
theorem hi_J_days : Cond.initialized y_J_days.cls ∈ tables_1 := (fx_m1 (List.mem_of_getElem? (i := 1) rfl))
theorem c_J_days {l : Launch} (hl : l.flags = flags0) {D : DD} {Q : Int64 → AH → Prop} {x0 : Int32} {x1 : Int32} {x2 : Int32} {h : AH} (hw : m_J_days Q x0 x1 x2 h) : fx_Mt l D y_J_days (fx_hd y_J_days prog_1_method_2_code 5 (Option.some FieldType.long) []) 0 0 [.int x0, .int x1, .int x2] h (fx_oL Q fx_no) := by
  refine fx_ofW (plainFor_of_name (by decide)) (fun p e s m below meth c C F => ?_)
  have hv := lv_entry ([.int x0, .int x1, .int x2]) (n := 5) (Nat.le_of_ble_eq_true rfl)
  rw [lg_entry_eq]
  generalize (lg_sl ([.int x0, .int x1, .int x2]) ++ List.replicate (5 - (lg_sl ([.int x0, .int x1, .int x2])).length) Slot.unset).toArray = ls at hv ⊢
  have hv : lv_has ls 5 [(0, .int x0), (1, .int x1), (2, .int x2)] := hv
  exact b_J_days_0 C hl _ _ _ _ hw _ _ _ _ _ hv F
