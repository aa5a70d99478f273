set_option maxRecDepth 10000
/-! ChainJudgeModel.usage(I)V: frames 2, words 32 -/
abbrev y_M_usage : MethodName := ⟨"ChainJudgeModel", "usage", "(I)V"⟩
theorem lf_M_190 : fx_Lk "ChainJudgeModel" 190 12 28 := fx_Lk.mk (C := "ChainJudgeModel") (T := fx_T12) (N := 57) rfl (by decide) (by decide) (fx_m6 (List.mem_of_getElem? (i := 34) rfl))
def dl_M_usage : List (Nat × Instr × Nat) := [(0, .aload_n 0, 1), (1, .iconst 3, 1), (2, .iload_n 1, 1), (3, .invokevirtual 140, 3), (6, .istore_n 2, 1), (7, .aload_n 0, 1), (8, .getfield 124, 3), (11, .ifCond .eq 4, 3), (14, .return_, 1), (15, .aload_n 0, 1), (16, .iload_n 2, 1), (17, .iload_n 1, 1), (18, .if_icmp .ne 27, 3), (21, .iload_n 2, 1), (22, .aload_n 0, 1), (23, .getfield 128, 3), (26, .isub, 1), (27, .iconst 2, 1), (28, .if_icmp .eq 13, 3), (31, .iload_n 2, 1), (32, .aload_n 0, 1), (33, .getfield 128, 3), (36, .isub, 1), (37, .iconst 3, 1), (38, .if_icmp .ne 7, 3), (41, .iconst 1, 1), (42, .goto 4, 3), (45, .iconst 0, 1), (46, .invokevirtual 143, 3), (49, .aload_n 0, 1), (50, .getfield 124, 3), (53, .ifCond .eq 4, 3), (56, .return_, 1), (57, .aload_n 0, 1), (58, .iload_n 2, 1), (59, .iconst 1, 1), (60, .isub, 1), (61, .invokevirtual 131, 3), (64, .istore_n 3, 1), (65, .aload_n 0, 1), (66, .iload_n 2, 1), (67, .aload_n 0, 1), (68, .getfield 128, 3), (71, .isub, 1), (72, .iconst 2, 1), (73, .if_icmp .ne 15, 3), (76, .iload_n 3, 1), (77, .ifCond .eq 7, 3), (80, .iconst 1, 1), (81, .goto 19, 3), (84, .iconst 0, 1), (85, .goto 15, 3), (88, .iload_n 3, 1), (89, .sipush 128, 3), (92, .if_icmp .ne 7, 3), (95, .iconst 1, 1), (96, .goto 4, 3), (99, .iconst 0, 1), (100, .invokevirtual 143, 3), (103, .iconst 0, 1), (104, .istore 4, 2), (106, .aload_n 0, 1), (107, .getfield 124, 3), (110, .ifCond .ne 18, 3), (113, .iload_n 3, 1), (114, .iload 4, 2), (116, .ishr, 1), (117, .iconst 1, 1), (118, .iand, 1), (119, .ifCond .ne 9, 3), (122, .iinc 4 1, 3), (125, .goto (-19), 3), (128, .aload_n 0, 1), (129, .aload_n 0, 1), (130, .aload_n 0, 1), (131, .getfield 128, 3), (134, .invokevirtual 131, 3), (137, .iload 4, 2), (139, .if_icmp .ne 7, 3), (142, .iconst 1, 1), (143, .goto 4, 3), (146, .iconst 0, 1), (147, .invokevirtual 143, 3), (150, .aload_n 0, 1), (151, .aload_n 0, 1), (152, .aload_n 0, 1), (153, .getfield 128, 3), (156, .iconst 1, 1), (157, .iadd, 1), (158, .invokevirtual 131, 3), (161, .putfield 190, 3), (164, .aload_n 0, 1), (165, .iload_n 2, 1), (166, .putfield 128, 3), (169, .return_, 1)]
theorem dk_M_usage : fx_dec prog_15_method_29_code dl_M_usage = true := by decide +kernel
theorem d_M_usage_0 : decode prog_15_method_29_code 0 = .ok (.aload_n 0, 1) := fx_dat dk_M_usage 0 rfl
theorem d_M_usage_1 : decode prog_15_method_29_code 1 = .ok (.iconst 3, 1) := fx_dat dk_M_usage 1 rfl
theorem d_M_usage_2 : decode prog_15_method_29_code 2 = .ok (.iload_n 1, 1) := fx_dat dk_M_usage 2 rfl
theorem d_M_usage_3 : decode prog_15_method_29_code 3 = .ok (.invokevirtual 140, 3) := fx_dat dk_M_usage 3 rfl
theorem d_M_usage_6 : decode prog_15_method_29_code 6 = .ok (.istore_n 2, 1) := fx_dat dk_M_usage 4 rfl
theorem d_M_usage_7 : decode prog_15_method_29_code 7 = .ok (.aload_n 0, 1) := fx_dat dk_M_usage 5 rfl
theorem d_M_usage_8 : decode prog_15_method_29_code 8 = .ok (.getfield 124, 3) := fx_dat dk_M_usage 6 rfl
theorem d_M_usage_11 : decode prog_15_method_29_code 11 = .ok (.ifCond .eq 4, 3) := fx_dat dk_M_usage 7 rfl
theorem d_M_usage_14 : decode prog_15_method_29_code 14 = .ok (.return_, 1) := fx_dat dk_M_usage 8 rfl
theorem d_M_usage_15 : decode prog_15_method_29_code 15 = .ok (.aload_n 0, 1) := fx_dat dk_M_usage 9 rfl
theorem d_M_usage_16 : decode prog_15_method_29_code 16 = .ok (.iload_n 2, 1) := fx_dat dk_M_usage 10 rfl
theorem d_M_usage_17 : decode prog_15_method_29_code 17 = .ok (.iload_n 1, 1) := fx_dat dk_M_usage 11 rfl
theorem d_M_usage_18 : decode prog_15_method_29_code 18 = .ok (.if_icmp .ne 27, 3) := fx_dat dk_M_usage 12 rfl
theorem d_M_usage_21 : decode prog_15_method_29_code 21 = .ok (.iload_n 2, 1) := fx_dat dk_M_usage 13 rfl
theorem d_M_usage_22 : decode prog_15_method_29_code 22 = .ok (.aload_n 0, 1) := fx_dat dk_M_usage 14 rfl
theorem d_M_usage_23 : decode prog_15_method_29_code 23 = .ok (.getfield 128, 3) := fx_dat dk_M_usage 15 rfl
theorem d_M_usage_26 : decode prog_15_method_29_code 26 = .ok (.isub, 1) := fx_dat dk_M_usage 16 rfl
theorem d_M_usage_27 : decode prog_15_method_29_code 27 = .ok (.iconst 2, 1) := fx_dat dk_M_usage 17 rfl
theorem d_M_usage_28 : decode prog_15_method_29_code 28 = .ok (.if_icmp .eq 13, 3) := fx_dat dk_M_usage 18 rfl
theorem d_M_usage_31 : decode prog_15_method_29_code 31 = .ok (.iload_n 2, 1) := fx_dat dk_M_usage 19 rfl
theorem d_M_usage_32 : decode prog_15_method_29_code 32 = .ok (.aload_n 0, 1) := fx_dat dk_M_usage 20 rfl
theorem d_M_usage_33 : decode prog_15_method_29_code 33 = .ok (.getfield 128, 3) := fx_dat dk_M_usage 21 rfl
theorem d_M_usage_36 : decode prog_15_method_29_code 36 = .ok (.isub, 1) := fx_dat dk_M_usage 22 rfl
theorem d_M_usage_37 : decode prog_15_method_29_code 37 = .ok (.iconst 3, 1) := fx_dat dk_M_usage 23 rfl
theorem d_M_usage_38 : decode prog_15_method_29_code 38 = .ok (.if_icmp .ne 7, 3) := fx_dat dk_M_usage 24 rfl
theorem d_M_usage_41 : decode prog_15_method_29_code 41 = .ok (.iconst 1, 1) := fx_dat dk_M_usage 25 rfl
theorem d_M_usage_42 : decode prog_15_method_29_code 42 = .ok (.goto 4, 3) := fx_dat dk_M_usage 26 rfl
theorem d_M_usage_45 : decode prog_15_method_29_code 45 = .ok (.iconst 0, 1) := fx_dat dk_M_usage 27 rfl
theorem d_M_usage_46 : decode prog_15_method_29_code 46 = .ok (.invokevirtual 143, 3) := fx_dat dk_M_usage 28 rfl
theorem d_M_usage_49 : decode prog_15_method_29_code 49 = .ok (.aload_n 0, 1) := fx_dat dk_M_usage 29 rfl
theorem d_M_usage_50 : decode prog_15_method_29_code 50 = .ok (.getfield 124, 3) := fx_dat dk_M_usage 30 rfl
theorem d_M_usage_53 : decode prog_15_method_29_code 53 = .ok (.ifCond .eq 4, 3) := fx_dat dk_M_usage 31 rfl
theorem d_M_usage_56 : decode prog_15_method_29_code 56 = .ok (.return_, 1) := fx_dat dk_M_usage 32 rfl
theorem d_M_usage_57 : decode prog_15_method_29_code 57 = .ok (.aload_n 0, 1) := fx_dat dk_M_usage 33 rfl
theorem d_M_usage_58 : decode prog_15_method_29_code 58 = .ok (.iload_n 2, 1) := fx_dat dk_M_usage 34 rfl
theorem d_M_usage_59 : decode prog_15_method_29_code 59 = .ok (.iconst 1, 1) := fx_dat dk_M_usage 35 rfl
theorem d_M_usage_60 : decode prog_15_method_29_code 60 = .ok (.isub, 1) := fx_dat dk_M_usage 36 rfl
theorem d_M_usage_61 : decode prog_15_method_29_code 61 = .ok (.invokevirtual 131, 3) := fx_dat dk_M_usage 37 rfl
theorem d_M_usage_64 : decode prog_15_method_29_code 64 = .ok (.istore_n 3, 1) := fx_dat dk_M_usage 38 rfl
theorem d_M_usage_65 : decode prog_15_method_29_code 65 = .ok (.aload_n 0, 1) := fx_dat dk_M_usage 39 rfl
theorem d_M_usage_66 : decode prog_15_method_29_code 66 = .ok (.iload_n 2, 1) := fx_dat dk_M_usage 40 rfl
theorem d_M_usage_67 : decode prog_15_method_29_code 67 = .ok (.aload_n 0, 1) := fx_dat dk_M_usage 41 rfl
theorem d_M_usage_68 : decode prog_15_method_29_code 68 = .ok (.getfield 128, 3) := fx_dat dk_M_usage 42 rfl
theorem d_M_usage_71 : decode prog_15_method_29_code 71 = .ok (.isub, 1) := fx_dat dk_M_usage 43 rfl
theorem d_M_usage_72 : decode prog_15_method_29_code 72 = .ok (.iconst 2, 1) := fx_dat dk_M_usage 44 rfl
theorem d_M_usage_73 : decode prog_15_method_29_code 73 = .ok (.if_icmp .ne 15, 3) := fx_dat dk_M_usage 45 rfl
theorem d_M_usage_76 : decode prog_15_method_29_code 76 = .ok (.iload_n 3, 1) := fx_dat dk_M_usage 46 rfl
theorem d_M_usage_77 : decode prog_15_method_29_code 77 = .ok (.ifCond .eq 7, 3) := fx_dat dk_M_usage 47 rfl
theorem d_M_usage_80 : decode prog_15_method_29_code 80 = .ok (.iconst 1, 1) := fx_dat dk_M_usage 48 rfl
theorem d_M_usage_81 : decode prog_15_method_29_code 81 = .ok (.goto 19, 3) := fx_dat dk_M_usage 49 rfl
theorem d_M_usage_84 : decode prog_15_method_29_code 84 = .ok (.iconst 0, 1) := fx_dat dk_M_usage 50 rfl
theorem d_M_usage_85 : decode prog_15_method_29_code 85 = .ok (.goto 15, 3) := fx_dat dk_M_usage 51 rfl
theorem d_M_usage_88 : decode prog_15_method_29_code 88 = .ok (.iload_n 3, 1) := fx_dat dk_M_usage 52 rfl
theorem d_M_usage_89 : decode prog_15_method_29_code 89 = .ok (.sipush 128, 3) := fx_dat dk_M_usage 53 rfl
theorem d_M_usage_92 : decode prog_15_method_29_code 92 = .ok (.if_icmp .ne 7, 3) := fx_dat dk_M_usage 54 rfl
theorem d_M_usage_95 : decode prog_15_method_29_code 95 = .ok (.iconst 1, 1) := fx_dat dk_M_usage 55 rfl
theorem d_M_usage_96 : decode prog_15_method_29_code 96 = .ok (.goto 4, 3) := fx_dat dk_M_usage 56 rfl
theorem d_M_usage_99 : decode prog_15_method_29_code 99 = .ok (.iconst 0, 1) := fx_dat dk_M_usage 57 rfl
theorem d_M_usage_100 : decode prog_15_method_29_code 100 = .ok (.invokevirtual 143, 3) := fx_dat dk_M_usage 58 rfl
theorem d_M_usage_103 : decode prog_15_method_29_code 103 = .ok (.iconst 0, 1) := fx_dat dk_M_usage 59 rfl
theorem d_M_usage_104 : decode prog_15_method_29_code 104 = .ok (.istore 4, 2) := fx_dat dk_M_usage 60 rfl
theorem d_M_usage_106 : decode prog_15_method_29_code 106 = .ok (.aload_n 0, 1) := fx_dat dk_M_usage 61 rfl
theorem d_M_usage_107 : decode prog_15_method_29_code 107 = .ok (.getfield 124, 3) := fx_dat dk_M_usage 62 rfl
theorem d_M_usage_110 : decode prog_15_method_29_code 110 = .ok (.ifCond .ne 18, 3) := fx_dat dk_M_usage 63 rfl
theorem d_M_usage_113 : decode prog_15_method_29_code 113 = .ok (.iload_n 3, 1) := fx_dat dk_M_usage 64 rfl
theorem d_M_usage_114 : decode prog_15_method_29_code 114 = .ok (.iload 4, 2) := fx_dat dk_M_usage 65 rfl
theorem d_M_usage_116 : decode prog_15_method_29_code 116 = .ok (.ishr, 1) := fx_dat dk_M_usage 66 rfl
theorem d_M_usage_117 : decode prog_15_method_29_code 117 = .ok (.iconst 1, 1) := fx_dat dk_M_usage 67 rfl
theorem d_M_usage_118 : decode prog_15_method_29_code 118 = .ok (.iand, 1) := fx_dat dk_M_usage 68 rfl
theorem d_M_usage_119 : decode prog_15_method_29_code 119 = .ok (.ifCond .ne 9, 3) := fx_dat dk_M_usage 69 rfl
theorem d_M_usage_122 : decode prog_15_method_29_code 122 = .ok (.iinc 4 1, 3) := fx_dat dk_M_usage 70 rfl
theorem d_M_usage_125 : decode prog_15_method_29_code 125 = .ok (.goto (-19), 3) := fx_dat dk_M_usage 71 rfl
theorem d_M_usage_128 : decode prog_15_method_29_code 128 = .ok (.aload_n 0, 1) := fx_dat dk_M_usage 72 rfl
theorem d_M_usage_129 : decode prog_15_method_29_code 129 = .ok (.aload_n 0, 1) := fx_dat dk_M_usage 73 rfl
theorem d_M_usage_130 : decode prog_15_method_29_code 130 = .ok (.aload_n 0, 1) := fx_dat dk_M_usage 74 rfl
theorem d_M_usage_131 : decode prog_15_method_29_code 131 = .ok (.getfield 128, 3) := fx_dat dk_M_usage 75 rfl
theorem d_M_usage_134 : decode prog_15_method_29_code 134 = .ok (.invokevirtual 131, 3) := fx_dat dk_M_usage 76 rfl
theorem d_M_usage_137 : decode prog_15_method_29_code 137 = .ok (.iload 4, 2) := fx_dat dk_M_usage 77 rfl
theorem d_M_usage_139 : decode prog_15_method_29_code 139 = .ok (.if_icmp .ne 7, 3) := fx_dat dk_M_usage 78 rfl
theorem d_M_usage_142 : decode prog_15_method_29_code 142 = .ok (.iconst 1, 1) := fx_dat dk_M_usage 79 rfl
theorem d_M_usage_143 : decode prog_15_method_29_code 143 = .ok (.goto 4, 3) := fx_dat dk_M_usage 80 rfl
theorem d_M_usage_146 : decode prog_15_method_29_code 146 = .ok (.iconst 0, 1) := fx_dat dk_M_usage 81 rfl
theorem d_M_usage_147 : decode prog_15_method_29_code 147 = .ok (.invokevirtual 143, 3) := fx_dat dk_M_usage 82 rfl
theorem d_M_usage_150 : decode prog_15_method_29_code 150 = .ok (.aload_n 0, 1) := fx_dat dk_M_usage 83 rfl
theorem d_M_usage_151 : decode prog_15_method_29_code 151 = .ok (.aload_n 0, 1) := fx_dat dk_M_usage 84 rfl
theorem d_M_usage_152 : decode prog_15_method_29_code 152 = .ok (.aload_n 0, 1) := fx_dat dk_M_usage 85 rfl
theorem d_M_usage_153 : decode prog_15_method_29_code 153 = .ok (.getfield 128, 3) := fx_dat dk_M_usage 86 rfl
theorem d_M_usage_156 : decode prog_15_method_29_code 156 = .ok (.iconst 1, 1) := fx_dat dk_M_usage 87 rfl
theorem d_M_usage_157 : decode prog_15_method_29_code 157 = .ok (.iadd, 1) := fx_dat dk_M_usage 88 rfl
theorem d_M_usage_158 : decode prog_15_method_29_code 158 = .ok (.invokevirtual 131, 3) := fx_dat dk_M_usage 89 rfl
theorem d_M_usage_161 : decode prog_15_method_29_code 161 = .ok (.putfield 190, 3) := fx_dat dk_M_usage 90 rfl
theorem d_M_usage_164 : decode prog_15_method_29_code 164 = .ok (.aload_n 0, 1) := fx_dat dk_M_usage 91 rfl
theorem d_M_usage_165 : decode prog_15_method_29_code 165 = .ok (.iload_n 2, 1) := fx_dat dk_M_usage 92 rfl
theorem d_M_usage_166 : decode prog_15_method_29_code 166 = .ok (.putfield 128, 3) := fx_dat dk_M_usage 93 rfl
theorem d_M_usage_169 : decode prog_15_method_29_code 169 = .ok (.return_, 1) := fx_dat dk_M_usage 94 rfl
def m_M_usage_147 (Q : AH → Prop) (r0 : Nat) (x2 : Int32) (sr0 : Nat) (sx1 : Int32) (h : AH) : Prop := hp_k h sr0 = 13 ∧ m_M_need (fun h1 => fx_ext h h1 → hp_k h1 r0 = 13 ∧ m_M_here (fun v1 h2 => fx_ext h1 h2 → ∀ h3 : AH, h3 = up_I h2 r0 28 v1 → ∀ h4 : AH, h4 = up_I h3 r0 20 x2 → Q h4) r0 ((hp_I h1 r0 20) + (1 : Int32)) h1) sr0 sx1 h
def m_M_usage_128 (Q : AH → Prop) (r0 : Nat) (x2 : Int32) (x4 : Int32) (h : AH) : Prop := hp_k h r0 = 13 ∧ m_M_here (fun v1 h1 => fx_ext h h1 → (¬ v1 = x4 → m_M_usage_147 Q r0 x2 r0 (0 : Int32) h1) ∧ (v1 = x4 → m_M_usage_147 Q r0 x2 r0 (1 : Int32) h1)) r0 (hp_I h r0 20) h
def m_M_usage_106_b (Q : AH → Prop) (X106 : Int32 × AH → Prop) (r0 : Nat) (x2 : Int32) (x3 : Int32) (x4 : Int32) (h : AH) : Prop := hp_k h r0 = 13 ∧ (¬ (hp_I h r0 21) = 0 → m_M_usage_128 Q r0 x2 x4 h) ∧ ((hp_I h r0 21) = 0 → (¬ ((x3 >>> (x4 &&& 31)) &&& (1 : Int32)) = 0 → m_M_usage_128 Q r0 x2 x4 h) ∧ (((x3 >>> (x4 &&& 31)) &&& (1 : Int32)) = 0 → ∀ v1 : Int32, v1 = (x4 + (1 : Int32)) → X106 (v1, h)))
def m_M_usage_106 (Q : AH → Prop) (r0 : Nat) (x2 : Int32) (x3 : Int32) (x4 : Int32) (h : AH) : Prop := fx_loop (fun (X106 : Int32 × AH → Prop) (st : Int32 × AH) => m_M_usage_106_b Q X106 r0 x2 x3 st.1 st.2) (x4, h)
def m_M_usage_100 (Q : AH → Prop) (r0 : Nat) (x2 : Int32) (x3 : Int32) (sr0 : Nat) (sx1 : Int32) (h : AH) : Prop := hp_k h sr0 = 13 ∧ m_M_need (fun h1 => fx_ext h h1 → m_M_usage_106 Q r0 x2 x3 (0 : Int32) h1) sr0 sx1 h
def m_M_usage_46 (Q : AH → Prop) (r0 : Nat) (x2 : Int32) (sr0 : Nat) (sx1 : Int32) (h : AH) : Prop := hp_k h sr0 = 13 ∧ m_M_need (fun h1 => fx_ext h h1 → hp_k h1 r0 = 13 ∧ ((hp_I h1 r0 21) = 0 → m_M_here (fun v1 h2 => fx_ext h1 h2 → (¬ (x2 - (hp_I h2 r0 20)) = (2 : Int32) → (¬ v1 = (128 : Int32) → m_M_usage_100 Q r0 x2 v1 r0 (0 : Int32) h2) ∧ (v1 = (128 : Int32) → m_M_usage_100 Q r0 x2 v1 r0 (1 : Int32) h2)) ∧ ((x2 - (hp_I h2 r0 20)) = (2 : Int32) → (v1 = 0 → m_M_usage_100 Q r0 x2 v1 r0 (0 : Int32) h2) ∧ (¬ v1 = 0 → m_M_usage_100 Q r0 x2 v1 r0 (1 : Int32) h2))) r0 (x2 - (1 : Int32)) h1) ∧ (¬ (hp_I h1 r0 21) = 0 → Q h1)) sr0 sx1 h
def m_M_usage_45 (Q : AH → Prop) (r0 : Nat) (x2 : Int32) (sr0 : Nat) (h : AH) : Prop := m_M_usage_46 Q r0 x2 sr0 (0 : Int32) h
def m_M_usage_41 (Q : AH → Prop) (r0 : Nat) (x2 : Int32) (sr0 : Nat) (h : AH) : Prop := m_M_usage_46 Q r0 x2 sr0 (1 : Int32) h
def m_M_usage (Q : AH → Prop) (r0 : Nat) (x1 : Int32) (h : AH) : Prop := hp_k h r0 = 13 ∧ m_M_open (fun v1 h1 => fx_ext h h1 → ((hp_I h1 r0 21) = 0 → (¬ v1 = x1 → m_M_usage_45 Q r0 v1 r0 h1) ∧ (v1 = x1 → ((v1 - (hp_I h1 r0 20)) = (2 : Int32) → m_M_usage_41 Q r0 v1 r0 h1) ∧ (¬ (v1 - (hp_I h1 r0 20)) = (2 : Int32) → (¬ (v1 - (hp_I h1 r0 20)) = (3 : Int32) → m_M_usage_45 Q r0 v1 r0 h1) ∧ ((v1 - (hp_I h1 r0 20)) = (3 : Int32) → m_M_usage_41 Q r0 v1 r0 h1)))) ∧ (¬ (hp_I h1 r0 21) = 0 → Q h1)) r0 (3 : Int32) x1 h
theorem b_M_usage_147 {p : Program} {l : Launch} {e : Env} {R : Room} {s : State} {m : MethodId} {args : Array Value} {below : List Frame} {meth : Method} {c : Code} {D : DD} {h0 : AH} {Q : AH → Prop} (C : fx_CX D y_M_usage prog_15_method_29_code 5 2 32 (none) [] h0 p R s m meth c) (hl : l.flags = flags0) (r0 : Nat) (x2 : Int32) (sr0 : Nat) (sx1 : Int32) (h : AH) (hw : m_M_usage_147 Q r0 x2 sr0 sx1 h) : ∀ (ls : Array Slot) (H : Heap) (locs : List Loc) (cells slots : Nat), lv_has ls 5 [(0, .ref r0), (2, .int x2)] → fx_F D h0 h H locs cells slots → W p l e R s m args below meth c H locs cells slots (fx_Z D below s h0 (fx_oV Q fx_no)) (F0 m 147 ls [.int sx1, .ref sr0]) := by
  unfold m_M_usage_147 at hw
  intro ls H locs cells slots hv F
  obtain ⟨hk1, hw⟩ := hw
  refine fx_callV C F (c_M_need hl hw) hm_M_need hi_M_need hv.1 (by decide) (Nat.le_of_ble_eq_true rfl) (iv_M_need C F lm_M_143 hk1 d_M_usage_147) (fx_out0 _) fx_eno (fun h1 H locs cells slots hw hx1 F => ?_)
  replace hw := hw hx1
  have hk1 := (hx1).k hk1
  refine lv_aload_n C.ex C.by d_M_usage_150 rfl (lv_at hv 0 rfl) ?_
  refine lv_aload_n C.ex C.by d_M_usage_151 rfl (lv_at hv 0 rfl) ?_
  refine lv_aload_n C.ex C.by d_M_usage_152 rfl (lv_at hv 0 rfl) ?_
  obtain ⟨hk2, hw⟩ := hw
  refine fx_getI C F lf_M_128 hk2 rfl d_M_usage_153 ?_
  refine lv_iconst (v := (1 : Int32)) C.ex C.by d_M_usage_156 (by decide) ?_
  refine lv_iadd C.ex C.by d_M_usage_157 ?_
  refine fx_callI C F (c_M_here hl hw) hm_M_here hi_M_here hv.1 (by decide) (Nat.le_of_ble_eq_true rfl) (iv_M_here C F lm_M_131 hk2 d_M_usage_158) (fx_out0 _) fx_eno (fun v1 h2 H locs cells slots hw hx2 F => ?_)
  replace hw := hw hx2
  have hk2 := (hx2).k hk2
  have hk1 := (hx2).k hk1
  let h3 : AH := up_I h2 r0 28 v1
  replace hw := hw h3 rfl
  refine fx_putI C F lf_M_190 hk2 rfl rfl (fx_mayF.no rfl rfl) d_M_usage_161 (fun H locs (F : fx_F D h0 h3 H locs _ _) => ?_)
  refine lv_aload_n C.ex C.by d_M_usage_164 rfl (lv_at hv 0 rfl) ?_
  refine lv_iload_n C.ex C.by d_M_usage_165 rfl (lv_at hv 1 rfl) ?_
  let h4 : AH := up_I h3 r0 20 x2
  replace hw := hw h4 rfl
  refine fx_putI C F lf_M_128 hk2 rfl rfl (fx_mayF.no rfl rfl) d_M_usage_166 (fun H locs (F : fx_F D h0 h4 H locs _ _) => ?_)
  exact fx_vret C F d_M_usage_169 (Or.inl ⟨rfl, hw⟩)
theorem b_M_usage_128 {p : Program} {l : Launch} {e : Env} {R : Room} {s : State} {m : MethodId} {args : Array Value} {below : List Frame} {meth : Method} {c : Code} {D : DD} {h0 : AH} {Q : AH → Prop} (C : fx_CX D y_M_usage prog_15_method_29_code 5 2 32 (none) [] h0 p R s m meth c) (hl : l.flags = flags0) (r0 : Nat) (x2 : Int32) (x4 : Int32) (h : AH) (hw : m_M_usage_128 Q r0 x2 x4 h) : ∀ (ls : Array Slot) (H : Heap) (locs : List Loc) (cells slots : Nat), lv_has ls 5 [(0, .ref r0), (2, .int x2), (4, .int x4)] → fx_F D h0 h H locs cells slots → W p l e R s m args below meth c H locs cells slots (fx_Z D below s h0 (fx_oV Q fx_no)) (F0 m 128 ls []) := by
  unfold m_M_usage_128 at hw
  intro ls H locs cells slots hv F
  refine lv_aload_n C.ex C.by d_M_usage_128 rfl (lv_at hv 0 rfl) ?_
  refine lv_aload_n C.ex C.by d_M_usage_129 rfl (lv_at hv 0 rfl) ?_
  refine lv_aload_n C.ex C.by d_M_usage_130 rfl (lv_at hv 0 rfl) ?_
  obtain ⟨hk1, hw⟩ := hw
  refine fx_getI C F lf_M_128 hk1 rfl d_M_usage_131 ?_
  refine fx_callI C F (c_M_here hl hw) hm_M_here hi_M_here hv.1 (by decide) (Nat.le_of_ble_eq_true rfl) (iv_M_here C F lm_M_131 hk1 d_M_usage_134) (fx_out0 _) fx_eno (fun v1 h1 H locs cells slots hw hx1 F => ?_)
  replace hw := hw hx1
  have hk1 := (hx1).k hk1
  refine lv_iload C.ex C.by d_M_usage_137 (lv_at hv 2 rfl) ?_
  refine lv_icmp_ne C.ex C.by d_M_usage_139 rfl (fun hc => ?_) (fun hc => ?_)
  · replace hw := hw.1 hc
    refine lv_iconst (v := (0 : Int32)) C.ex C.by d_M_usage_146 (by decide) ?_
    exact b_M_usage_147 C hl _ _ _ _ _ hw _ _ _ _ _ (lv_sub hv [0, 1] rfl) F
  · replace hw := hw.2 hc
    refine lv_iconst (v := (1 : Int32)) C.ex C.by d_M_usage_142 (by decide) ?_
    refine lv_goto C.ex C.by d_M_usage_143 rfl ?_
    exact b_M_usage_147 C hl _ _ _ _ _ hw _ _ _ _ _ (lv_sub hv [0, 1] rfl) F
theorem b_M_usage_106 {p : Program} {l : Launch} {e : Env} {R : Room} {s : State} {m : MethodId} {args : Array Value} {below : List Frame} {meth : Method} {c : Code} {D : DD} {h0 : AH} {Q : AH → Prop} (C : fx_CX D y_M_usage prog_15_method_29_code 5 2 32 (none) [] h0 p R s m meth c) (hl : l.flags = flags0) (r0 : Nat) (x2 : Int32) (x3 : Int32) (x4 : Int32) (h : AH) (hw : m_M_usage_106 Q r0 x2 x3 x4 h) : ∀ (ls : Array Slot) (H : Heap) (locs : List Loc) (cells slots : Nat), lv_has ls 5 [(0, .ref r0), (2, .int x2), (3, .int x3), (4, .int x4)] → fx_F D h0 h H locs cells slots → W p l e R s m args below meth c H locs cells slots (fx_Z D below s h0 (fx_oV Q fx_no)) (F0 m 106 ls []) := by
  refine fx_loop.use hw (fun st => ∀ (ls : Array Slot) (H : Heap) (locs : List Loc) (cells slots : Nat), lv_has ls 5 [(0, .ref r0), (2, .int x2), (3, .int x3), (4, .int st.1)] → fx_F D h0 st.2 H locs cells slots → W p l e R s m args below meth c H locs cells slots (fx_Z D below s h0 (fx_oV Q fx_no)) (F0 m 106 ls [])) (fun X106 st hX106 hw => ?_)
  obtain ⟨x4, h⟩ := st
  replace hw : m_M_usage_106_b Q X106 r0 x2 x3 x4 h := hw
  unfold m_M_usage_106_b at hw
  intro ls H locs cells slots hv F
  refine lv_aload_n C.ex C.by d_M_usage_106 rfl (lv_at hv 0 rfl) ?_
  obtain ⟨hk1, hw⟩ := hw
  refine fx_getI C F lf_M_124 hk1 rfl d_M_usage_107 ?_
  refine lv_if_ne C.ex C.by d_M_usage_110 rfl (fun hc => ?_) (fun hc => ?_)
  · replace hw := hw.1 hc
    exact b_M_usage_128 C hl _ _ _ _ hw _ _ _ _ _ (lv_sub hv [0, 1, 3] rfl) F
  · replace hw := hw.2 hc
    refine lv_iload_n C.ex C.by d_M_usage_113 rfl (lv_at hv 2 rfl) ?_
    refine lv_iload C.ex C.by d_M_usage_114 (lv_at hv 3 rfl) ?_
    refine lv_ishr C.ex C.by d_M_usage_116 ?_
    refine lv_iconst (v := (1 : Int32)) C.ex C.by d_M_usage_117 (by decide) ?_
    refine lv_iand C.ex C.by d_M_usage_118 ?_
    refine lv_if_ne C.ex C.by d_M_usage_119 rfl (fun hc => ?_) (fun hc => ?_)
    · replace hw := hw.1 hc
      exact b_M_usage_128 C hl _ _ _ _ hw _ _ _ _ _ (lv_sub hv [0, 1, 3] rfl) F
    · replace hw := hw.2 hc
      let v1 : Int32 := (x4 + (1 : Int32))
      replace hw := hw v1 rfl
      refine lv_iinc (v := v1) (k := 3) (lv' := [(4, .int v1), (0, .ref r0), (2, .int x2), (3, .int x3)]) C.ex C.by d_M_usage_122 hv rfl (congrArg (fun z => x4 + z) (by decide)) (by decide) rfl (fun ls hv => ?_)
      refine lv_goto C.ex C.by d_M_usage_125 rfl ?_
      exact hX106 _ hw _ _ _ _ _ (lv_sub hv [1, 2, 3, 0] rfl) F
theorem b_M_usage_100 {p : Program} {l : Launch} {e : Env} {R : Room} {s : State} {m : MethodId} {args : Array Value} {below : List Frame} {meth : Method} {c : Code} {D : DD} {h0 : AH} {Q : AH → Prop} (C : fx_CX D y_M_usage prog_15_method_29_code 5 2 32 (none) [] h0 p R s m meth c) (hl : l.flags = flags0) (r0 : Nat) (x2 : Int32) (x3 : Int32) (sr0 : Nat) (sx1 : Int32) (h : AH) (hw : m_M_usage_100 Q r0 x2 x3 sr0 sx1 h) : ∀ (ls : Array Slot) (H : Heap) (locs : List Loc) (cells slots : Nat), lv_has ls 5 [(0, .ref r0), (2, .int x2), (3, .int x3)] → fx_F D h0 h H locs cells slots → W p l e R s m args below meth c H locs cells slots (fx_Z D below s h0 (fx_oV Q fx_no)) (F0 m 100 ls [.int sx1, .ref sr0]) := by
  unfold m_M_usage_100 at hw
  intro ls H locs cells slots hv F
  obtain ⟨hk1, hw⟩ := hw
  refine fx_callV C F (c_M_need hl hw) hm_M_need hi_M_need hv.1 (by decide) (Nat.le_of_ble_eq_true rfl) (iv_M_need C F lm_M_143 hk1 d_M_usage_100) (fx_out0 _) fx_eno (fun h1 H locs cells slots hw hx1 F => ?_)
  replace hw := hw hx1
  have hk1 := (hx1).k hk1
  refine lv_iconst (v := (0 : Int32)) C.ex C.by d_M_usage_103 (by decide) ?_
  refine lv_istore (lv' := [(4, .int (0 : Int32)), (0, .ref r0), (2, .int x2), (3, .int x3)]) C.ex C.by d_M_usage_104 hv (by decide) rfl (fun ls hv => ?_)
  exact b_M_usage_106 C hl _ _ _ _ _ hw _ _ _ _ _ (lv_sub hv [1, 2, 3, 0] rfl) F
theorem b_M_usage_46 {p : Program} {l : Launch} {e : Env} {R : Room} {s : State} {m : MethodId} {args : Array Value} {below : List Frame} {meth : Method} {c : Code} {D : DD} {h0 : AH} {Q : AH → Prop} (C : fx_CX D y_M_usage prog_15_method_29_code 5 2 32 (none) [] h0 p R s m meth c) (hl : l.flags = flags0) (r0 : Nat) (x2 : Int32) (sr0 : Nat) (sx1 : Int32) (h : AH) (hw : m_M_usage_46 Q r0 x2 sr0 sx1 h) : ∀ (ls : Array Slot) (H : Heap) (locs : List Loc) (cells slots : Nat), lv_has ls 5 [(0, .ref r0), (2, .int x2)] → fx_F D h0 h H locs cells slots → W p l e R s m args below meth c H locs cells slots (fx_Z D below s h0 (fx_oV Q fx_no)) (F0 m 46 ls [.int sx1, .ref sr0]) := by
  unfold m_M_usage_46 at hw
  intro ls H locs cells slots hv F
  obtain ⟨hk1, hw⟩ := hw
  refine fx_callV C F (c_M_need hl hw) hm_M_need hi_M_need hv.1 (by decide) (Nat.le_of_ble_eq_true rfl) (iv_M_need C F lm_M_143 hk1 d_M_usage_46) (fx_out0 _) fx_eno (fun h1 H locs cells slots hw hx1 F => ?_)
  replace hw := hw hx1
  have hk1 := (hx1).k hk1
  refine lv_aload_n C.ex C.by d_M_usage_49 rfl (lv_at hv 0 rfl) ?_
  obtain ⟨hk2, hw⟩ := hw
  refine fx_getI C F lf_M_124 hk2 rfl d_M_usage_50 ?_
  refine lv_if_eq C.ex C.by d_M_usage_53 rfl (fun hc => ?_) (fun hc => ?_)
  · replace hw := hw.1 hc
    refine lv_aload_n C.ex C.by d_M_usage_57 rfl (lv_at hv 0 rfl) ?_
    refine lv_iload_n C.ex C.by d_M_usage_58 rfl (lv_at hv 1 rfl) ?_
    refine lv_iconst (v := (1 : Int32)) C.ex C.by d_M_usage_59 (by decide) ?_
    refine lv_isub C.ex C.by d_M_usage_60 ?_
    refine fx_callI C F (c_M_here hl hw) hm_M_here hi_M_here hv.1 (by decide) (Nat.le_of_ble_eq_true rfl) (iv_M_here C F lm_M_131 hk2 d_M_usage_61) (fx_out0 _) fx_eno (fun v1 h2 H locs cells slots hw hx2 F => ?_)
    replace hw := hw hx2
    have hk2 := (hx2).k hk2
    have hk1 := (hx2).k hk1
    refine lv_istore_n (lv' := [(3, .int v1), (0, .ref r0), (2, .int x2)]) C.ex C.by d_M_usage_64 rfl hv (by decide) rfl (fun ls hv => ?_)
    refine lv_aload_n C.ex C.by d_M_usage_65 rfl (lv_at hv 1 rfl) ?_
    refine lv_iload_n C.ex C.by d_M_usage_66 rfl (lv_at hv 2 rfl) ?_
    refine lv_aload_n C.ex C.by d_M_usage_67 rfl (lv_at hv 1 rfl) ?_
    refine fx_getI C F lf_M_128 hk2 rfl d_M_usage_68 ?_
    refine lv_isub C.ex C.by d_M_usage_71 ?_
    refine lv_iconst (v := (2 : Int32)) C.ex C.by d_M_usage_72 (by decide) ?_
    refine lv_icmp_ne C.ex C.by d_M_usage_73 rfl (fun hc => ?_) (fun hc => ?_)
    · replace hw := hw.1 hc
      refine lv_iload_n C.ex C.by d_M_usage_88 rfl (lv_at hv 0 rfl) ?_
      refine lv_sipush (v := (128 : Int32)) C.ex C.by d_M_usage_89 (by decide) ?_
      refine lv_icmp_ne C.ex C.by d_M_usage_92 rfl (fun hc => ?_) (fun hc => ?_)
      · replace hw := hw.1 hc
        refine lv_iconst (v := (0 : Int32)) C.ex C.by d_M_usage_99 (by decide) ?_
        exact b_M_usage_100 C hl _ _ _ _ _ _ hw _ _ _ _ _ (lv_sub hv [1, 2, 0] rfl) F
      · replace hw := hw.2 hc
        refine lv_iconst (v := (1 : Int32)) C.ex C.by d_M_usage_95 (by decide) ?_
        refine lv_goto C.ex C.by d_M_usage_96 rfl ?_
        exact b_M_usage_100 C hl _ _ _ _ _ _ hw _ _ _ _ _ (lv_sub hv [1, 2, 0] rfl) F
    · replace hw := hw.2 hc
      refine lv_iload_n C.ex C.by d_M_usage_76 rfl (lv_at hv 0 rfl) ?_
      refine lv_if_eq C.ex C.by d_M_usage_77 rfl (fun hc => ?_) (fun hc => ?_)
      · replace hw := hw.1 hc
        refine lv_iconst (v := (0 : Int32)) C.ex C.by d_M_usage_84 (by decide) ?_
        refine lv_goto C.ex C.by d_M_usage_85 rfl ?_
        exact b_M_usage_100 C hl _ _ _ _ _ _ hw _ _ _ _ _ (lv_sub hv [1, 2, 0] rfl) F
      · replace hw := hw.2 hc
        refine lv_iconst (v := (1 : Int32)) C.ex C.by d_M_usage_80 (by decide) ?_
        refine lv_goto C.ex C.by d_M_usage_81 rfl ?_
        exact b_M_usage_100 C hl _ _ _ _ _ _ hw _ _ _ _ _ (lv_sub hv [1, 2, 0] rfl) F
  · replace hw := hw.2 hc
    exact fx_vret C F d_M_usage_56 (Or.inl ⟨rfl, hw⟩)
theorem b_M_usage_45 {p : Program} {l : Launch} {e : Env} {R : Room} {s : State} {m : MethodId} {args : Array Value} {below : List Frame} {meth : Method} {c : Code} {D : DD} {h0 : AH} {Q : AH → Prop} (C : fx_CX D y_M_usage prog_15_method_29_code 5 2 32 (none) [] h0 p R s m meth c) (hl : l.flags = flags0) (r0 : Nat) (x2 : Int32) (sr0 : Nat) (h : AH) (hw : m_M_usage_45 Q r0 x2 sr0 h) : ∀ (ls : Array Slot) (H : Heap) (locs : List Loc) (cells slots : Nat), lv_has ls 5 [(0, .ref r0), (2, .int x2)] → fx_F D h0 h H locs cells slots → W p l e R s m args below meth c H locs cells slots (fx_Z D below s h0 (fx_oV Q fx_no)) (F0 m 45 ls [.ref sr0]) := by
  unfold m_M_usage_45 at hw
  intro ls H locs cells slots hv F
  refine lv_iconst (v := (0 : Int32)) C.ex C.by d_M_usage_45 (by decide) ?_
  exact b_M_usage_46 C hl _ _ _ _ _ hw _ _ _ _ _ hv F
theorem b_M_usage_41 {p : Program} {l : Launch} {e : Env} {R : Room} {s : State} {m : MethodId} {args : Array Value} {below : List Frame} {meth : Method} {c : Code} {D : DD} {h0 : AH} {Q : AH → Prop} (C : fx_CX D y_M_usage prog_15_method_29_code 5 2 32 (none) [] h0 p R s m meth c) (hl : l.flags = flags0) (r0 : Nat) (x2 : Int32) (sr0 : Nat) (h : AH) (hw : m_M_usage_41 Q r0 x2 sr0 h) : ∀ (ls : Array Slot) (H : Heap) (locs : List Loc) (cells slots : Nat), lv_has ls 5 [(0, .ref r0), (2, .int x2)] → fx_F D h0 h H locs cells slots → W p l e R s m args below meth c H locs cells slots (fx_Z D below s h0 (fx_oV Q fx_no)) (F0 m 41 ls [.ref sr0]) := by
  unfold m_M_usage_41 at hw
  intro ls H locs cells slots hv F
  refine lv_iconst (v := (1 : Int32)) C.ex C.by d_M_usage_41 (by decide) ?_
  refine lv_goto C.ex C.by d_M_usage_42 rfl ?_
  exact b_M_usage_46 C hl _ _ _ _ _ hw _ _ _ _ _ hv F
theorem b_M_usage_0 {p : Program} {l : Launch} {e : Env} {R : Room} {s : State} {m : MethodId} {args : Array Value} {below : List Frame} {meth : Method} {c : Code} {D : DD} {h0 : AH} {Q : AH → Prop} (C : fx_CX D y_M_usage prog_15_method_29_code 5 2 32 (none) [] h0 p R s m meth c) (hl : l.flags = flags0) (r0 : Nat) (x1 : Int32) (h : AH) (hw : m_M_usage Q r0 x1 h) : ∀ (ls : Array Slot) (H : Heap) (locs : List Loc) (cells slots : Nat), lv_has ls 5 [(0, .ref r0), (1, .int x1)] → fx_F D h0 h H locs cells slots → W p l e R s m args below meth c H locs cells slots (fx_Z D below s h0 (fx_oV Q fx_no)) (F0 m 0 ls []) := by
  unfold m_M_usage at hw
  intro ls H locs cells slots hv F
  refine lv_aload_n C.ex C.by d_M_usage_0 rfl (lv_at hv 0 rfl) ?_
  refine lv_iconst (v := (3 : Int32)) C.ex C.by d_M_usage_1 (by decide) ?_
  refine lv_iload_n C.ex C.by d_M_usage_2 rfl (lv_at hv 1 rfl) ?_
  obtain ⟨hk1, hw⟩ := hw
  refine fx_callI C F (c_M_open hl hw) hm_M_open hi_M_open hv.1 (by decide) (Nat.le_of_ble_eq_true rfl) (iv_M_open C F lm_M_140 hk1 d_M_usage_3) (fx_out0 _) fx_eno (fun v1 h1 H locs cells slots hw hx1 F => ?_)
  replace hw := hw hx1
  have hk1 := (hx1).k hk1
  refine lv_istore_n (lv' := [(2, .int v1), (0, .ref r0), (1, .int x1)]) C.ex C.by d_M_usage_6 rfl hv (by decide) rfl (fun ls hv => ?_)
  refine lv_aload_n C.ex C.by d_M_usage_7 rfl (lv_at hv 1 rfl) ?_
  refine fx_getI C F lf_M_124 hk1 rfl d_M_usage_8 ?_
  refine lv_if_eq C.ex C.by d_M_usage_11 rfl (fun hc => ?_) (fun hc => ?_)
  · replace hw := hw.1 hc
    refine lv_aload_n C.ex C.by d_M_usage_15 rfl (lv_at hv 1 rfl) ?_
    refine lv_iload_n C.ex C.by d_M_usage_16 rfl (lv_at hv 0 rfl) ?_
    refine lv_iload_n C.ex C.by d_M_usage_17 rfl (lv_at hv 2 rfl) ?_
    refine lv_icmp_ne C.ex C.by d_M_usage_18 rfl (fun hc => ?_) (fun hc => ?_)
    · replace hw := hw.1 hc
      exact b_M_usage_45 C hl _ _ _ _ hw _ _ _ _ _ (lv_sub hv [1, 0] rfl) F
    · replace hw := hw.2 hc
      refine lv_iload_n C.ex C.by d_M_usage_21 rfl (lv_at hv 0 rfl) ?_
      refine lv_aload_n C.ex C.by d_M_usage_22 rfl (lv_at hv 1 rfl) ?_
      refine fx_getI C F lf_M_128 hk1 rfl d_M_usage_23 ?_
      refine lv_isub C.ex C.by d_M_usage_26 ?_
      refine lv_iconst (v := (2 : Int32)) C.ex C.by d_M_usage_27 (by decide) ?_
      refine lv_icmp_eq C.ex C.by d_M_usage_28 rfl (fun hc => ?_) (fun hc => ?_)
      · replace hw := hw.1 hc
        exact b_M_usage_41 C hl _ _ _ _ hw _ _ _ _ _ (lv_sub hv [1, 0] rfl) F
      · replace hw := hw.2 hc
        refine lv_iload_n C.ex C.by d_M_usage_31 rfl (lv_at hv 0 rfl) ?_
        refine lv_aload_n C.ex C.by d_M_usage_32 rfl (lv_at hv 1 rfl) ?_
        refine fx_getI C F lf_M_128 hk1 rfl d_M_usage_33 ?_
        refine lv_isub C.ex C.by d_M_usage_36 ?_
        refine lv_iconst (v := (3 : Int32)) C.ex C.by d_M_usage_37 (by decide) ?_
        refine lv_icmp_ne C.ex C.by d_M_usage_38 rfl (fun hc => ?_) (fun hc => ?_)
        · replace hw := hw.1 hc
          exact b_M_usage_45 C hl _ _ _ _ hw _ _ _ _ _ (lv_sub hv [1, 0] rfl) F
        · replace hw := hw.2 hc
          exact b_M_usage_41 C hl _ _ _ _ hw _ _ _ _ _ (lv_sub hv [1, 0] rfl) F
  · replace hw := hw.2 hc
    exact fx_vret C F d_M_usage_14 (Or.inl ⟨rfl, hw⟩)
theorem hm_M_usage : fx_hd y_M_usage prog_15_method_29_code 5 (none) [] ∈ tables_1 := (fx_m7 (List.mem_of_getElem? (i := 59) rfl))
theorem hi_M_usage : Cond.initialized y_M_usage.cls ∈ tables_1 := (fx_m1 (List.mem_of_getElem? (i := 15) rfl))
theorem c_M_usage {l : Launch} (hl : l.flags = flags0) {D : DD} {Q : AH → Prop} {r0 : Nat} {x1 : Int32} {h : AH} (hw : m_M_usage Q r0 x1 h) : fx_Mt l D y_M_usage (fx_hd y_M_usage prog_15_method_29_code 5 (none) []) 2 32 [.ref r0, .int x1] h (fx_oV Q fx_no) := by
  refine fx_ofW (plainFor_of_name (by decide)) (fun p e s m below meth c C F => ?_)
  have hv := lv_entry ([.ref r0, .int x1]) (n := 5) (Nat.le_of_ble_eq_true rfl)
  rw [lg_entry_eq]
  generalize (lg_sl ([.ref r0, .int x1]) ++ List.replicate (5 - (lg_sl ([.ref r0, .int x1])).length) Slot.unset).toArray = ls at hv ⊢
  have hv : lv_has ls 5 [(0, .ref r0), (1, .int x1)] := hv
  exact b_M_usage_0 C hl _ _ _ hw _ _ _ _ _ hv F
/-! ChainJudgeModel.alternatives(I)V: frames 2, words 32 -/
abbrev y_M_alternatives : MethodName := ⟨"ChainJudgeModel", "alternatives", "(I)V"⟩
theorem lf_M_193 : fx_Lk "ChainJudgeModel" 193 12 42 := fx_Lk.mk (C := "ChainJudgeModel") (T := fx_T12) (N := 57) rfl (by decide) (by decide) (fx_m6 (List.mem_of_getElem? (i := 48) rfl))
theorem lf_M_196 : fx_Lk "ChainJudgeModel" 196 12 43 := fx_Lk.mk (C := "ChainJudgeModel") (T := fx_T12) (N := 57) rfl (by decide) (by decide) (fx_m6 (List.mem_of_getElem? (i := 49) rfl))
theorem lf_M_199 : fx_Lk "ChainJudgeModel" 199 12 30 := fx_Lk.mk (C := "ChainJudgeModel") (T := fx_T12) (N := 57) rfl (by decide) (by decide) (fx_m6 (List.mem_of_getElem? (i := 36) rfl))
def dl_M_alternatives : List (Nat × Instr × Nat) := [(0, .aload_n 0, 1), (1, .bipush 48, 2), (3, .iload_n 1, 1), (4, .invokevirtual 140, 3), (7, .istore_n 2, 1), (8, .aload_n 0, 1), (9, .getfield 124, 3), (12, .ifCond .eq 4, 3), (15, .return_, 1), (16, .aload_n 0, 1), (17, .iload_n 2, 1), (18, .iload_n 1, 1), (19, .if_icmp .ne 15, 3), (22, .aload_n 0, 1), (23, .getfield 128, 3), (26, .iload_n 2, 1), (27, .if_icmp .ge 7, 3), (30, .iconst 1, 1), (31, .goto 4, 3), (34, .iconst 0, 1), (35, .invokevirtual 143, 3), (38, .aload_n 0, 1), (39, .aload_n 0, 1), (40, .getfield 128, 3), (43, .putfield 193, 3), (46, .aload_n 0, 1), (47, .iload_n 2, 1), (48, .putfield 196, 3), (51, .aload_n 0, 1), (52, .getfield 124, 3), (55, .ifCond .ne 124, 3), (58, .aload_n 0, 1), (59, .getfield 128, 3), (62, .iload_n 2, 1), (63, .if_icmp .ge 116, 3), (66, .aload_n 0, 1), (67, .aload_n 0, 1), (68, .getfield 128, 3), (71, .invokevirtual 131, 3), (74, .istore_n 3, 1), (75, .aload_n 0, 1), (76, .iload_n 3, 1), (77, .sipush 128, 3), (80, .if_icmp .lt 10, 3), (83, .iload_n 3, 1), (84, .sipush 136, 3), (87, .if_icmp .le 24, 3), (90, .iload_n 3, 1), (91, .sipush 160, 3), (94, .if_icmp .lt 21, 3), (97, .iload_n 3, 1), (98, .sipush 168, 3), (101, .if_icmp .gt 14, 3), (104, .iload_n 3, 1), (105, .sipush 162, 3), (108, .if_icmp .eq 7, 3), (111, .iconst 1, 1), (112, .goto 4, 3), (115, .iconst 0, 1), (116, .invokevirtual 143, 3), (119, .aload_n 0, 1), (120, .iconst (-1), 1), (121, .iload_n 2, 1), (122, .invokevirtual 140, 3), (125, .istore 4, 2), (127, .aload_n 0, 1), (128, .getfield 124, 3), (131, .ifCond .eq 4, 3), (134, .return_, 1), (135, .iload_n 3, 1), (136, .sipush 130, 3), (139, .if_icmp .ne 31, 3), (142, .aload_n 0, 1), (143, .iload 4, 2), (145, .aload_n 0, 1), (146, .getfield 128, 3), (149, .if_icmp .le 7, 3), (152, .iconst 1, 1), (153, .goto 4, 3), (156, .iconst 0, 1), (157, .invokevirtual 143, 3), (160, .aload_n 0, 1), (161, .dup, 1), (162, .getfield 199, 3), (165, .iconst 1, 1), (166, .iadd, 1), (167, .putfield 199, 3), (170, .aload_n 0, 1), (171, .iload 4, 2), (173, .putfield 128, 3), (176, .goto (-125), 3), (179, .return_, 1)]
theorem dk_M_alternatives : fx_dec prog_15_method_30_code dl_M_alternatives = true := by decide +kernel
theorem d_M_alternatives_0 : decode prog_15_method_30_code 0 = .ok (.aload_n 0, 1) := fx_dat dk_M_alternatives 0 rfl
theorem d_M_alternatives_1 : decode prog_15_method_30_code 1 = .ok (.bipush 48, 2) := fx_dat dk_M_alternatives 1 rfl
theorem d_M_alternatives_3 : decode prog_15_method_30_code 3 = .ok (.iload_n 1, 1) := fx_dat dk_M_alternatives 2 rfl
theorem d_M_alternatives_4 : decode prog_15_method_30_code 4 = .ok (.invokevirtual 140, 3) := fx_dat dk_M_alternatives 3 rfl
theorem d_M_alternatives_7 : decode prog_15_method_30_code 7 = .ok (.istore_n 2, 1) := fx_dat dk_M_alternatives 4 rfl
theorem d_M_alternatives_8 : decode prog_15_method_30_code 8 = .ok (.aload_n 0, 1) := fx_dat dk_M_alternatives 5 rfl
theorem d_M_alternatives_9 : decode prog_15_method_30_code 9 = .ok (.getfield 124, 3) := fx_dat dk_M_alternatives 6 rfl
theorem d_M_alternatives_12 : decode prog_15_method_30_code 12 = .ok (.ifCond .eq 4, 3) := fx_dat dk_M_alternatives 7 rfl
theorem d_M_alternatives_15 : decode prog_15_method_30_code 15 = .ok (.return_, 1) := fx_dat dk_M_alternatives 8 rfl
theorem d_M_alternatives_16 : decode prog_15_method_30_code 16 = .ok (.aload_n 0, 1) := fx_dat dk_M_alternatives 9 rfl
theorem d_M_alternatives_17 : decode prog_15_method_30_code 17 = .ok (.iload_n 2, 1) := fx_dat dk_M_alternatives 10 rfl
theorem d_M_alternatives_18 : decode prog_15_method_30_code 18 = .ok (.iload_n 1, 1) := fx_dat dk_M_alternatives 11 rfl
theorem d_M_alternatives_19 : decode prog_15_method_30_code 19 = .ok (.if_icmp .ne 15, 3) := fx_dat dk_M_alternatives 12 rfl
theorem d_M_alternatives_22 : decode prog_15_method_30_code 22 = .ok (.aload_n 0, 1) := fx_dat dk_M_alternatives 13 rfl
theorem d_M_alternatives_23 : decode prog_15_method_30_code 23 = .ok (.getfield 128, 3) := fx_dat dk_M_alternatives 14 rfl
theorem d_M_alternatives_26 : decode prog_15_method_30_code 26 = .ok (.iload_n 2, 1) := fx_dat dk_M_alternatives 15 rfl
theorem d_M_alternatives_27 : decode prog_15_method_30_code 27 = .ok (.if_icmp .ge 7, 3) := fx_dat dk_M_alternatives 16 rfl
theorem d_M_alternatives_30 : decode prog_15_method_30_code 30 = .ok (.iconst 1, 1) := fx_dat dk_M_alternatives 17 rfl
theorem d_M_alternatives_31 : decode prog_15_method_30_code 31 = .ok (.goto 4, 3) := fx_dat dk_M_alternatives 18 rfl
theorem d_M_alternatives_34 : decode prog_15_method_30_code 34 = .ok (.iconst 0, 1) := fx_dat dk_M_alternatives 19 rfl
theorem d_M_alternatives_35 : decode prog_15_method_30_code 35 = .ok (.invokevirtual 143, 3) := fx_dat dk_M_alternatives 20 rfl
theorem d_M_alternatives_38 : decode prog_15_method_30_code 38 = .ok (.aload_n 0, 1) := fx_dat dk_M_alternatives 21 rfl
theorem d_M_alternatives_39 : decode prog_15_method_30_code 39 = .ok (.aload_n 0, 1) := fx_dat dk_M_alternatives 22 rfl
theorem d_M_alternatives_40 : decode prog_15_method_30_code 40 = .ok (.getfield 128, 3) := fx_dat dk_M_alternatives 23 rfl
theorem d_M_alternatives_43 : decode prog_15_method_30_code 43 = .ok (.putfield 193, 3) := fx_dat dk_M_alternatives 24 rfl
theorem d_M_alternatives_46 : decode prog_15_method_30_code 46 = .ok (.aload_n 0, 1) := fx_dat dk_M_alternatives 25 rfl
theorem d_M_alternatives_47 : decode prog_15_method_30_code 47 = .ok (.iload_n 2, 1) := fx_dat dk_M_alternatives 26 rfl
theorem d_M_alternatives_48 : decode prog_15_method_30_code 48 = .ok (.putfield 196, 3) := fx_dat dk_M_alternatives 27 rfl
theorem d_M_alternatives_51 : decode prog_15_method_30_code 51 = .ok (.aload_n 0, 1) := fx_dat dk_M_alternatives 28 rfl
theorem d_M_alternatives_52 : decode prog_15_method_30_code 52 = .ok (.getfield 124, 3) := fx_dat dk_M_alternatives 29 rfl
theorem d_M_alternatives_55 : decode prog_15_method_30_code 55 = .ok (.ifCond .ne 124, 3) := fx_dat dk_M_alternatives 30 rfl
theorem d_M_alternatives_58 : decode prog_15_method_30_code 58 = .ok (.aload_n 0, 1) := fx_dat dk_M_alternatives 31 rfl
theorem d_M_alternatives_59 : decode prog_15_method_30_code 59 = .ok (.getfield 128, 3) := fx_dat dk_M_alternatives 32 rfl
theorem d_M_alternatives_62 : decode prog_15_method_30_code 62 = .ok (.iload_n 2, 1) := fx_dat dk_M_alternatives 33 rfl
theorem d_M_alternatives_63 : decode prog_15_method_30_code 63 = .ok (.if_icmp .ge 116, 3) := fx_dat dk_M_alternatives 34 rfl
theorem d_M_alternatives_66 : decode prog_15_method_30_code 66 = .ok (.aload_n 0, 1) := fx_dat dk_M_alternatives 35 rfl
theorem d_M_alternatives_67 : decode prog_15_method_30_code 67 = .ok (.aload_n 0, 1) := fx_dat dk_M_alternatives 36 rfl
theorem d_M_alternatives_68 : decode prog_15_method_30_code 68 = .ok (.getfield 128, 3) := fx_dat dk_M_alternatives 37 rfl
theorem d_M_alternatives_71 : decode prog_15_method_30_code 71 = .ok (.invokevirtual 131, 3) := fx_dat dk_M_alternatives 38 rfl
theorem d_M_alternatives_74 : decode prog_15_method_30_code 74 = .ok (.istore_n 3, 1) := fx_dat dk_M_alternatives 39 rfl
theorem d_M_alternatives_75 : decode prog_15_method_30_code 75 = .ok (.aload_n 0, 1) := fx_dat dk_M_alternatives 40 rfl
theorem d_M_alternatives_76 : decode prog_15_method_30_code 76 = .ok (.iload_n 3, 1) := fx_dat dk_M_alternatives 41 rfl
theorem d_M_alternatives_77 : decode prog_15_method_30_code 77 = .ok (.sipush 128, 3) := fx_dat dk_M_alternatives 42 rfl
theorem d_M_alternatives_80 : decode prog_15_method_30_code 80 = .ok (.if_icmp .lt 10, 3) := fx_dat dk_M_alternatives 43 rfl
theorem d_M_alternatives_83 : decode prog_15_method_30_code 83 = .ok (.iload_n 3, 1) := fx_dat dk_M_alternatives 44 rfl
theorem d_M_alternatives_84 : decode prog_15_method_30_code 84 = .ok (.sipush 136, 3) := fx_dat dk_M_alternatives 45 rfl
theorem d_M_alternatives_87 : decode prog_15_method_30_code 87 = .ok (.if_icmp .le 24, 3) := fx_dat dk_M_alternatives 46 rfl
theorem d_M_alternatives_90 : decode prog_15_method_30_code 90 = .ok (.iload_n 3, 1) := fx_dat dk_M_alternatives 47 rfl
theorem d_M_alternatives_91 : decode prog_15_method_30_code 91 = .ok (.sipush 160, 3) := fx_dat dk_M_alternatives 48 rfl
theorem d_M_alternatives_94 : decode prog_15_method_30_code 94 = .ok (.if_icmp .lt 21, 3) := fx_dat dk_M_alternatives 49 rfl
theorem d_M_alternatives_97 : decode prog_15_method_30_code 97 = .ok (.iload_n 3, 1) := fx_dat dk_M_alternatives 50 rfl
theorem d_M_alternatives_98 : decode prog_15_method_30_code 98 = .ok (.sipush 168, 3) := fx_dat dk_M_alternatives 51 rfl
theorem d_M_alternatives_101 : decode prog_15_method_30_code 101 = .ok (.if_icmp .gt 14, 3) := fx_dat dk_M_alternatives 52 rfl
theorem d_M_alternatives_104 : decode prog_15_method_30_code 104 = .ok (.iload_n 3, 1) := fx_dat dk_M_alternatives 53 rfl
theorem d_M_alternatives_105 : decode prog_15_method_30_code 105 = .ok (.sipush 162, 3) := fx_dat dk_M_alternatives 54 rfl
theorem d_M_alternatives_108 : decode prog_15_method_30_code 108 = .ok (.if_icmp .eq 7, 3) := fx_dat dk_M_alternatives 55 rfl
theorem d_M_alternatives_111 : decode prog_15_method_30_code 111 = .ok (.iconst 1, 1) := fx_dat dk_M_alternatives 56 rfl
theorem d_M_alternatives_112 : decode prog_15_method_30_code 112 = .ok (.goto 4, 3) := fx_dat dk_M_alternatives 57 rfl
theorem d_M_alternatives_115 : decode prog_15_method_30_code 115 = .ok (.iconst 0, 1) := fx_dat dk_M_alternatives 58 rfl
theorem d_M_alternatives_116 : decode prog_15_method_30_code 116 = .ok (.invokevirtual 143, 3) := fx_dat dk_M_alternatives 59 rfl
theorem d_M_alternatives_119 : decode prog_15_method_30_code 119 = .ok (.aload_n 0, 1) := fx_dat dk_M_alternatives 60 rfl
theorem d_M_alternatives_120 : decode prog_15_method_30_code 120 = .ok (.iconst (-1), 1) := fx_dat dk_M_alternatives 61 rfl
theorem d_M_alternatives_121 : decode prog_15_method_30_code 121 = .ok (.iload_n 2, 1) := fx_dat dk_M_alternatives 62 rfl
theorem d_M_alternatives_122 : decode prog_15_method_30_code 122 = .ok (.invokevirtual 140, 3) := fx_dat dk_M_alternatives 63 rfl
theorem d_M_alternatives_125 : decode prog_15_method_30_code 125 = .ok (.istore 4, 2) := fx_dat dk_M_alternatives 64 rfl
theorem d_M_alternatives_127 : decode prog_15_method_30_code 127 = .ok (.aload_n 0, 1) := fx_dat dk_M_alternatives 65 rfl
theorem d_M_alternatives_128 : decode prog_15_method_30_code 128 = .ok (.getfield 124, 3) := fx_dat dk_M_alternatives 66 rfl
theorem d_M_alternatives_131 : decode prog_15_method_30_code 131 = .ok (.ifCond .eq 4, 3) := fx_dat dk_M_alternatives 67 rfl
theorem d_M_alternatives_134 : decode prog_15_method_30_code 134 = .ok (.return_, 1) := fx_dat dk_M_alternatives 68 rfl
theorem d_M_alternatives_135 : decode prog_15_method_30_code 135 = .ok (.iload_n 3, 1) := fx_dat dk_M_alternatives 69 rfl
theorem d_M_alternatives_136 : decode prog_15_method_30_code 136 = .ok (.sipush 130, 3) := fx_dat dk_M_alternatives 70 rfl
theorem d_M_alternatives_139 : decode prog_15_method_30_code 139 = .ok (.if_icmp .ne 31, 3) := fx_dat dk_M_alternatives 71 rfl
theorem d_M_alternatives_142 : decode prog_15_method_30_code 142 = .ok (.aload_n 0, 1) := fx_dat dk_M_alternatives 72 rfl
theorem d_M_alternatives_143 : decode prog_15_method_30_code 143 = .ok (.iload 4, 2) := fx_dat dk_M_alternatives 73 rfl
theorem d_M_alternatives_145 : decode prog_15_method_30_code 145 = .ok (.aload_n 0, 1) := fx_dat dk_M_alternatives 74 rfl
theorem d_M_alternatives_146 : decode prog_15_method_30_code 146 = .ok (.getfield 128, 3) := fx_dat dk_M_alternatives 75 rfl
theorem d_M_alternatives_149 : decode prog_15_method_30_code 149 = .ok (.if_icmp .le 7, 3) := fx_dat dk_M_alternatives 76 rfl
theorem d_M_alternatives_152 : decode prog_15_method_30_code 152 = .ok (.iconst 1, 1) := fx_dat dk_M_alternatives 77 rfl
theorem d_M_alternatives_153 : decode prog_15_method_30_code 153 = .ok (.goto 4, 3) := fx_dat dk_M_alternatives 78 rfl
theorem d_M_alternatives_156 : decode prog_15_method_30_code 156 = .ok (.iconst 0, 1) := fx_dat dk_M_alternatives 79 rfl
theorem d_M_alternatives_157 : decode prog_15_method_30_code 157 = .ok (.invokevirtual 143, 3) := fx_dat dk_M_alternatives 80 rfl
theorem d_M_alternatives_160 : decode prog_15_method_30_code 160 = .ok (.aload_n 0, 1) := fx_dat dk_M_alternatives 81 rfl
theorem d_M_alternatives_161 : decode prog_15_method_30_code 161 = .ok (.dup, 1) := fx_dat dk_M_alternatives 82 rfl
theorem d_M_alternatives_162 : decode prog_15_method_30_code 162 = .ok (.getfield 199, 3) := fx_dat dk_M_alternatives 83 rfl
theorem d_M_alternatives_165 : decode prog_15_method_30_code 165 = .ok (.iconst 1, 1) := fx_dat dk_M_alternatives 84 rfl
theorem d_M_alternatives_166 : decode prog_15_method_30_code 166 = .ok (.iadd, 1) := fx_dat dk_M_alternatives 85 rfl
theorem d_M_alternatives_167 : decode prog_15_method_30_code 167 = .ok (.putfield 199, 3) := fx_dat dk_M_alternatives 86 rfl
theorem d_M_alternatives_170 : decode prog_15_method_30_code 170 = .ok (.aload_n 0, 1) := fx_dat dk_M_alternatives 87 rfl
theorem d_M_alternatives_171 : decode prog_15_method_30_code 171 = .ok (.iload 4, 2) := fx_dat dk_M_alternatives 88 rfl
theorem d_M_alternatives_173 : decode prog_15_method_30_code 173 = .ok (.putfield 128, 3) := fx_dat dk_M_alternatives 89 rfl
theorem d_M_alternatives_176 : decode prog_15_method_30_code 176 = .ok (.goto (-125), 3) := fx_dat dk_M_alternatives 90 rfl
theorem d_M_alternatives_179 : decode prog_15_method_30_code 179 = .ok (.return_, 1) := fx_dat dk_M_alternatives 91 rfl
def m_M_alternatives_179 (Q : AH → Prop) (h : AH) : Prop := Q h
def m_M_alternatives_170 (Q : AH → Prop) (X51 : AH → Prop) (r0 : Nat) (x2 : Int32) (x4 : Int32) (h : AH) : Prop := hp_k h r0 = 13 ∧ ∀ h1 : AH, h1 = up_I h r0 20 x4 → X51 h1
def m_M_alternatives_157 (Q : AH → Prop) (X51 : AH → Prop) (r0 : Nat) (x2 : Int32) (x4 : Int32) (sr0 : Nat) (sx1 : Int32) (h : AH) : Prop := hp_k h sr0 = 13 ∧ m_M_need (fun h1 => fx_ext h h1 → hp_k h1 r0 = 13 ∧ ∀ h2 : AH, h2 = up_I h1 r0 30 ((hp_I h1 r0 30) + (1 : Int32)) → m_M_alternatives_170 Q X51 r0 x2 x4 h2) sr0 sx1 h
def m_M_alternatives_116 (Q : AH → Prop) (X51 : AH → Prop) (r0 : Nat) (x2 : Int32) (x3 : Int32) (sr0 : Nat) (sx1 : Int32) (h : AH) : Prop := hp_k h sr0 = 13 ∧ m_M_need (fun h1 => fx_ext h h1 → hp_k h1 r0 = 13 ∧ m_M_open (fun v1 h2 => fx_ext h1 h2 → ((hp_I h2 r0 21) = 0 → (¬ x3 = (130 : Int32) → m_M_alternatives_170 Q X51 r0 x2 v1 h2) ∧ (x3 = (130 : Int32) → (v1 ≤ (hp_I h2 r0 20) → m_M_alternatives_157 Q X51 r0 x2 v1 r0 (0 : Int32) h2) ∧ (¬ v1 ≤ (hp_I h2 r0 20) → m_M_alternatives_157 Q X51 r0 x2 v1 r0 (1 : Int32) h2))) ∧ (¬ (hp_I h2 r0 21) = 0 → Q h2)) r0 (-1 : Int32) x2 h1) sr0 sx1 h
def m_M_alternatives_115 (Q : AH → Prop) (X51 : AH → Prop) (r0 : Nat) (x2 : Int32) (x3 : Int32) (sr0 : Nat) (h : AH) : Prop := m_M_alternatives_116 Q X51 r0 x2 x3 sr0 (0 : Int32) h
def m_M_alternatives_111 (Q : AH → Prop) (X51 : AH → Prop) (r0 : Nat) (x2 : Int32) (x3 : Int32) (sr0 : Nat) (h : AH) : Prop := m_M_alternatives_116 Q X51 r0 x2 x3 sr0 (1 : Int32) h
def m_M_alternatives_90 (Q : AH → Prop) (X51 : AH → Prop) (r0 : Nat) (x2 : Int32) (x3 : Int32) (sr0 : Nat) (h : AH) : Prop := (x3 < (160 : Int32) → m_M_alternatives_115 Q X51 r0 x2 x3 sr0 h) ∧ (¬ x3 < (160 : Int32) → ((168 : Int32) < x3 → m_M_alternatives_115 Q X51 r0 x2 x3 sr0 h) ∧ (¬ (168 : Int32) < x3 → (x3 = (162 : Int32) → m_M_alternatives_115 Q X51 r0 x2 x3 sr0 h) ∧ (¬ x3 = (162 : Int32) → m_M_alternatives_111 Q X51 r0 x2 x3 sr0 h)))
def m_M_alternatives_51_b (Q : AH → Prop) (X51 : AH → Prop) (r0 : Nat) (x2 : Int32) (h : AH) : Prop := hp_k h r0 = 13 ∧ (¬ (hp_I h r0 21) = 0 → m_M_alternatives_179 Q h) ∧ ((hp_I h r0 21) = 0 → (x2 ≤ (hp_I h r0 20) → m_M_alternatives_179 Q h) ∧ (¬ x2 ≤ (hp_I h r0 20) → m_M_here (fun v1 h1 => fx_ext h h1 → (v1 < (128 : Int32) → m_M_alternatives_90 Q X51 r0 x2 v1 r0 h1) ∧ (¬ v1 < (128 : Int32) → (v1 ≤ (136 : Int32) → m_M_alternatives_111 Q X51 r0 x2 v1 r0 h1) ∧ (¬ v1 ≤ (136 : Int32) → m_M_alternatives_90 Q X51 r0 x2 v1 r0 h1))) r0 (hp_I h r0 20) h))
def m_M_alternatives_51 (Q : AH → Prop) (r0 : Nat) (x2 : Int32) (h : AH) : Prop := fx_loop (fun (X51 : AH → Prop) (st : AH) => m_M_alternatives_51_b Q X51 r0 x2 st) (h)
def m_M_alternatives_35 (Q : AH → Prop) (r0 : Nat) (x2 : Int32) (sr0 : Nat) (sx1 : Int32) (h : AH) : Prop := hp_k h sr0 = 13 ∧ m_M_need (fun h1 => fx_ext h h1 → hp_k h1 r0 = 13 ∧ ∀ h2 : AH, h2 = up_I h1 r0 42 (hp_I h1 r0 20) → ∀ h3 : AH, h3 = up_I h2 r0 43 x2 → m_M_alternatives_51 Q r0 x2 h3) sr0 sx1 h
def m_M_alternatives_34 (Q : AH → Prop) (r0 : Nat) (x2 : Int32) (sr0 : Nat) (h : AH) : Prop := m_M_alternatives_35 Q r0 x2 sr0 (0 : Int32) h
def m_M_alternatives (Q : AH → Prop) (r0 : Nat) (x1 : Int32) (h : AH) : Prop := hp_k h r0 = 13 ∧ m_M_open (fun v1 h1 => fx_ext h h1 → ((hp_I h1 r0 21) = 0 → (¬ v1 = x1 → m_M_alternatives_34 Q r0 v1 r0 h1) ∧ (v1 = x1 → (v1 ≤ (hp_I h1 r0 20) → m_M_alternatives_34 Q r0 v1 r0 h1) ∧ (¬ v1 ≤ (hp_I h1 r0 20) → m_M_alternatives_35 Q r0 v1 r0 (1 : Int32) h1))) ∧ (¬ (hp_I h1 r0 21) = 0 → Q h1)) r0 (48 : Int32) x1 h
theorem b_M_alternatives_179 {p : Program} {l : Launch} {e : Env} {R : Room} {s : State} {m : MethodId} {args : Array Value} {below : List Frame} {meth : Method} {c : Code} {D : DD} {h0 : AH} {Q : AH → Prop} (C : fx_CX D y_M_alternatives prog_15_method_30_code 5 2 32 (none) [] h0 p R s m meth c) (hl : l.flags = flags0) (h : AH) (hw : m_M_alternatives_179 Q h) : ∀ (ls : Array Slot) (H : Heap) (locs : List Loc) (cells slots : Nat), lv_has ls 5 [] → fx_F D h0 h H locs cells slots → W p l e R s m args below meth c H locs cells slots (fx_Z D below s h0 (fx_oV Q fx_no)) (F0 m 179 ls []) := by
  unfold m_M_alternatives_179 at hw
  intro ls H locs cells slots hv F
  exact fx_vret C F d_M_alternatives_179 (Or.inl ⟨rfl, hw⟩)
theorem b_M_alternatives_170 {p : Program} {l : Launch} {e : Env} {R : Room} {s : State} {m : MethodId} {args : Array Value} {below : List Frame} {meth : Method} {c : Code} {D : DD} {h0 : AH} {Q : AH → Prop} {X51 : AH → Prop} (C : fx_CX D y_M_alternatives prog_15_method_30_code 5 2 32 (none) [] h0 p R s m meth c) (hl : l.flags = flags0) (r0 : Nat) (x2 : Int32) (x4 : Int32) (h : AH) (hX51 : ∀ st, X51 st → ∀ (ls : Array Slot) (H : Heap) (locs : List Loc) (cells slots : Nat), lv_has ls 5 [(0, .ref r0), (2, .int x2)] → fx_F D h0 st H locs cells slots → W p l e R s m args below meth c H locs cells slots (fx_Z D below s h0 (fx_oV Q fx_no)) (F0 m 51 ls [])) (hw : m_M_alternatives_170 Q X51 r0 x2 x4 h) : ∀ (ls : Array Slot) (H : Heap) (locs : List Loc) (cells slots : Nat), lv_has ls 5 [(0, .ref r0), (2, .int x2), (4, .int x4)] → fx_F D h0 h H locs cells slots → W p l e R s m args below meth c H locs cells slots (fx_Z D below s h0 (fx_oV Q fx_no)) (F0 m 170 ls []) := by
  unfold m_M_alternatives_170 at hw
  intro ls H locs cells slots hv F
  refine lv_aload_n C.ex C.by d_M_alternatives_170 rfl (lv_at hv 0 rfl) ?_
  refine lv_iload C.ex C.by d_M_alternatives_171 (lv_at hv 2 rfl) ?_
  obtain ⟨hk1, hw⟩ := hw
  let h1 : AH := up_I h r0 20 x4
  replace hw := hw h1 rfl
  refine fx_putI C F lf_M_128 hk1 rfl rfl (fx_mayF.no rfl rfl) d_M_alternatives_173 (fun H locs (F : fx_F D h0 h1 H locs _ _) => ?_)
  refine lv_goto C.ex C.by d_M_alternatives_176 rfl ?_
  exact hX51 _ hw _ _ _ _ _ (lv_sub hv [0, 1] rfl) F
theorem b_M_alternatives_157 {p : Program} {l : Launch} {e : Env} {R : Room} {s : State} {m : MethodId} {args : Array Value} {below : List Frame} {meth : Method} {c : Code} {D : DD} {h0 : AH} {Q : AH → Prop} {X51 : AH → Prop} (C : fx_CX D y_M_alternatives prog_15_method_30_code 5 2 32 (none) [] h0 p R s m meth c) (hl : l.flags = flags0) (r0 : Nat) (x2 : Int32) (x4 : Int32) (sr0 : Nat) (sx1 : Int32) (h : AH) (hX51 : ∀ st, X51 st → ∀ (ls : Array Slot) (H : Heap) (locs : List Loc) (cells slots : Nat), lv_has ls 5 [(0, .ref r0), (2, .int x2)] → fx_F D h0 st H locs cells slots → W p l e R s m args below meth c H locs cells slots (fx_Z D below s h0 (fx_oV Q fx_no)) (F0 m 51 ls [])) (hw : m_M_alternatives_157 Q X51 r0 x2 x4 sr0 sx1 h) : ∀ (ls : Array Slot) (H : Heap) (locs : List Loc) (cells slots : Nat), lv_has ls 5 [(0, .ref r0), (2, .int x2), (4, .int x4)] → fx_F D h0 h H locs cells slots → W p l e R s m args below meth c H locs cells slots (fx_Z D below s h0 (fx_oV Q fx_no)) (F0 m 157 ls [.int sx1, .ref sr0]) := by
  unfold m_M_alternatives_157 at hw
  intro ls H locs cells slots hv F
  obtain ⟨hk1, hw⟩ := hw
  refine fx_callV C F (c_M_need hl hw) hm_M_need hi_M_need hv.1 (by decide) (Nat.le_of_ble_eq_true rfl) (iv_M_need C F lm_M_143 hk1 d_M_alternatives_157) (fx_out0 _) fx_eno (fun h1 H locs cells slots hw hx1 F => ?_)
  replace hw := hw hx1
  have hk1 := (hx1).k hk1
  refine lv_aload_n C.ex C.by d_M_alternatives_160 rfl (lv_at hv 0 rfl) ?_
  refine lv_dup C.ex C.by d_M_alternatives_161 rfl ?_
  obtain ⟨hk2, hw⟩ := hw
  refine fx_getI C F lf_M_199 hk2 rfl d_M_alternatives_162 ?_
  refine lv_iconst (v := (1 : Int32)) C.ex C.by d_M_alternatives_165 (by decide) ?_
  refine lv_iadd C.ex C.by d_M_alternatives_166 ?_
  let h2 : AH := up_I h1 r0 30 ((hp_I h1 r0 30) + (1 : Int32))
  replace hw := hw h2 rfl
  refine fx_putI C F lf_M_199 hk2 rfl rfl (fx_mayF.no rfl rfl) d_M_alternatives_167 (fun H locs (F : fx_F D h0 h2 H locs _ _) => ?_)
  exact b_M_alternatives_170 C hl _ _ _ _ hX51 hw _ _ _ _ _ hv F
theorem b_M_alternatives_116 {p : Program} {l : Launch} {e : Env} {R : Room} {s : State} {m : MethodId} {args : Array Value} {below : List Frame} {meth : Method} {c : Code} {D : DD} {h0 : AH} {Q : AH → Prop} {X51 : AH → Prop} (C : fx_CX D y_M_alternatives prog_15_method_30_code 5 2 32 (none) [] h0 p R s m meth c) (hl : l.flags = flags0) (r0 : Nat) (x2 : Int32) (x3 : Int32) (sr0 : Nat) (sx1 : Int32) (h : AH) (hX51 : ∀ st, X51 st → ∀ (ls : Array Slot) (H : Heap) (locs : List Loc) (cells slots : Nat), lv_has ls 5 [(0, .ref r0), (2, .int x2)] → fx_F D h0 st H locs cells slots → W p l e R s m args below meth c H locs cells slots (fx_Z D below s h0 (fx_oV Q fx_no)) (F0 m 51 ls [])) (hw : m_M_alternatives_116 Q X51 r0 x2 x3 sr0 sx1 h) : ∀ (ls : Array Slot) (H : Heap) (locs : List Loc) (cells slots : Nat), lv_has ls 5 [(0, .ref r0), (2, .int x2), (3, .int x3)] → fx_F D h0 h H locs cells slots → W p l e R s m args below meth c H locs cells slots (fx_Z D below s h0 (fx_oV Q fx_no)) (F0 m 116 ls [.int sx1, .ref sr0]) := by
  unfold m_M_alternatives_116 at hw
  intro ls H locs cells slots hv F
  obtain ⟨hk1, hw⟩ := hw
  refine fx_callV C F (c_M_need hl hw) hm_M_need hi_M_need hv.1 (by decide) (Nat.le_of_ble_eq_true rfl) (iv_M_need C F lm_M_143 hk1 d_M_alternatives_116) (fx_out0 _) fx_eno (fun h1 H locs cells slots hw hx1 F => ?_)
  replace hw := hw hx1
  have hk1 := (hx1).k hk1
  refine lv_aload_n C.ex C.by d_M_alternatives_119 rfl (lv_at hv 0 rfl) ?_
  refine lv_iconst (v := (-1 : Int32)) C.ex C.by d_M_alternatives_120 (by decide) ?_
  refine lv_iload_n C.ex C.by d_M_alternatives_121 rfl (lv_at hv 1 rfl) ?_
  obtain ⟨hk2, hw⟩ := hw
  refine fx_callI C F (c_M_open hl hw) hm_M_open hi_M_open hv.1 (by decide) (Nat.le_of_ble_eq_true rfl) (iv_M_open C F lm_M_140 hk2 d_M_alternatives_122) (fx_out0 _) fx_eno (fun v1 h2 H locs cells slots hw hx2 F => ?_)
  replace hw := hw hx2
  have hk2 := (hx2).k hk2
  have hk1 := (hx2).k hk1
  refine lv_istore (lv' := [(4, .int v1), (0, .ref r0), (2, .int x2), (3, .int x3)]) C.ex C.by d_M_alternatives_125 hv (by decide) rfl (fun ls hv => ?_)
  refine lv_aload_n C.ex C.by d_M_alternatives_127 rfl (lv_at hv 1 rfl) ?_
  refine fx_getI C F lf_M_124 hk2 rfl d_M_alternatives_128 ?_
  refine lv_if_eq C.ex C.by d_M_alternatives_131 rfl (fun hc => ?_) (fun hc => ?_)
  · replace hw := hw.1 hc
    refine lv_iload_n C.ex C.by d_M_alternatives_135 rfl (lv_at hv 3 rfl) ?_
    refine lv_sipush (v := (130 : Int32)) C.ex C.by d_M_alternatives_136 (by decide) ?_
    refine lv_icmp_ne C.ex C.by d_M_alternatives_139 rfl (fun hc => ?_) (fun hc => ?_)
    · replace hw := hw.1 hc
      exact b_M_alternatives_170 C hl _ _ _ _ hX51 hw _ _ _ _ _ (lv_sub hv [1, 2, 0] rfl) F
    · replace hw := hw.2 hc
      refine lv_aload_n C.ex C.by d_M_alternatives_142 rfl (lv_at hv 1 rfl) ?_
      refine lv_iload C.ex C.by d_M_alternatives_143 (lv_at hv 0 rfl) ?_
      refine lv_aload_n C.ex C.by d_M_alternatives_145 rfl (lv_at hv 1 rfl) ?_
      refine fx_getI C F lf_M_128 hk2 rfl d_M_alternatives_146 ?_
      refine lv_icmp_le C.ex C.by d_M_alternatives_149 rfl (fun hc => ?_) (fun hc => ?_)
      · replace hw := hw.1 hc
        refine lv_iconst (v := (0 : Int32)) C.ex C.by d_M_alternatives_156 (by decide) ?_
        exact b_M_alternatives_157 C hl _ _ _ _ _ _ hX51 hw _ _ _ _ _ (lv_sub hv [1, 2, 0] rfl) F
      · replace hw := hw.2 hc
        refine lv_iconst (v := (1 : Int32)) C.ex C.by d_M_alternatives_152 (by decide) ?_
        refine lv_goto C.ex C.by d_M_alternatives_153 rfl ?_
        exact b_M_alternatives_157 C hl _ _ _ _ _ _ hX51 hw _ _ _ _ _ (lv_sub hv [1, 2, 0] rfl) F
  · replace hw := hw.2 hc
    exact fx_vret C F d_M_alternatives_134 (Or.inl ⟨rfl, hw⟩)
theorem b_M_alternatives_115 {p : Program} {l : Launch} {e : Env} {R : Room} {s : State} {m : MethodId} {args : Array Value} {below : List Frame} {meth : Method} {c : Code} {D : DD} {h0 : AH} {Q : AH → Prop} {X51 : AH → Prop} (C : fx_CX D y_M_alternatives prog_15_method_30_code 5 2 32 (none) [] h0 p R s m meth c) (hl : l.flags = flags0) (r0 : Nat) (x2 : Int32) (x3 : Int32) (sr0 : Nat) (h : AH) (hX51 : ∀ st, X51 st → ∀ (ls : Array Slot) (H : Heap) (locs : List Loc) (cells slots : Nat), lv_has ls 5 [(0, .ref r0), (2, .int x2)] → fx_F D h0 st H locs cells slots → W p l e R s m args below meth c H locs cells slots (fx_Z D below s h0 (fx_oV Q fx_no)) (F0 m 51 ls [])) (hw : m_M_alternatives_115 Q X51 r0 x2 x3 sr0 h) : ∀ (ls : Array Slot) (H : Heap) (locs : List Loc) (cells slots : Nat), lv_has ls 5 [(0, .ref r0), (2, .int x2), (3, .int x3)] → fx_F D h0 h H locs cells slots → W p l e R s m args below meth c H locs cells slots (fx_Z D below s h0 (fx_oV Q fx_no)) (F0 m 115 ls [.ref sr0]) := by
  unfold m_M_alternatives_115 at hw
  intro ls H locs cells slots hv F
  refine lv_iconst (v := (0 : Int32)) C.ex C.by d_M_alternatives_115 (by decide) ?_
  exact b_M_alternatives_116 C hl _ _ _ _ _ _ hX51 hw _ _ _ _ _ hv F
theorem b_M_alternatives_111 {p : Program} {l : Launch} {e : Env} {R : Room} {s : State} {m : MethodId} {args : Array Value} {below : List Frame} {meth : Method} {c : Code} {D : DD} {h0 : AH} {Q : AH → Prop} {X51 : AH → Prop} (C : fx_CX D y_M_alternatives prog_15_method_30_code 5 2 32 (none) [] h0 p R s m meth c) (hl : l.flags = flags0) (r0 : Nat) (x2 : Int32) (x3 : Int32) (sr0 : Nat) (h : AH) (hX51 : ∀ st, X51 st → ∀ (ls : Array Slot) (H : Heap) (locs : List Loc) (cells slots : Nat), lv_has ls 5 [(0, .ref r0), (2, .int x2)] → fx_F D h0 st H locs cells slots → W p l e R s m args below meth c H locs cells slots (fx_Z D below s h0 (fx_oV Q fx_no)) (F0 m 51 ls [])) (hw : m_M_alternatives_111 Q X51 r0 x2 x3 sr0 h) : ∀ (ls : Array Slot) (H : Heap) (locs : List Loc) (cells slots : Nat), lv_has ls 5 [(0, .ref r0), (2, .int x2), (3, .int x3)] → fx_F D h0 h H locs cells slots → W p l e R s m args below meth c H locs cells slots (fx_Z D below s h0 (fx_oV Q fx_no)) (F0 m 111 ls [.ref sr0]) := by
  unfold m_M_alternatives_111 at hw
  intro ls H locs cells slots hv F
  refine lv_iconst (v := (1 : Int32)) C.ex C.by d_M_alternatives_111 (by decide) ?_
  refine lv_goto C.ex C.by d_M_alternatives_112 rfl ?_
  exact b_M_alternatives_116 C hl _ _ _ _ _ _ hX51 hw _ _ _ _ _ hv F
theorem b_M_alternatives_90 {p : Program} {l : Launch} {e : Env} {R : Room} {s : State} {m : MethodId} {args : Array Value} {below : List Frame} {meth : Method} {c : Code} {D : DD} {h0 : AH} {Q : AH → Prop} {X51 : AH → Prop} (C : fx_CX D y_M_alternatives prog_15_method_30_code 5 2 32 (none) [] h0 p R s m meth c) (hl : l.flags = flags0) (r0 : Nat) (x2 : Int32) (x3 : Int32) (sr0 : Nat) (h : AH) (hX51 : ∀ st, X51 st → ∀ (ls : Array Slot) (H : Heap) (locs : List Loc) (cells slots : Nat), lv_has ls 5 [(0, .ref r0), (2, .int x2)] → fx_F D h0 st H locs cells slots → W p l e R s m args below meth c H locs cells slots (fx_Z D below s h0 (fx_oV Q fx_no)) (F0 m 51 ls [])) (hw : m_M_alternatives_90 Q X51 r0 x2 x3 sr0 h) : ∀ (ls : Array Slot) (H : Heap) (locs : List Loc) (cells slots : Nat), lv_has ls 5 [(0, .ref r0), (2, .int x2), (3, .int x3)] → fx_F D h0 h H locs cells slots → W p l e R s m args below meth c H locs cells slots (fx_Z D below s h0 (fx_oV Q fx_no)) (F0 m 90 ls [.ref sr0]) := by
  unfold m_M_alternatives_90 at hw
  intro ls H locs cells slots hv F
  refine lv_iload_n C.ex C.by d_M_alternatives_90 rfl (lv_at hv 2 rfl) ?_
  refine lv_sipush (v := (160 : Int32)) C.ex C.by d_M_alternatives_91 (by decide) ?_
  refine lv_icmp_lt C.ex C.by d_M_alternatives_94 rfl (fun hc => ?_) (fun hc => ?_)
  · replace hw := hw.1 hc
    exact b_M_alternatives_115 C hl _ _ _ _ _ hX51 hw _ _ _ _ _ hv F
  · replace hw := hw.2 hc
    refine lv_iload_n C.ex C.by d_M_alternatives_97 rfl (lv_at hv 2 rfl) ?_
    refine lv_sipush (v := (168 : Int32)) C.ex C.by d_M_alternatives_98 (by decide) ?_
    refine lv_icmp_gt C.ex C.by d_M_alternatives_101 rfl (fun hc => ?_) (fun hc => ?_)
    · replace hw := hw.1 hc
      exact b_M_alternatives_115 C hl _ _ _ _ _ hX51 hw _ _ _ _ _ hv F
    · replace hw := hw.2 hc
      refine lv_iload_n C.ex C.by d_M_alternatives_104 rfl (lv_at hv 2 rfl) ?_
      refine lv_sipush (v := (162 : Int32)) C.ex C.by d_M_alternatives_105 (by decide) ?_
      refine lv_icmp_eq C.ex C.by d_M_alternatives_108 rfl (fun hc => ?_) (fun hc => ?_)
      · replace hw := hw.1 hc
        exact b_M_alternatives_115 C hl _ _ _ _ _ hX51 hw _ _ _ _ _ hv F
      · replace hw := hw.2 hc
        exact b_M_alternatives_111 C hl _ _ _ _ _ hX51 hw _ _ _ _ _ hv F
theorem b_M_alternatives_51 {p : Program} {l : Launch} {e : Env} {R : Room} {s : State} {m : MethodId} {args : Array Value} {below : List Frame} {meth : Method} {c : Code} {D : DD} {h0 : AH} {Q : AH → Prop} (C : fx_CX D y_M_alternatives prog_15_method_30_code 5 2 32 (none) [] h0 p R s m meth c) (hl : l.flags = flags0) (r0 : Nat) (x2 : Int32) (h : AH) (hw : m_M_alternatives_51 Q r0 x2 h) : ∀ (ls : Array Slot) (H : Heap) (locs : List Loc) (cells slots : Nat), lv_has ls 5 [(0, .ref r0), (2, .int x2)] → fx_F D h0 h H locs cells slots → W p l e R s m args below meth c H locs cells slots (fx_Z D below s h0 (fx_oV Q fx_no)) (F0 m 51 ls []) := by
  refine fx_loop.use hw (fun st => ∀ (ls : Array Slot) (H : Heap) (locs : List Loc) (cells slots : Nat), lv_has ls 5 [(0, .ref r0), (2, .int x2)] → fx_F D h0 st H locs cells slots → W p l e R s m args below meth c H locs cells slots (fx_Z D below s h0 (fx_oV Q fx_no)) (F0 m 51 ls [])) (fun X51 h hX51 hw => ?_)
  replace hw : m_M_alternatives_51_b Q X51 r0 x2 h := hw
  unfold m_M_alternatives_51_b at hw
  intro ls H locs cells slots hv F
  refine lv_aload_n C.ex C.by d_M_alternatives_51 rfl (lv_at hv 0 rfl) ?_
  obtain ⟨hk1, hw⟩ := hw
  refine fx_getI C F lf_M_124 hk1 rfl d_M_alternatives_52 ?_
  refine lv_if_ne C.ex C.by d_M_alternatives_55 rfl (fun hc => ?_) (fun hc => ?_)
  · replace hw := hw.1 hc
    exact b_M_alternatives_179 C hl _ hw _ _ _ _ _ (lv_sub hv [] rfl) F
  · replace hw := hw.2 hc
    refine lv_aload_n C.ex C.by d_M_alternatives_58 rfl (lv_at hv 0 rfl) ?_
    refine fx_getI C F lf_M_128 hk1 rfl d_M_alternatives_59 ?_
    refine lv_iload_n C.ex C.by d_M_alternatives_62 rfl (lv_at hv 1 rfl) ?_
    refine lv_icmp_ge C.ex C.by d_M_alternatives_63 rfl (fun hc => ?_) (fun hc => ?_)
    · replace hw := hw.1 hc
      exact b_M_alternatives_179 C hl _ hw _ _ _ _ _ (lv_sub hv [] rfl) F
    · replace hw := hw.2 hc
      refine lv_aload_n C.ex C.by d_M_alternatives_66 rfl (lv_at hv 0 rfl) ?_
      refine lv_aload_n C.ex C.by d_M_alternatives_67 rfl (lv_at hv 0 rfl) ?_
      refine fx_getI C F lf_M_128 hk1 rfl d_M_alternatives_68 ?_
      refine fx_callI C F (c_M_here hl hw) hm_M_here hi_M_here hv.1 (by decide) (Nat.le_of_ble_eq_true rfl) (iv_M_here C F lm_M_131 hk1 d_M_alternatives_71) (fx_out0 _) fx_eno (fun v1 h1 H locs cells slots hw hx1 F => ?_)
      replace hw := hw hx1
      have hk1 := (hx1).k hk1
      refine lv_istore_n (lv' := [(3, .int v1), (0, .ref r0), (2, .int x2)]) C.ex C.by d_M_alternatives_74 rfl hv (by decide) rfl (fun ls hv => ?_)
      refine lv_aload_n C.ex C.by d_M_alternatives_75 rfl (lv_at hv 1 rfl) ?_
      refine lv_iload_n C.ex C.by d_M_alternatives_76 rfl (lv_at hv 0 rfl) ?_
      refine lv_sipush (v := (128 : Int32)) C.ex C.by d_M_alternatives_77 (by decide) ?_
      refine lv_icmp_lt C.ex C.by d_M_alternatives_80 rfl (fun hc => ?_) (fun hc => ?_)
      · replace hw := hw.1 hc
        exact b_M_alternatives_90 C hl _ _ _ _ _ hX51 hw _ _ _ _ _ (lv_sub hv [1, 2, 0] rfl) F
      · replace hw := hw.2 hc
        refine lv_iload_n C.ex C.by d_M_alternatives_83 rfl (lv_at hv 0 rfl) ?_
        refine lv_sipush (v := (136 : Int32)) C.ex C.by d_M_alternatives_84 (by decide) ?_
        refine lv_icmp_le C.ex C.by d_M_alternatives_87 rfl (fun hc => ?_) (fun hc => ?_)
        · replace hw := hw.1 hc
          exact b_M_alternatives_111 C hl _ _ _ _ _ hX51 hw _ _ _ _ _ (lv_sub hv [1, 2, 0] rfl) F
        · replace hw := hw.2 hc
          exact b_M_alternatives_90 C hl _ _ _ _ _ hX51 hw _ _ _ _ _ (lv_sub hv [1, 2, 0] rfl) F
theorem b_M_alternatives_35 {p : Program} {l : Launch} {e : Env} {R : Room} {s : State} {m : MethodId} {args : Array Value} {below : List Frame} {meth : Method} {c : Code} {D : DD} {h0 : AH} {Q : AH → Prop} (C : fx_CX D y_M_alternatives prog_15_method_30_code 5 2 32 (none) [] h0 p R s m meth c) (hl : l.flags = flags0) (r0 : Nat) (x2 : Int32) (sr0 : Nat) (sx1 : Int32) (h : AH) (hw : m_M_alternatives_35 Q r0 x2 sr0 sx1 h) : ∀ (ls : Array Slot) (H : Heap) (locs : List Loc) (cells slots : Nat), lv_has ls 5 [(0, .ref r0), (2, .int x2)] → fx_F D h0 h H locs cells slots → W p l e R s m args below meth c H locs cells slots (fx_Z D below s h0 (fx_oV Q fx_no)) (F0 m 35 ls [.int sx1, .ref sr0]) := by
  unfold m_M_alternatives_35 at hw
  intro ls H locs cells slots hv F
  obtain ⟨hk1, hw⟩ := hw
  refine fx_callV C F (c_M_need hl hw) hm_M_need hi_M_need hv.1 (by decide) (Nat.le_of_ble_eq_true rfl) (iv_M_need C F lm_M_143 hk1 d_M_alternatives_35) (fx_out0 _) fx_eno (fun h1 H locs cells slots hw hx1 F => ?_)
  replace hw := hw hx1
  have hk1 := (hx1).k hk1
  refine lv_aload_n C.ex C.by d_M_alternatives_38 rfl (lv_at hv 0 rfl) ?_
  refine lv_aload_n C.ex C.by d_M_alternatives_39 rfl (lv_at hv 0 rfl) ?_
  obtain ⟨hk2, hw⟩ := hw
  refine fx_getI C F lf_M_128 hk2 rfl d_M_alternatives_40 ?_
  let h2 : AH := up_I h1 r0 42 (hp_I h1 r0 20)
  replace hw := hw h2 rfl
  refine fx_putI C F lf_M_193 hk2 rfl rfl (fx_mayF.no rfl rfl) d_M_alternatives_43 (fun H locs (F : fx_F D h0 h2 H locs _ _) => ?_)
  refine lv_aload_n C.ex C.by d_M_alternatives_46 rfl (lv_at hv 0 rfl) ?_
  refine lv_iload_n C.ex C.by d_M_alternatives_47 rfl (lv_at hv 1 rfl) ?_
  let h3 : AH := up_I h2 r0 43 x2
  replace hw := hw h3 rfl
  refine fx_putI C F lf_M_196 hk2 rfl rfl (fx_mayF.no rfl rfl) d_M_alternatives_48 (fun H locs (F : fx_F D h0 h3 H locs _ _) => ?_)
  exact b_M_alternatives_51 C hl _ _ _ hw _ _ _ _ _ hv F
theorem b_M_alternatives_34 {p : Program} {l : Launch} {e : Env} {R : Room} {s : State} {m : MethodId} {args : Array Value} {below : List Frame} {meth : Method} {c : Code} {D : DD} {h0 : AH} {Q : AH → Prop} (C : fx_CX D y_M_alternatives prog_15_method_30_code 5 2 32 (none) [] h0 p R s m meth c) (hl : l.flags = flags0) (r0 : Nat) (x2 : Int32) (sr0 : Nat) (h : AH) (hw : m_M_alternatives_34 Q r0 x2 sr0 h) : ∀ (ls : Array Slot) (H : Heap) (locs : List Loc) (cells slots : Nat), lv_has ls 5 [(0, .ref r0), (2, .int x2)] → fx_F D h0 h H locs cells slots → W p l e R s m args below meth c H locs cells slots (fx_Z D below s h0 (fx_oV Q fx_no)) (F0 m 34 ls [.ref sr0]) := by
  unfold m_M_alternatives_34 at hw
  intro ls H locs cells slots hv F
  refine lv_iconst (v := (0 : Int32)) C.ex C.by d_M_alternatives_34 (by decide) ?_
  exact b_M_alternatives_35 C hl _ _ _ _ _ hw _ _ _ _ _ hv F
theorem b_M_alternatives_0 {p : Program} {l : Launch} {e : Env} {R : Room} {s : State} {m : MethodId} {args : Array Value} {below : List Frame} {meth : Method} {c : Code} {D : DD} {h0 : AH} {Q : AH → Prop} (C : fx_CX D y_M_alternatives prog_15_method_30_code 5 2 32 (none) [] h0 p R s m meth c) (hl : l.flags = flags0) (r0 : Nat) (x1 : Int32) (h : AH) (hw : m_M_alternatives Q r0 x1 h) : ∀ (ls : Array Slot) (H : Heap) (locs : List Loc) (cells slots : Nat), lv_has ls 5 [(0, .ref r0), (1, .int x1)] → fx_F D h0 h H locs cells slots → W p l e R s m args below meth c H locs cells slots (fx_Z D below s h0 (fx_oV Q fx_no)) (F0 m 0 ls []) := by
  unfold m_M_alternatives at hw
  intro ls H locs cells slots hv F
  refine lv_aload_n C.ex C.by d_M_alternatives_0 rfl (lv_at hv 0 rfl) ?_
  refine lv_bipush (v := (48 : Int32)) C.ex C.by d_M_alternatives_1 (by decide) ?_
  refine lv_iload_n C.ex C.by d_M_alternatives_3 rfl (lv_at hv 1 rfl) ?_
  obtain ⟨hk1, hw⟩ := hw
  refine fx_callI C F (c_M_open hl hw) hm_M_open hi_M_open hv.1 (by decide) (Nat.le_of_ble_eq_true rfl) (iv_M_open C F lm_M_140 hk1 d_M_alternatives_4) (fx_out0 _) fx_eno (fun v1 h1 H locs cells slots hw hx1 F => ?_)
  replace hw := hw hx1
  have hk1 := (hx1).k hk1
  refine lv_istore_n (lv' := [(2, .int v1), (0, .ref r0), (1, .int x1)]) C.ex C.by d_M_alternatives_7 rfl hv (by decide) rfl (fun ls hv => ?_)
  refine lv_aload_n C.ex C.by d_M_alternatives_8 rfl (lv_at hv 1 rfl) ?_
  refine fx_getI C F lf_M_124 hk1 rfl d_M_alternatives_9 ?_
  refine lv_if_eq C.ex C.by d_M_alternatives_12 rfl (fun hc => ?_) (fun hc => ?_)
  · replace hw := hw.1 hc
    refine lv_aload_n C.ex C.by d_M_alternatives_16 rfl (lv_at hv 1 rfl) ?_
    refine lv_iload_n C.ex C.by d_M_alternatives_17 rfl (lv_at hv 0 rfl) ?_
    refine lv_iload_n C.ex C.by d_M_alternatives_18 rfl (lv_at hv 2 rfl) ?_
    refine lv_icmp_ne C.ex C.by d_M_alternatives_19 rfl (fun hc => ?_) (fun hc => ?_)
    · replace hw := hw.1 hc
      exact b_M_alternatives_34 C hl _ _ _ _ hw _ _ _ _ _ (lv_sub hv [1, 0] rfl) F
    · replace hw := hw.2 hc
      refine lv_aload_n C.ex C.by d_M_alternatives_22 rfl (lv_at hv 1 rfl) ?_
      refine fx_getI C F lf_M_128 hk1 rfl d_M_alternatives_23 ?_
      refine lv_iload_n C.ex C.by d_M_alternatives_26 rfl (lv_at hv 0 rfl) ?_
      refine lv_icmp_ge C.ex C.by d_M_alternatives_27 rfl (fun hc => ?_) (fun hc => ?_)
      · replace hw := hw.1 hc
        exact b_M_alternatives_34 C hl _ _ _ _ hw _ _ _ _ _ (lv_sub hv [1, 0] rfl) F
      · replace hw := hw.2 hc
        refine lv_iconst (v := (1 : Int32)) C.ex C.by d_M_alternatives_30 (by decide) ?_
        refine lv_goto C.ex C.by d_M_alternatives_31 rfl ?_
        exact b_M_alternatives_35 C hl _ _ _ _ _ hw _ _ _ _ _ (lv_sub hv [1, 0] rfl) F
  · replace hw := hw.2 hc
    exact fx_vret C F d_M_alternatives_15 (Or.inl ⟨rfl, hw⟩)
theorem hm_M_alternatives : fx_hd y_M_alternatives prog_15_method_30_code 5 (none) [] ∈ tables_1 := (fx_m7 (List.mem_of_getElem? (i := 63) rfl))
theorem hi_M_alternatives : Cond.initialized y_M_alternatives.cls ∈ tables_1 := (fx_m1 (List.mem_of_getElem? (i := 15) rfl))
theorem c_M_alternatives {l : Launch} (hl : l.flags = flags0) {D : DD} {Q : AH → Prop} {r0 : Nat} {x1 : Int32} {h : AH} (hw : m_M_alternatives Q r0 x1 h) : fx_Mt l D y_M_alternatives (fx_hd y_M_alternatives prog_15_method_30_code 5 (none) []) 2 32 [.ref r0, .int x1] h (fx_oV Q fx_no) := by
  refine fx_ofW (plainFor_of_name (by decide)) (fun p e s m below meth c C F => ?_)
  have hv := lv_entry ([.ref r0, .int x1]) (n := 5) (Nat.le_of_ble_eq_true rfl)
  rw [lg_entry_eq]
  generalize (lg_sl ([.ref r0, .int x1]) ++ List.replicate (5 - (lg_sl ([.ref r0, .int x1])).length) Slot.unset).toArray = ls at hv ⊢
  have hv : lv_has ls 5 [(0, .ref r0), (1, .int x1)] := hv
  exact b_M_alternatives_0 C hl _ _ _ hw _ _ _ _ _ hv F
/-! ChainJudgeModel.purposes(I)V: frames 3, words 47 -/
abbrev y_M_purposes : MethodName := ⟨"ChainJudgeModel", "purposes", "(I)V"⟩
theorem lf_M_202 : fx_Lk "ChainJudgeModel" 202 12 29 := fx_Lk.mk (C := "ChainJudgeModel") (T := fx_T12) (N := 57) rfl (by decide) (by decide) (fx_m6 (List.mem_of_getElem? (i := 35) rfl))
def dl_M_purposes : List (Nat × Instr × Nat) := [(0, .aload_n 0, 1), (1, .bipush 48, 2), (3, .iload_n 1, 1), (4, .invokevirtual 140, 3), (7, .istore_n 2, 1), (8, .aload_n 0, 1), (9, .getfield 124, 3), (12, .ifCond .eq 4, 3), (15, .return_, 1), (16, .aload_n 0, 1), (17, .iload_n 2, 1), (18, .iload_n 1, 1), (19, .if_icmp .ne 15, 3), (22, .aload_n 0, 1), (23, .getfield 128, 3), (26, .iload_n 2, 1), (27, .if_icmp .ge 7, 3), (30, .iconst 1, 1), (31, .goto 4, 3), (34, .iconst 0, 1), (35, .invokevirtual 143, 3), (38, .aload_n 0, 1), (39, .iconst 0, 1), (40, .putfield 202, 3), (43, .aload_n 0, 1), (44, .getfield 124, 3), (47, .ifCond .ne 104, 3), (50, .aload_n 0, 1), (51, .getfield 128, 3), (54, .iload_n 2, 1), (55, .if_icmp .ge 96, 3), (58, .aload_n 0, 1), (59, .getfield 128, 3), (62, .istore_n 3, 1), (63, .aload_n 0, 1), (64, .iload_n 2, 1), (65, .invokevirtual 155, 3), (68, .aload_n 0, 1), (69, .getfield 124, 3), (72, .ifCond .ne (-29), 3), (75, .aload_n 0, 1), (76, .getfield 128, 3), (79, .iload_n 3, 1), (80, .isub, 1), (81, .bipush 10, 2), (83, .if_icmp .ne (-40), 3), (86, .aload_n 0, 1), (87, .iload_n 3, 1), (88, .iconst 2, 1), (89, .iadd, 1), (90, .bipush 7, 2), (92, .ldc2_w 205, 3), (95, .invokevirtual 149, 3), (98, .ifCond .ne 6, 3), (101, .goto (-58), 3), (104, .aload_n 0, 1), (105, .iload_n 3, 1), (106, .bipush 9, 2), (108, .iadd, 1), (109, .invokevirtual 131, 3), (112, .iconst 1, 1), (113, .if_icmp .ne 13, 3), (116, .aload_n 0, 1), (117, .dup, 1), (118, .getfield 202, 3), (121, .iconst 1, 1), (122, .ior, 1), (123, .putfield 202, 3), (126, .aload_n 0, 1), (127, .iload_n 3, 1), (128, .bipush 9, 2), (130, .iadd, 1), (131, .invokevirtual 131, 3), (134, .iconst 2, 1), (135, .if_icmp .ne 13, 3), (138, .aload_n 0, 1), (139, .dup, 1), (140, .getfield 202, 3), (143, .iconst 2, 1), (144, .ior, 1), (145, .putfield 202, 3), (148, .goto (-105), 3), (151, .return_, 1)]
theorem dk_M_purposes : fx_dec prog_15_method_31_code dl_M_purposes = true := by decide +kernel
theorem d_M_purposes_0 : decode prog_15_method_31_code 0 = .ok (.aload_n 0, 1) := fx_dat dk_M_purposes 0 rfl
theorem d_M_purposes_1 : decode prog_15_method_31_code 1 = .ok (.bipush 48, 2) := fx_dat dk_M_purposes 1 rfl
theorem d_M_purposes_3 : decode prog_15_method_31_code 3 = .ok (.iload_n 1, 1) := fx_dat dk_M_purposes 2 rfl
theorem d_M_purposes_4 : decode prog_15_method_31_code 4 = .ok (.invokevirtual 140, 3) := fx_dat dk_M_purposes 3 rfl
theorem d_M_purposes_7 : decode prog_15_method_31_code 7 = .ok (.istore_n 2, 1) := fx_dat dk_M_purposes 4 rfl
theorem d_M_purposes_8 : decode prog_15_method_31_code 8 = .ok (.aload_n 0, 1) := fx_dat dk_M_purposes 5 rfl
theorem d_M_purposes_9 : decode prog_15_method_31_code 9 = .ok (.getfield 124, 3) := fx_dat dk_M_purposes 6 rfl
theorem d_M_purposes_12 : decode prog_15_method_31_code 12 = .ok (.ifCond .eq 4, 3) := fx_dat dk_M_purposes 7 rfl
theorem d_M_purposes_15 : decode prog_15_method_31_code 15 = .ok (.return_, 1) := fx_dat dk_M_purposes 8 rfl
theorem d_M_purposes_16 : decode prog_15_method_31_code 16 = .ok (.aload_n 0, 1) := fx_dat dk_M_purposes 9 rfl
theorem d_M_purposes_17 : decode prog_15_method_31_code 17 = .ok (.iload_n 2, 1) := fx_dat dk_M_purposes 10 rfl
theorem d_M_purposes_18 : decode prog_15_method_31_code 18 = .ok (.iload_n 1, 1) := fx_dat dk_M_purposes 11 rfl
theorem d_M_purposes_19 : decode prog_15_method_31_code 19 = .ok (.if_icmp .ne 15, 3) := fx_dat dk_M_purposes 12 rfl
theorem d_M_purposes_22 : decode prog_15_method_31_code 22 = .ok (.aload_n 0, 1) := fx_dat dk_M_purposes 13 rfl
theorem d_M_purposes_23 : decode prog_15_method_31_code 23 = .ok (.getfield 128, 3) := fx_dat dk_M_purposes 14 rfl
theorem d_M_purposes_26 : decode prog_15_method_31_code 26 = .ok (.iload_n 2, 1) := fx_dat dk_M_purposes 15 rfl
theorem d_M_purposes_27 : decode prog_15_method_31_code 27 = .ok (.if_icmp .ge 7, 3) := fx_dat dk_M_purposes 16 rfl
theorem d_M_purposes_30 : decode prog_15_method_31_code 30 = .ok (.iconst 1, 1) := fx_dat dk_M_purposes 17 rfl
theorem d_M_purposes_31 : decode prog_15_method_31_code 31 = .ok (.goto 4, 3) := fx_dat dk_M_purposes 18 rfl
theorem d_M_purposes_34 : decode prog_15_method_31_code 34 = .ok (.iconst 0, 1) := fx_dat dk_M_purposes 19 rfl
theorem d_M_purposes_35 : decode prog_15_method_31_code 35 = .ok (.invokevirtual 143, 3) := fx_dat dk_M_purposes 20 rfl
theorem d_M_purposes_38 : decode prog_15_method_31_code 38 = .ok (.aload_n 0, 1) := fx_dat dk_M_purposes 21 rfl
theorem d_M_purposes_39 : decode prog_15_method_31_code 39 = .ok (.iconst 0, 1) := fx_dat dk_M_purposes 22 rfl
theorem d_M_purposes_40 : decode prog_15_method_31_code 40 = .ok (.putfield 202, 3) := fx_dat dk_M_purposes 23 rfl
theorem d_M_purposes_43 : decode prog_15_method_31_code 43 = .ok (.aload_n 0, 1) := fx_dat dk_M_purposes 24 rfl
theorem d_M_purposes_44 : decode prog_15_method_31_code 44 = .ok (.getfield 124, 3) := fx_dat dk_M_purposes 25 rfl
theorem d_M_purposes_47 : decode prog_15_method_31_code 47 = .ok (.ifCond .ne 104, 3) := fx_dat dk_M_purposes 26 rfl
theorem d_M_purposes_50 : decode prog_15_method_31_code 50 = .ok (.aload_n 0, 1) := fx_dat dk_M_purposes 27 rfl
theorem d_M_purposes_51 : decode prog_15_method_31_code 51 = .ok (.getfield 128, 3) := fx_dat dk_M_purposes 28 rfl
theorem d_M_purposes_54 : decode prog_15_method_31_code 54 = .ok (.iload_n 2, 1) := fx_dat dk_M_purposes 29 rfl
theorem d_M_purposes_55 : decode prog_15_method_31_code 55 = .ok (.if_icmp .ge 96, 3) := fx_dat dk_M_purposes 30 rfl
theorem d_M_purposes_58 : decode prog_15_method_31_code 58 = .ok (.aload_n 0, 1) := fx_dat dk_M_purposes 31 rfl
theorem d_M_purposes_59 : decode prog_15_method_31_code 59 = .ok (.getfield 128, 3) := fx_dat dk_M_purposes 32 rfl
theorem d_M_purposes_62 : decode prog_15_method_31_code 62 = .ok (.istore_n 3, 1) := fx_dat dk_M_purposes 33 rfl
theorem d_M_purposes_63 : decode prog_15_method_31_code 63 = .ok (.aload_n 0, 1) := fx_dat dk_M_purposes 34 rfl
theorem d_M_purposes_64 : decode prog_15_method_31_code 64 = .ok (.iload_n 2, 1) := fx_dat dk_M_purposes 35 rfl
theorem d_M_purposes_65 : decode prog_15_method_31_code 65 = .ok (.invokevirtual 155, 3) := fx_dat dk_M_purposes 36 rfl
theorem d_M_purposes_68 : decode prog_15_method_31_code 68 = .ok (.aload_n 0, 1) := fx_dat dk_M_purposes 37 rfl
theorem d_M_purposes_69 : decode prog_15_method_31_code 69 = .ok (.getfield 124, 3) := fx_dat dk_M_purposes 38 rfl
theorem d_M_purposes_72 : decode prog_15_method_31_code 72 = .ok (.ifCond .ne (-29), 3) := fx_dat dk_M_purposes 39 rfl
theorem d_M_purposes_75 : decode prog_15_method_31_code 75 = .ok (.aload_n 0, 1) := fx_dat dk_M_purposes 40 rfl
theorem d_M_purposes_76 : decode prog_15_method_31_code 76 = .ok (.getfield 128, 3) := fx_dat dk_M_purposes 41 rfl
theorem d_M_purposes_79 : decode prog_15_method_31_code 79 = .ok (.iload_n 3, 1) := fx_dat dk_M_purposes 42 rfl
theorem d_M_purposes_80 : decode prog_15_method_31_code 80 = .ok (.isub, 1) := fx_dat dk_M_purposes 43 rfl
theorem d_M_purposes_81 : decode prog_15_method_31_code 81 = .ok (.bipush 10, 2) := fx_dat dk_M_purposes 44 rfl
theorem d_M_purposes_83 : decode prog_15_method_31_code 83 = .ok (.if_icmp .ne (-40), 3) := fx_dat dk_M_purposes 45 rfl
theorem d_M_purposes_86 : decode prog_15_method_31_code 86 = .ok (.aload_n 0, 1) := fx_dat dk_M_purposes 46 rfl
theorem d_M_purposes_87 : decode prog_15_method_31_code 87 = .ok (.iload_n 3, 1) := fx_dat dk_M_purposes 47 rfl
theorem d_M_purposes_88 : decode prog_15_method_31_code 88 = .ok (.iconst 2, 1) := fx_dat dk_M_purposes 48 rfl
theorem d_M_purposes_89 : decode prog_15_method_31_code 89 = .ok (.iadd, 1) := fx_dat dk_M_purposes 49 rfl
theorem d_M_purposes_90 : decode prog_15_method_31_code 90 = .ok (.bipush 7, 2) := fx_dat dk_M_purposes 50 rfl
theorem d_M_purposes_92 : decode prog_15_method_31_code 92 = .ok (.ldc2_w 205, 3) := fx_dat dk_M_purposes 51 rfl
theorem d_M_purposes_95 : decode prog_15_method_31_code 95 = .ok (.invokevirtual 149, 3) := fx_dat dk_M_purposes 52 rfl
theorem d_M_purposes_98 : decode prog_15_method_31_code 98 = .ok (.ifCond .ne 6, 3) := fx_dat dk_M_purposes 53 rfl
theorem d_M_purposes_101 : decode prog_15_method_31_code 101 = .ok (.goto (-58), 3) := fx_dat dk_M_purposes 54 rfl
theorem d_M_purposes_104 : decode prog_15_method_31_code 104 = .ok (.aload_n 0, 1) := fx_dat dk_M_purposes 55 rfl
theorem d_M_purposes_105 : decode prog_15_method_31_code 105 = .ok (.iload_n 3, 1) := fx_dat dk_M_purposes 56 rfl
theorem d_M_purposes_106 : decode prog_15_method_31_code 106 = .ok (.bipush 9, 2) := fx_dat dk_M_purposes 57 rfl
theorem d_M_purposes_108 : decode prog_15_method_31_code 108 = .ok (.iadd, 1) := fx_dat dk_M_purposes 58 rfl
theorem d_M_purposes_109 : decode prog_15_method_31_code 109 = .ok (.invokevirtual 131, 3) := fx_dat dk_M_purposes 59 rfl
theorem d_M_purposes_112 : decode prog_15_method_31_code 112 = .ok (.iconst 1, 1) := fx_dat dk_M_purposes 60 rfl
theorem d_M_purposes_113 : decode prog_15_method_31_code 113 = .ok (.if_icmp .ne 13, 3) := fx_dat dk_M_purposes 61 rfl
theorem d_M_purposes_116 : decode prog_15_method_31_code 116 = .ok (.aload_n 0, 1) := fx_dat dk_M_purposes 62 rfl
theorem d_M_purposes_117 : decode prog_15_method_31_code 117 = .ok (.dup, 1) := fx_dat dk_M_purposes 63 rfl
theorem d_M_purposes_118 : decode prog_15_method_31_code 118 = .ok (.getfield 202, 3) := fx_dat dk_M_purposes 64 rfl
theorem d_M_purposes_121 : decode prog_15_method_31_code 121 = .ok (.iconst 1, 1) := fx_dat dk_M_purposes 65 rfl
theorem d_M_purposes_122 : decode prog_15_method_31_code 122 = .ok (.ior, 1) := fx_dat dk_M_purposes 66 rfl
theorem d_M_purposes_123 : decode prog_15_method_31_code 123 = .ok (.putfield 202, 3) := fx_dat dk_M_purposes 67 rfl
theorem d_M_purposes_126 : decode prog_15_method_31_code 126 = .ok (.aload_n 0, 1) := fx_dat dk_M_purposes 68 rfl
theorem d_M_purposes_127 : decode prog_15_method_31_code 127 = .ok (.iload_n 3, 1) := fx_dat dk_M_purposes 69 rfl
theorem d_M_purposes_128 : decode prog_15_method_31_code 128 = .ok (.bipush 9, 2) := fx_dat dk_M_purposes 70 rfl
theorem d_M_purposes_130 : decode prog_15_method_31_code 130 = .ok (.iadd, 1) := fx_dat dk_M_purposes 71 rfl
theorem d_M_purposes_131 : decode prog_15_method_31_code 131 = .ok (.invokevirtual 131, 3) := fx_dat dk_M_purposes 72 rfl
theorem d_M_purposes_134 : decode prog_15_method_31_code 134 = .ok (.iconst 2, 1) := fx_dat dk_M_purposes 73 rfl
theorem d_M_purposes_135 : decode prog_15_method_31_code 135 = .ok (.if_icmp .ne 13, 3) := fx_dat dk_M_purposes 74 rfl
theorem d_M_purposes_138 : decode prog_15_method_31_code 138 = .ok (.aload_n 0, 1) := fx_dat dk_M_purposes 75 rfl
theorem d_M_purposes_139 : decode prog_15_method_31_code 139 = .ok (.dup, 1) := fx_dat dk_M_purposes 76 rfl
theorem d_M_purposes_140 : decode prog_15_method_31_code 140 = .ok (.getfield 202, 3) := fx_dat dk_M_purposes 77 rfl
theorem d_M_purposes_143 : decode prog_15_method_31_code 143 = .ok (.iconst 2, 1) := fx_dat dk_M_purposes 78 rfl
theorem d_M_purposes_144 : decode prog_15_method_31_code 144 = .ok (.ior, 1) := fx_dat dk_M_purposes 79 rfl
theorem d_M_purposes_145 : decode prog_15_method_31_code 145 = .ok (.putfield 202, 3) := fx_dat dk_M_purposes 80 rfl
theorem d_M_purposes_148 : decode prog_15_method_31_code 148 = .ok (.goto (-105), 3) := fx_dat dk_M_purposes 81 rfl
theorem d_M_purposes_151 : decode prog_15_method_31_code 151 = .ok (.return_, 1) := fx_dat dk_M_purposes 82 rfl
def m_M_purposes_151 (Q : AH → Prop) (h : AH) : Prop := Q h
def m_M_purposes_148 (Q : AH → Prop) (X43 : AH → Prop) (r0 : Nat) (x2 : Int32) (h : AH) : Prop := X43 h
def m_M_purposes_126 (Q : AH → Prop) (X43 : AH → Prop) (r0 : Nat) (x2 : Int32) (x3 : Int32) (h : AH) : Prop := hp_k h r0 = 13 ∧ m_M_here (fun v1 h1 => fx_ext h h1 → (¬ v1 = (2 : Int32) → m_M_purposes_148 Q X43 r0 x2 h1) ∧ (v1 = (2 : Int32) → ∀ h2 : AH, h2 = up_I h1 r0 29 ((hp_I h1 r0 29) ||| (2 : Int32)) → m_M_purposes_148 Q X43 r0 x2 h2)) r0 (x3 + (9 : Int32)) h
def m_M_purposes_43_b (Q : AH → Prop) (X43 : AH → Prop) (r0 : Nat) (x2 : Int32) (h : AH) : Prop := hp_k h r0 = 13 ∧ (¬ (hp_I h r0 21) = 0 → m_M_purposes_151 Q h) ∧ ((hp_I h r0 21) = 0 → (x2 ≤ (hp_I h r0 20) → m_M_purposes_151 Q h) ∧ (¬ x2 ≤ (hp_I h r0 20) → ∀ v1 : Int32, v1 = (hp_I h r0 20) → m_M_oid (fun h1 => fx_ext h h1 → (¬ (hp_I h1 r0 21) = 0 → X43 h1) ∧ ((hp_I h1 r0 21) = 0 → (¬ ((hp_I h1 r0 20) - v1) = (10 : Int32) → X43 h1) ∧ (((hp_I h1 r0 20) - v1) = (10 : Int32) → m_M_stands (fun v2 h2 => fx_ext h1 h2 → zb v2 → (¬ v2 = 0 → m_M_here (fun v3 h3 => fx_ext h2 h3 → (¬ v3 = (1 : Int32) → m_M_purposes_126 Q X43 r0 x2 v1 h3) ∧ (v3 = (1 : Int32) → ∀ h4 : AH, h4 = up_I h3 r0 29 ((hp_I h3 r0 29) ||| (1 : Int32)) → m_M_purposes_126 Q X43 r0 x2 v1 h4)) r0 (v1 + (9 : Int32)) h2) ∧ (v2 = 0 → X43 h2)) r0 (v1 + (2 : Int32)) (7 : Int32) (12110025447507715 : Int64) h1))) r0 x2 h))
def m_M_purposes_43 (Q : AH → Prop) (r0 : Nat) (x2 : Int32) (h : AH) : Prop := fx_loop (fun (X43 : AH → Prop) (st : AH) => m_M_purposes_43_b Q X43 r0 x2 st) (h)
def m_M_purposes_35 (Q : AH → Prop) (r0 : Nat) (x2 : Int32) (sr0 : Nat) (sx1 : Int32) (h : AH) : Prop := hp_k h sr0 = 13 ∧ m_M_need (fun h1 => fx_ext h h1 → hp_k h1 r0 = 13 ∧ ∀ h2 : AH, h2 = up_I h1 r0 29 (0 : Int32) → m_M_purposes_43 Q r0 x2 h2) sr0 sx1 h
def m_M_purposes_34 (Q : AH → Prop) (r0 : Nat) (x2 : Int32) (sr0 : Nat) (h : AH) : Prop := m_M_purposes_35 Q r0 x2 sr0 (0 : Int32) h
def m_M_purposes (Q : AH → Prop) (r0 : Nat) (x1 : Int32) (h : AH) : Prop := hp_k h r0 = 13 ∧ m_M_open (fun v1 h1 => fx_ext h h1 → ((hp_I h1 r0 21) = 0 → (¬ v1 = x1 → m_M_purposes_34 Q r0 v1 r0 h1) ∧ (v1 = x1 → (v1 ≤ (hp_I h1 r0 20) → m_M_purposes_34 Q r0 v1 r0 h1) ∧ (¬ v1 ≤ (hp_I h1 r0 20) → m_M_purposes_35 Q r0 v1 r0 (1 : Int32) h1))) ∧ (¬ (hp_I h1 r0 21) = 0 → Q h1)) r0 (48 : Int32) x1 h
theorem b_M_purposes_151 {p : Program} {l : Launch} {e : Env} {R : Room} {s : State} {m : MethodId} {args : Array Value} {below : List Frame} {meth : Method} {c : Code} {D : DD} {h0 : AH} {Q : AH → Prop} (C : fx_CX D y_M_purposes prog_15_method_31_code 4 3 47 (none) [] h0 p R s m meth c) (hl : l.flags = flags0) (h : AH) (hw : m_M_purposes_151 Q h) : ∀ (ls : Array Slot) (H : Heap) (locs : List Loc) (cells slots : Nat), lv_has ls 4 [] → fx_F D h0 h H locs cells slots → W p l e R s m args below meth c H locs cells slots (fx_Z D below s h0 (fx_oV Q fx_no)) (F0 m 151 ls []) := by
  unfold m_M_purposes_151 at hw
  intro ls H locs cells slots hv F
  exact fx_vret C F d_M_purposes_151 (Or.inl ⟨rfl, hw⟩)
theorem b_M_purposes_148 {p : Program} {l : Launch} {e : Env} {R : Room} {s : State} {m : MethodId} {args : Array Value} {below : List Frame} {meth : Method} {c : Code} {D : DD} {h0 : AH} {Q : AH → Prop} {X43 : AH → Prop} (C : fx_CX D y_M_purposes prog_15_method_31_code 4 3 47 (none) [] h0 p R s m meth c) (hl : l.flags = flags0) (r0 : Nat) (x2 : Int32) (h : AH) (hX43 : ∀ st, X43 st → ∀ (ls : Array Slot) (H : Heap) (locs : List Loc) (cells slots : Nat), lv_has ls 4 [(0, .ref r0), (2, .int x2)] → fx_F D h0 st H locs cells slots → W p l e R s m args below meth c H locs cells slots (fx_Z D below s h0 (fx_oV Q fx_no)) (F0 m 43 ls [])) (hw : m_M_purposes_148 Q X43 r0 x2 h) : ∀ (ls : Array Slot) (H : Heap) (locs : List Loc) (cells slots : Nat), lv_has ls 4 [(0, .ref r0), (2, .int x2)] → fx_F D h0 h H locs cells slots → W p l e R s m args below meth c H locs cells slots (fx_Z D below s h0 (fx_oV Q fx_no)) (F0 m 148 ls []) := by
  unfold m_M_purposes_148 at hw
  intro ls H locs cells slots hv F
  refine lv_goto C.ex C.by d_M_purposes_148 rfl ?_
  exact hX43 _ hw _ _ _ _ _ hv F
theorem b_M_purposes_126 {p : Program} {l : Launch} {e : Env} {R : Room} {s : State} {m : MethodId} {args : Array Value} {below : List Frame} {meth : Method} {c : Code} {D : DD} {h0 : AH} {Q : AH → Prop} {X43 : AH → Prop} (C : fx_CX D y_M_purposes prog_15_method_31_code 4 3 47 (none) [] h0 p R s m meth c) (hl : l.flags = flags0) (r0 : Nat) (x2 : Int32) (x3 : Int32) (h : AH) (hX43 : ∀ st, X43 st → ∀ (ls : Array Slot) (H : Heap) (locs : List Loc) (cells slots : Nat), lv_has ls 4 [(0, .ref r0), (2, .int x2)] → fx_F D h0 st H locs cells slots → W p l e R s m args below meth c H locs cells slots (fx_Z D below s h0 (fx_oV Q fx_no)) (F0 m 43 ls [])) (hw : m_M_purposes_126 Q X43 r0 x2 x3 h) : ∀ (ls : Array Slot) (H : Heap) (locs : List Loc) (cells slots : Nat), lv_has ls 4 [(0, .ref r0), (2, .int x2), (3, .int x3)] → fx_F D h0 h H locs cells slots → W p l e R s m args below meth c H locs cells slots (fx_Z D below s h0 (fx_oV Q fx_no)) (F0 m 126 ls []) := by
  unfold m_M_purposes_126 at hw
  intro ls H locs cells slots hv F
  refine lv_aload_n C.ex C.by d_M_purposes_126 rfl (lv_at hv 0 rfl) ?_
  refine lv_iload_n C.ex C.by d_M_purposes_127 rfl (lv_at hv 2 rfl) ?_
  refine lv_bipush (v := (9 : Int32)) C.ex C.by d_M_purposes_128 (by decide) ?_
  refine lv_iadd C.ex C.by d_M_purposes_130 ?_
  obtain ⟨hk1, hw⟩ := hw
  refine fx_callI C F (c_M_here hl hw) hm_M_here hi_M_here hv.1 (by decide) (Nat.le_of_ble_eq_true rfl) (iv_M_here C F lm_M_131 hk1 d_M_purposes_131) (fx_out0 _) fx_eno (fun v1 h1 H locs cells slots hw hx1 F => ?_)
  replace hw := hw hx1
  have hk1 := (hx1).k hk1
  refine lv_iconst (v := (2 : Int32)) C.ex C.by d_M_purposes_134 (by decide) ?_
  refine lv_icmp_ne C.ex C.by d_M_purposes_135 rfl (fun hc => ?_) (fun hc => ?_)
  · replace hw := hw.1 hc
    exact b_M_purposes_148 C hl _ _ _ hX43 hw _ _ _ _ _ (lv_sub hv [0, 1] rfl) F
  · replace hw := hw.2 hc
    refine lv_aload_n C.ex C.by d_M_purposes_138 rfl (lv_at hv 0 rfl) ?_
    refine lv_dup C.ex C.by d_M_purposes_139 rfl ?_
    refine fx_getI C F lf_M_202 hk1 rfl d_M_purposes_140 ?_
    refine lv_iconst (v := (2 : Int32)) C.ex C.by d_M_purposes_143 (by decide) ?_
    refine lv_ior C.ex C.by d_M_purposes_144 ?_
    let h2 : AH := up_I h1 r0 29 ((hp_I h1 r0 29) ||| (2 : Int32))
    replace hw := hw h2 rfl
    refine fx_putI C F lf_M_202 hk1 rfl rfl (fx_mayF.no rfl rfl) d_M_purposes_145 (fun H locs (F : fx_F D h0 h2 H locs _ _) => ?_)
    exact b_M_purposes_148 C hl _ _ _ hX43 hw _ _ _ _ _ (lv_sub hv [0, 1] rfl) F
theorem b_M_purposes_43 {p : Program} {l : Launch} {e : Env} {R : Room} {s : State} {m : MethodId} {args : Array Value} {below : List Frame} {meth : Method} {c : Code} {D : DD} {h0 : AH} {Q : AH → Prop} (C : fx_CX D y_M_purposes prog_15_method_31_code 4 3 47 (none) [] h0 p R s m meth c) (hl : l.flags = flags0) (r0 : Nat) (x2 : Int32) (h : AH) (hw : m_M_purposes_43 Q r0 x2 h) : ∀ (ls : Array Slot) (H : Heap) (locs : List Loc) (cells slots : Nat), lv_has ls 4 [(0, .ref r0), (2, .int x2)] → fx_F D h0 h H locs cells slots → W p l e R s m args below meth c H locs cells slots (fx_Z D below s h0 (fx_oV Q fx_no)) (F0 m 43 ls []) := by
  refine fx_loop.use hw (fun st => ∀ (ls : Array Slot) (H : Heap) (locs : List Loc) (cells slots : Nat), lv_has ls 4 [(0, .ref r0), (2, .int x2)] → fx_F D h0 st H locs cells slots → W p l e R s m args below meth c H locs cells slots (fx_Z D below s h0 (fx_oV Q fx_no)) (F0 m 43 ls [])) (fun X43 h hX43 hw => ?_)
  replace hw : m_M_purposes_43_b Q X43 r0 x2 h := hw
  unfold m_M_purposes_43_b at hw
  intro ls H locs cells slots hv F
  refine lv_aload_n C.ex C.by d_M_purposes_43 rfl (lv_at hv 0 rfl) ?_
  obtain ⟨hk1, hw⟩ := hw
  refine fx_getI C F lf_M_124 hk1 rfl d_M_purposes_44 ?_
  refine lv_if_ne C.ex C.by d_M_purposes_47 rfl (fun hc => ?_) (fun hc => ?_)
  · replace hw := hw.1 hc
    exact b_M_purposes_151 C hl _ hw _ _ _ _ _ (lv_sub hv [] rfl) F
  · replace hw := hw.2 hc
    refine lv_aload_n C.ex C.by d_M_purposes_50 rfl (lv_at hv 0 rfl) ?_
    refine fx_getI C F lf_M_128 hk1 rfl d_M_purposes_51 ?_
    refine lv_iload_n C.ex C.by d_M_purposes_54 rfl (lv_at hv 1 rfl) ?_
    refine lv_icmp_ge C.ex C.by d_M_purposes_55 rfl (fun hc => ?_) (fun hc => ?_)
    · replace hw := hw.1 hc
      exact b_M_purposes_151 C hl _ hw _ _ _ _ _ (lv_sub hv [] rfl) F
    · replace hw := hw.2 hc
      refine lv_aload_n C.ex C.by d_M_purposes_58 rfl (lv_at hv 0 rfl) ?_
      refine fx_getI C F lf_M_128 hk1 rfl d_M_purposes_59 ?_
      let v1 : Int32 := (hp_I h r0 20)
      replace hw := hw v1 rfl
      refine lv_istore_n (lv' := [(3, .int v1), (0, .ref r0), (2, .int x2)]) C.ex C.by d_M_purposes_62 rfl hv (by decide) rfl (fun ls hv => ?_)
      refine lv_aload_n C.ex C.by d_M_purposes_63 rfl (lv_at hv 1 rfl) ?_
      refine lv_iload_n C.ex C.by d_M_purposes_64 rfl (lv_at hv 2 rfl) ?_
      refine fx_callV C F (c_M_oid hl hw) hm_M_oid hi_M_oid hv.1 (by decide) (Nat.le_of_ble_eq_true rfl) (iv_M_oid C F lm_M_155 hk1 d_M_purposes_65) (fx_out0 _) fx_eno (fun h1 H locs cells slots hw hx1 F => ?_)
      replace hw := hw hx1
      have hk1 := (hx1).k hk1
      refine lv_aload_n C.ex C.by d_M_purposes_68 rfl (lv_at hv 1 rfl) ?_
      refine fx_getI C F lf_M_124 hk1 rfl d_M_purposes_69 ?_
      refine lv_if_ne C.ex C.by d_M_purposes_72 rfl (fun hc => ?_) (fun hc => ?_)
      · replace hw := hw.1 hc
        exact hX43 _ hw _ _ _ _ _ (lv_sub hv [1, 2] rfl) F
      · replace hw := hw.2 hc
        refine lv_aload_n C.ex C.by d_M_purposes_75 rfl (lv_at hv 1 rfl) ?_
        refine fx_getI C F lf_M_128 hk1 rfl d_M_purposes_76 ?_
        refine lv_iload_n C.ex C.by d_M_purposes_79 rfl (lv_at hv 0 rfl) ?_
        refine lv_isub C.ex C.by d_M_purposes_80 ?_
        refine lv_bipush (v := (10 : Int32)) C.ex C.by d_M_purposes_81 (by decide) ?_
        refine lv_icmp_ne C.ex C.by d_M_purposes_83 rfl (fun hc => ?_) (fun hc => ?_)
        · replace hw := hw.1 hc
          exact hX43 _ hw _ _ _ _ _ (lv_sub hv [1, 2] rfl) F
        · replace hw := hw.2 hc
          refine lv_aload_n C.ex C.by d_M_purposes_86 rfl (lv_at hv 1 rfl) ?_
          refine lv_iload_n C.ex C.by d_M_purposes_87 rfl (lv_at hv 0 rfl) ?_
          refine lv_iconst (v := (2 : Int32)) C.ex C.by d_M_purposes_88 (by decide) ?_
          refine lv_iadd C.ex C.by d_M_purposes_89 ?_
          refine lv_bipush (v := (7 : Int32)) C.ex C.by d_M_purposes_90 (by decide) ?_
          refine lv_ldc2 (v := (12110025447507715 : Int64)) C.ex C.by C.ow (C.tw.at (fx_m7 (List.mem_of_getElem? (i := 68) rfl)) rfl rfl) d_M_purposes_92 ?_
          refine fx_callZ C F (c_M_stands hl hw) hm_M_stands hi_M_stands hv.1 (by decide) (Nat.le_of_ble_eq_true rfl) (iv_M_stands C F lm_M_149 hk1 d_M_purposes_95) (fx_out0 _) fx_eno (fun v2 h2 H locs cells slots hw hx2 hzb F => ?_)
          replace hw := hw hx2 hzb
          have hk1 := (hx2).k hk1
          refine lv_if_ne C.ex C.by d_M_purposes_98 rfl (fun hc => ?_) (fun hc => ?_)
          · replace hw := hw.1 hc
            refine lv_aload_n C.ex C.by d_M_purposes_104 rfl (lv_at hv 1 rfl) ?_
            refine lv_iload_n C.ex C.by d_M_purposes_105 rfl (lv_at hv 0 rfl) ?_
            refine lv_bipush (v := (9 : Int32)) C.ex C.by d_M_purposes_106 (by decide) ?_
            refine lv_iadd C.ex C.by d_M_purposes_108 ?_
            refine fx_callI C F (c_M_here hl hw) hm_M_here hi_M_here hv.1 (by decide) (Nat.le_of_ble_eq_true rfl) (iv_M_here C F lm_M_131 hk1 d_M_purposes_109) (fx_out0 _) fx_eno (fun v3 h3 H locs cells slots hw hx3 F => ?_)
            replace hw := hw hx3
            have hk1 := (hx3).k hk1
            refine lv_iconst (v := (1 : Int32)) C.ex C.by d_M_purposes_112 (by decide) ?_
            refine lv_icmp_ne C.ex C.by d_M_purposes_113 rfl (fun hc => ?_) (fun hc => ?_)
            · replace hw := hw.1 hc
              exact b_M_purposes_126 C hl _ _ _ _ hX43 hw _ _ _ _ _ (lv_sub hv [1, 2, 0] rfl) F
            · replace hw := hw.2 hc
              refine lv_aload_n C.ex C.by d_M_purposes_116 rfl (lv_at hv 1 rfl) ?_
              refine lv_dup C.ex C.by d_M_purposes_117 rfl ?_
              refine fx_getI C F lf_M_202 hk1 rfl d_M_purposes_118 ?_
              refine lv_iconst (v := (1 : Int32)) C.ex C.by d_M_purposes_121 (by decide) ?_
              refine lv_ior C.ex C.by d_M_purposes_122 ?_
              let h4 : AH := up_I h3 r0 29 ((hp_I h3 r0 29) ||| (1 : Int32))
              replace hw := hw h4 rfl
              refine fx_putI C F lf_M_202 hk1 rfl rfl (fx_mayF.no rfl rfl) d_M_purposes_123 (fun H locs (F : fx_F D h0 h4 H locs _ _) => ?_)
              exact b_M_purposes_126 C hl _ _ _ _ hX43 hw _ _ _ _ _ (lv_sub hv [1, 2, 0] rfl) F
          · replace hw := hw.2 hc
            refine lv_goto C.ex C.by d_M_purposes_101 rfl ?_
            exact hX43 _ hw _ _ _ _ _ (lv_sub hv [1, 2] rfl) F
theorem b_M_purposes_35 {p : Program} {l : Launch} {e : Env} {R : Room} {s : State} {m : MethodId} {args : Array Value} {below : List Frame} {meth : Method} {c : Code} {D : DD} {h0 : AH} {Q : AH → Prop} (C : fx_CX D y_M_purposes prog_15_method_31_code 4 3 47 (none) [] h0 p R s m meth c) (hl : l.flags = flags0) (r0 : Nat) (x2 : Int32) (sr0 : Nat) (sx1 : Int32) (h : AH) (hw : m_M_purposes_35 Q r0 x2 sr0 sx1 h) : ∀ (ls : Array Slot) (H : Heap) (locs : List Loc) (cells slots : Nat), lv_has ls 4 [(0, .ref r0), (2, .int x2)] → fx_F D h0 h H locs cells slots → W p l e R s m args below meth c H locs cells slots (fx_Z D below s h0 (fx_oV Q fx_no)) (F0 m 35 ls [.int sx1, .ref sr0]) := by
  unfold m_M_purposes_35 at hw
  intro ls H locs cells slots hv F
  obtain ⟨hk1, hw⟩ := hw
  refine fx_callV C F (c_M_need hl hw) hm_M_need hi_M_need hv.1 (by decide) (Nat.le_of_ble_eq_true rfl) (iv_M_need C F lm_M_143 hk1 d_M_purposes_35) (fx_out0 _) fx_eno (fun h1 H locs cells slots hw hx1 F => ?_)
  replace hw := hw hx1
  have hk1 := (hx1).k hk1
  refine lv_aload_n C.ex C.by d_M_purposes_38 rfl (lv_at hv 0 rfl) ?_
  refine lv_iconst (v := (0 : Int32)) C.ex C.by d_M_purposes_39 (by decide) ?_
  obtain ⟨hk2, hw⟩ := hw
  let h2 : AH := up_I h1 r0 29 (0 : Int32)
  replace hw := hw h2 rfl
  refine fx_putI C F lf_M_202 hk2 rfl rfl (fx_mayF.no rfl rfl) d_M_purposes_40 (fun H locs (F : fx_F D h0 h2 H locs _ _) => ?_)
  exact b_M_purposes_43 C hl _ _ _ hw _ _ _ _ _ hv F
theorem b_M_purposes_34 {p : Program} {l : Launch} {e : Env} {R : Room} {s : State} {m : MethodId} {args : Array Value} {below : List Frame} {meth : Method} {c : Code} {D : DD} {h0 : AH} {Q : AH → Prop} (C : fx_CX D y_M_purposes prog_15_method_31_code 4 3 47 (none) [] h0 p R s m meth c) (hl : l.flags = flags0) (r0 : Nat) (x2 : Int32) (sr0 : Nat) (h : AH) (hw : m_M_purposes_34 Q r0 x2 sr0 h) : ∀ (ls : Array Slot) (H : Heap) (locs : List Loc) (cells slots : Nat), lv_has ls 4 [(0, .ref r0), (2, .int x2)] → fx_F D h0 h H locs cells slots → W p l e R s m args below meth c H locs cells slots (fx_Z D below s h0 (fx_oV Q fx_no)) (F0 m 34 ls [.ref sr0]) := by
  unfold m_M_purposes_34 at hw
  intro ls H locs cells slots hv F
  refine lv_iconst (v := (0 : Int32)) C.ex C.by d_M_purposes_34 (by decide) ?_
  exact b_M_purposes_35 C hl _ _ _ _ _ hw _ _ _ _ _ hv F
theorem b_M_purposes_0 {p : Program} {l : Launch} {e : Env} {R : Room} {s : State} {m : MethodId} {args : Array Value} {below : List Frame} {meth : Method} {c : Code} {D : DD} {h0 : AH} {Q : AH → Prop} (C : fx_CX D y_M_purposes prog_15_method_31_code 4 3 47 (none) [] h0 p R s m meth c) (hl : l.flags = flags0) (r0 : Nat) (x1 : Int32) (h : AH) (hw : m_M_purposes Q r0 x1 h) : ∀ (ls : Array Slot) (H : Heap) (locs : List Loc) (cells slots : Nat), lv_has ls 4 [(0, .ref r0), (1, .int x1)] → fx_F D h0 h H locs cells slots → W p l e R s m args below meth c H locs cells slots (fx_Z D below s h0 (fx_oV Q fx_no)) (F0 m 0 ls []) := by
  unfold m_M_purposes at hw
  intro ls H locs cells slots hv F
  refine lv_aload_n C.ex C.by d_M_purposes_0 rfl (lv_at hv 0 rfl) ?_
  refine lv_bipush (v := (48 : Int32)) C.ex C.by d_M_purposes_1 (by decide) ?_
  refine lv_iload_n C.ex C.by d_M_purposes_3 rfl (lv_at hv 1 rfl) ?_
  obtain ⟨hk1, hw⟩ := hw
  refine fx_callI C F (c_M_open hl hw) hm_M_open hi_M_open hv.1 (by decide) (Nat.le_of_ble_eq_true rfl) (iv_M_open C F lm_M_140 hk1 d_M_purposes_4) (fx_out0 _) fx_eno (fun v1 h1 H locs cells slots hw hx1 F => ?_)
  replace hw := hw hx1
  have hk1 := (hx1).k hk1
  refine lv_istore_n (lv' := [(2, .int v1), (0, .ref r0), (1, .int x1)]) C.ex C.by d_M_purposes_7 rfl hv (by decide) rfl (fun ls hv => ?_)
  refine lv_aload_n C.ex C.by d_M_purposes_8 rfl (lv_at hv 1 rfl) ?_
  refine fx_getI C F lf_M_124 hk1 rfl d_M_purposes_9 ?_
  refine lv_if_eq C.ex C.by d_M_purposes_12 rfl (fun hc => ?_) (fun hc => ?_)
  · replace hw := hw.1 hc
    refine lv_aload_n C.ex C.by d_M_purposes_16 rfl (lv_at hv 1 rfl) ?_
    refine lv_iload_n C.ex C.by d_M_purposes_17 rfl (lv_at hv 0 rfl) ?_
    refine lv_iload_n C.ex C.by d_M_purposes_18 rfl (lv_at hv 2 rfl) ?_
    refine lv_icmp_ne C.ex C.by d_M_purposes_19 rfl (fun hc => ?_) (fun hc => ?_)
    · replace hw := hw.1 hc
      exact b_M_purposes_34 C hl _ _ _ _ hw _ _ _ _ _ (lv_sub hv [1, 0] rfl) F
    · replace hw := hw.2 hc
      refine lv_aload_n C.ex C.by d_M_purposes_22 rfl (lv_at hv 1 rfl) ?_
      refine fx_getI C F lf_M_128 hk1 rfl d_M_purposes_23 ?_
      refine lv_iload_n C.ex C.by d_M_purposes_26 rfl (lv_at hv 0 rfl) ?_
      refine lv_icmp_ge C.ex C.by d_M_purposes_27 rfl (fun hc => ?_) (fun hc => ?_)
      · replace hw := hw.1 hc
        exact b_M_purposes_34 C hl _ _ _ _ hw _ _ _ _ _ (lv_sub hv [1, 0] rfl) F
      · replace hw := hw.2 hc
        refine lv_iconst (v := (1 : Int32)) C.ex C.by d_M_purposes_30 (by decide) ?_
        refine lv_goto C.ex C.by d_M_purposes_31 rfl ?_
        exact b_M_purposes_35 C hl _ _ _ _ _ hw _ _ _ _ _ (lv_sub hv [1, 0] rfl) F
  · replace hw := hw.2 hc
    exact fx_vret C F d_M_purposes_15 (Or.inl ⟨rfl, hw⟩)
theorem hm_M_purposes : fx_hd y_M_purposes prog_15_method_31_code 4 (none) [] ∈ tables_1 := (fx_m7 (List.mem_of_getElem? (i := 67) rfl))
theorem hi_M_purposes : Cond.initialized y_M_purposes.cls ∈ tables_1 := (fx_m1 (List.mem_of_getElem? (i := 15) rfl))
theorem c_M_purposes {l : Launch} (hl : l.flags = flags0) {D : DD} {Q : AH → Prop} {r0 : Nat} {x1 : Int32} {h : AH} (hw : m_M_purposes Q r0 x1 h) : fx_Mt l D y_M_purposes (fx_hd y_M_purposes prog_15_method_31_code 4 (none) []) 3 47 [.ref r0, .int x1] h (fx_oV Q fx_no) := by
  refine fx_ofW (plainFor_of_name (by decide)) (fun p e s m below meth c C F => ?_)
  have hv := lv_entry ([.ref r0, .int x1]) (n := 4) (Nat.le_of_ble_eq_true rfl)
  rw [lg_entry_eq]
  generalize (lg_sl ([.ref r0, .int x1]) ++ List.replicate (4 - (lg_sl ([.ref r0, .int x1])).length) Slot.unset).toArray = ls at hv ⊢
  have hv : lv_has ls 4 [(0, .ref r0), (1, .int x1)] := hv
  exact b_M_purposes_0 C hl _ _ _ hw _ _ _ _ _ hv F
