set_option maxRecDepth 10000
/-! ChainJudgeModel.fits(JJII)Z: frames 1, words 24 -/
abbrev y_M_fits : MethodName := ⟨"ChainJudgeModel", "fits", "(JJII)Z"⟩
theorem lm_M_98 : Cond.methodLink "ChainJudgeModel" 98 y_M_raise ∈ tables_1 ∨ ∃ host, Cond.methodLinkNest "ChainJudgeModel" 98 y_M_raise host ∈ tables_1 := Or.inl (fx_m6 (List.mem_of_getElem? (i := 1) rfl))
section
variable {p : Program} {l : Launch} {e : Env} {R : Room} {s : State} {m : MethodId} {args : Array Value} {below : List Frame} {meth : Method} {c : Code} {H : Heap} {locs : List Loc} {cells slots : Nat}
variable {D : DD} {y : MethodName} {cc : ByteArray} {nL kf kw : Nat} {ret : Option FieldType} {hh : List (Nat × Nat × Nat × Nat)} {h0 h : AH} {pc : Nat} {ls : Array Slot} {rest : List Value} {b idx : Nat}
theorem iv_M_raise {w1 : Int64} {w3 : Int64} (C : fx_CX D y cc nL kf kw ret hh h0 p R s m meth c) (F : fx_F D h0 h H locs cells slots) (hw1 : Cond.methodLink y.cls idx y_M_raise ∈ tables_1 ∨ ∃ host, Cond.methodLinkNest y.cls idx y_M_raise host ∈ tables_1) (hk : hp_k h b = 13) (hd : decode cc pc = .ok (.invokevirtual idx, 3)) : fx_IV p l e R s m args below meth c H locs cells slots (F0 m pc ls (.long w3 :: .long w1 :: .ref b :: rest)) rest y_M_raise [.ref b, .long w1, .long w3] 3 := fun T hT X => fx_invV (As := [.long w1, .long w3]) (Cn := "ChainJudgeModel") C X hw1 (fx_m6 (List.mem_of_getElem? (i := 3) rfl)) (fx_selP C ⟨by decide, by decide⟩ (fx_m5 (List.mem_of_getElem? (i := 217) rfl)) (fx_m6 (List.mem_of_getElem? (i := 2) rfl)) (fx_m6 (List.mem_of_getElem? (i := 3) rfl))) hm_M_raise ⟨by decide, by decide⟩ (by rw [hT]; exact fx_clsO (ci := 12) (r := ("ChainJudgeModel", fx_T12, 57)) C F rfl (by decide) hk) rfl (n := 2) (by decide +kernel) rfl rfl hd
end
def dl_M_fits : List (Nat × Instr × Nat) := [(0, .iconst 0, 1), (1, .istore 7, 2), (3, .iload 7, 2), (5, .bipush 8, 2), (7, .if_icmp .ge 26, 3), (10, .aload_n 0, 1), (11, .getfield 71, 3), (14, .iload 7, 2), (16, .iload 7, 2), (18, .ifCond .ne 7, 3), (21, .lconst 1, 1), (22, .goto 4, 3), (25, .lconst 0, 1), (26, .lastore, 1), (27, .iinc 7 1, 3), (30, .goto (-27), 3), (33, .iconst 0, 1), (34, .istore 7, 2), (36, .iload 7, 2), (38, .iload 6, 2), (40, .if_icmp .ge 15, 3), (43, .aload_n 0, 1), (44, .lload_n 1, 1), (45, .lload_n 3, 1), (46, .invokevirtual 98, 3), (49, .iinc 7 1, 3), (52, .goto (-16), 3), (55, .lconst 0, 1), (56, .lstore 7, 2), (58, .bipush 7, 2), (60, .istore 9, 2), (62, .iload 9, 2), (64, .iconst 2, 1), (65, .iload 6, 2), (67, .imul, 1), (68, .if_icmp .lt 24, 3), (71, .lload 7, 2), (73, .bipush 32, 2), (75, .lshl, 1), (76, .aload_n 0, 1), (77, .getfield 71, 3), (80, .iload 9, 2), (82, .laload, 1), (83, .lor, 1), (84, .lstore 7, 2), (86, .iinc 9 (-1), 3), (89, .goto (-27), 3), (92, .lload 7, 2), (94, .iload 5, 2), (96, .i2l, 1), (97, .lcmp, 1), (98, .ifCond .eq 18, 3), (101, .lload 7, 2), (103, .iload 5, 2), (105, .i2l, 1), (106, .lcmp, 1), (107, .ifCond .ge 7, 3), (110, .iconst 1, 1), (111, .goto 4, 3), (114, .iconst 0, 1), (115, .ireturn, 1), (116, .iconst 0, 1), (117, .istore 9, 2), (119, .iload 9, 2), (121, .iconst 2, 1), (122, .iload 6, 2), (124, .imul, 1), (125, .if_icmp .ge 23, 3), (128, .aload_n 0, 1), (129, .getfield 71, 3), (132, .iload 9, 2), (134, .laload, 1), (135, .lconst 0, 1), (136, .lcmp, 1), (137, .ifCond .eq 5, 3), (140, .iconst 0, 1), (141, .ireturn, 1), (142, .iinc 9 1, 3), (145, .goto (-26), 3), (148, .iconst 1, 1), (149, .ireturn, 1)]
theorem dk_M_fits : fx_dec prog_15_method_7_code dl_M_fits = true := by decide +kernel
theorem d_M_fits_0 : decode prog_15_method_7_code 0 = .ok (.iconst 0, 1) := fx_dat dk_M_fits 0 rfl
theorem d_M_fits_1 : decode prog_15_method_7_code 1 = .ok (.istore 7, 2) := fx_dat dk_M_fits 1 rfl
theorem d_M_fits_3 : decode prog_15_method_7_code 3 = .ok (.iload 7, 2) := fx_dat dk_M_fits 2 rfl
theorem d_M_fits_5 : decode prog_15_method_7_code 5 = .ok (.bipush 8, 2) := fx_dat dk_M_fits 3 rfl
theorem d_M_fits_7 : decode prog_15_method_7_code 7 = .ok (.if_icmp .ge 26, 3) := fx_dat dk_M_fits 4 rfl
theorem d_M_fits_10 : decode prog_15_method_7_code 10 = .ok (.aload_n 0, 1) := fx_dat dk_M_fits 5 rfl
theorem d_M_fits_11 : decode prog_15_method_7_code 11 = .ok (.getfield 71, 3) := fx_dat dk_M_fits 6 rfl
theorem d_M_fits_14 : decode prog_15_method_7_code 14 = .ok (.iload 7, 2) := fx_dat dk_M_fits 7 rfl
theorem d_M_fits_16 : decode prog_15_method_7_code 16 = .ok (.iload 7, 2) := fx_dat dk_M_fits 8 rfl
theorem d_M_fits_18 : decode prog_15_method_7_code 18 = .ok (.ifCond .ne 7, 3) := fx_dat dk_M_fits 9 rfl
theorem d_M_fits_21 : decode prog_15_method_7_code 21 = .ok (.lconst 1, 1) := fx_dat dk_M_fits 10 rfl
theorem d_M_fits_22 : decode prog_15_method_7_code 22 = .ok (.goto 4, 3) := fx_dat dk_M_fits 11 rfl
theorem d_M_fits_25 : decode prog_15_method_7_code 25 = .ok (.lconst 0, 1) := fx_dat dk_M_fits 12 rfl
theorem d_M_fits_26 : decode prog_15_method_7_code 26 = .ok (.lastore, 1) := fx_dat dk_M_fits 13 rfl
theorem d_M_fits_27 : decode prog_15_method_7_code 27 = .ok (.iinc 7 1, 3) := fx_dat dk_M_fits 14 rfl
theorem d_M_fits_30 : decode prog_15_method_7_code 30 = .ok (.goto (-27), 3) := fx_dat dk_M_fits 15 rfl
theorem d_M_fits_33 : decode prog_15_method_7_code 33 = .ok (.iconst 0, 1) := fx_dat dk_M_fits 16 rfl
theorem d_M_fits_34 : decode prog_15_method_7_code 34 = .ok (.istore 7, 2) := fx_dat dk_M_fits 17 rfl
theorem d_M_fits_36 : decode prog_15_method_7_code 36 = .ok (.iload 7, 2) := fx_dat dk_M_fits 18 rfl
theorem d_M_fits_38 : decode prog_15_method_7_code 38 = .ok (.iload 6, 2) := fx_dat dk_M_fits 19 rfl
theorem d_M_fits_40 : decode prog_15_method_7_code 40 = .ok (.if_icmp .ge 15, 3) := fx_dat dk_M_fits 20 rfl
theorem d_M_fits_43 : decode prog_15_method_7_code 43 = .ok (.aload_n 0, 1) := fx_dat dk_M_fits 21 rfl
theorem d_M_fits_44 : decode prog_15_method_7_code 44 = .ok (.lload_n 1, 1) := fx_dat dk_M_fits 22 rfl
theorem d_M_fits_45 : decode prog_15_method_7_code 45 = .ok (.lload_n 3, 1) := fx_dat dk_M_fits 23 rfl
theorem d_M_fits_46 : decode prog_15_method_7_code 46 = .ok (.invokevirtual 98, 3) := fx_dat dk_M_fits 24 rfl
theorem d_M_fits_49 : decode prog_15_method_7_code 49 = .ok (.iinc 7 1, 3) := fx_dat dk_M_fits 25 rfl
theorem d_M_fits_52 : decode prog_15_method_7_code 52 = .ok (.goto (-16), 3) := fx_dat dk_M_fits 26 rfl
theorem d_M_fits_55 : decode prog_15_method_7_code 55 = .ok (.lconst 0, 1) := fx_dat dk_M_fits 27 rfl
theorem d_M_fits_56 : decode prog_15_method_7_code 56 = .ok (.lstore 7, 2) := fx_dat dk_M_fits 28 rfl
theorem d_M_fits_58 : decode prog_15_method_7_code 58 = .ok (.bipush 7, 2) := fx_dat dk_M_fits 29 rfl
theorem d_M_fits_60 : decode prog_15_method_7_code 60 = .ok (.istore 9, 2) := fx_dat dk_M_fits 30 rfl
theorem d_M_fits_62 : decode prog_15_method_7_code 62 = .ok (.iload 9, 2) := fx_dat dk_M_fits 31 rfl
theorem d_M_fits_64 : decode prog_15_method_7_code 64 = .ok (.iconst 2, 1) := fx_dat dk_M_fits 32 rfl
theorem d_M_fits_65 : decode prog_15_method_7_code 65 = .ok (.iload 6, 2) := fx_dat dk_M_fits 33 rfl
theorem d_M_fits_67 : decode prog_15_method_7_code 67 = .ok (.imul, 1) := fx_dat dk_M_fits 34 rfl
theorem d_M_fits_68 : decode prog_15_method_7_code 68 = .ok (.if_icmp .lt 24, 3) := fx_dat dk_M_fits 35 rfl
theorem d_M_fits_71 : decode prog_15_method_7_code 71 = .ok (.lload 7, 2) := fx_dat dk_M_fits 36 rfl
theorem d_M_fits_73 : decode prog_15_method_7_code 73 = .ok (.bipush 32, 2) := fx_dat dk_M_fits 37 rfl
theorem d_M_fits_75 : decode prog_15_method_7_code 75 = .ok (.lshl, 1) := fx_dat dk_M_fits 38 rfl
theorem d_M_fits_76 : decode prog_15_method_7_code 76 = .ok (.aload_n 0, 1) := fx_dat dk_M_fits 39 rfl
theorem d_M_fits_77 : decode prog_15_method_7_code 77 = .ok (.getfield 71, 3) := fx_dat dk_M_fits 40 rfl
theorem d_M_fits_80 : decode prog_15_method_7_code 80 = .ok (.iload 9, 2) := fx_dat dk_M_fits 41 rfl
theorem d_M_fits_82 : decode prog_15_method_7_code 82 = .ok (.laload, 1) := fx_dat dk_M_fits 42 rfl
theorem d_M_fits_83 : decode prog_15_method_7_code 83 = .ok (.lor, 1) := fx_dat dk_M_fits 43 rfl
theorem d_M_fits_84 : decode prog_15_method_7_code 84 = .ok (.lstore 7, 2) := fx_dat dk_M_fits 44 rfl
theorem d_M_fits_86 : decode prog_15_method_7_code 86 = .ok (.iinc 9 (-1), 3) := fx_dat dk_M_fits 45 rfl
theorem d_M_fits_89 : decode prog_15_method_7_code 89 = .ok (.goto (-27), 3) := fx_dat dk_M_fits 46 rfl
theorem d_M_fits_92 : decode prog_15_method_7_code 92 = .ok (.lload 7, 2) := fx_dat dk_M_fits 47 rfl
theorem d_M_fits_94 : decode prog_15_method_7_code 94 = .ok (.iload 5, 2) := fx_dat dk_M_fits 48 rfl
theorem d_M_fits_96 : decode prog_15_method_7_code 96 = .ok (.i2l, 1) := fx_dat dk_M_fits 49 rfl
theorem d_M_fits_97 : decode prog_15_method_7_code 97 = .ok (.lcmp, 1) := fx_dat dk_M_fits 50 rfl
theorem d_M_fits_98 : decode prog_15_method_7_code 98 = .ok (.ifCond .eq 18, 3) := fx_dat dk_M_fits 51 rfl
theorem d_M_fits_101 : decode prog_15_method_7_code 101 = .ok (.lload 7, 2) := fx_dat dk_M_fits 52 rfl
theorem d_M_fits_103 : decode prog_15_method_7_code 103 = .ok (.iload 5, 2) := fx_dat dk_M_fits 53 rfl
theorem d_M_fits_105 : decode prog_15_method_7_code 105 = .ok (.i2l, 1) := fx_dat dk_M_fits 54 rfl
theorem d_M_fits_106 : decode prog_15_method_7_code 106 = .ok (.lcmp, 1) := fx_dat dk_M_fits 55 rfl
theorem d_M_fits_107 : decode prog_15_method_7_code 107 = .ok (.ifCond .ge 7, 3) := fx_dat dk_M_fits 56 rfl
theorem d_M_fits_110 : decode prog_15_method_7_code 110 = .ok (.iconst 1, 1) := fx_dat dk_M_fits 57 rfl
theorem d_M_fits_111 : decode prog_15_method_7_code 111 = .ok (.goto 4, 3) := fx_dat dk_M_fits 58 rfl
theorem d_M_fits_114 : decode prog_15_method_7_code 114 = .ok (.iconst 0, 1) := fx_dat dk_M_fits 59 rfl
theorem d_M_fits_115 : decode prog_15_method_7_code 115 = .ok (.ireturn, 1) := fx_dat dk_M_fits 60 rfl
theorem d_M_fits_116 : decode prog_15_method_7_code 116 = .ok (.iconst 0, 1) := fx_dat dk_M_fits 61 rfl
theorem d_M_fits_117 : decode prog_15_method_7_code 117 = .ok (.istore 9, 2) := fx_dat dk_M_fits 62 rfl
theorem d_M_fits_119 : decode prog_15_method_7_code 119 = .ok (.iload 9, 2) := fx_dat dk_M_fits 63 rfl
theorem d_M_fits_121 : decode prog_15_method_7_code 121 = .ok (.iconst 2, 1) := fx_dat dk_M_fits 64 rfl
theorem d_M_fits_122 : decode prog_15_method_7_code 122 = .ok (.iload 6, 2) := fx_dat dk_M_fits 65 rfl
theorem d_M_fits_124 : decode prog_15_method_7_code 124 = .ok (.imul, 1) := fx_dat dk_M_fits 66 rfl
theorem d_M_fits_125 : decode prog_15_method_7_code 125 = .ok (.if_icmp .ge 23, 3) := fx_dat dk_M_fits 67 rfl
theorem d_M_fits_128 : decode prog_15_method_7_code 128 = .ok (.aload_n 0, 1) := fx_dat dk_M_fits 68 rfl
theorem d_M_fits_129 : decode prog_15_method_7_code 129 = .ok (.getfield 71, 3) := fx_dat dk_M_fits 69 rfl
theorem d_M_fits_132 : decode prog_15_method_7_code 132 = .ok (.iload 9, 2) := fx_dat dk_M_fits 70 rfl
theorem d_M_fits_134 : decode prog_15_method_7_code 134 = .ok (.laload, 1) := fx_dat dk_M_fits 71 rfl
theorem d_M_fits_135 : decode prog_15_method_7_code 135 = .ok (.lconst 0, 1) := fx_dat dk_M_fits 72 rfl
theorem d_M_fits_136 : decode prog_15_method_7_code 136 = .ok (.lcmp, 1) := fx_dat dk_M_fits 73 rfl
theorem d_M_fits_137 : decode prog_15_method_7_code 137 = .ok (.ifCond .eq 5, 3) := fx_dat dk_M_fits 74 rfl
theorem d_M_fits_140 : decode prog_15_method_7_code 140 = .ok (.iconst 0, 1) := fx_dat dk_M_fits 75 rfl
theorem d_M_fits_141 : decode prog_15_method_7_code 141 = .ok (.ireturn, 1) := fx_dat dk_M_fits 76 rfl
theorem d_M_fits_142 : decode prog_15_method_7_code 142 = .ok (.iinc 9 1, 3) := fx_dat dk_M_fits 77 rfl
theorem d_M_fits_145 : decode prog_15_method_7_code 145 = .ok (.goto (-26), 3) := fx_dat dk_M_fits 78 rfl
theorem d_M_fits_148 : decode prog_15_method_7_code 148 = .ok (.iconst 1, 1) := fx_dat dk_M_fits 79 rfl
theorem d_M_fits_149 : decode prog_15_method_7_code 149 = .ok (.ireturn, 1) := fx_dat dk_M_fits 80 rfl
def m_M_fits_119_b (Q : Int32 → AH → Prop) (X119 : Int32 × AH → Prop) (r0 : Nat) (x6 : Int32) (x9 : Int32) (h : AH) : Prop := (((2 : Int32) * x6) ≤ x9 → Q (1 : Int32) h) ∧ (¬ ((2 : Int32) * x6) ≤ x9 → hp_k h r0 = 13 ∧ ∃ b1, hp_R h r0 54 = some b1 ∧ lk (hp_k h b1) ∧ vp_in x9 (hp_n h b1) ∧ ((lg_cmp (hp_L h b1 x9.toNatClampNeg) (0 : Int64)) = 0 → ∀ v1 : Int32, v1 = (x9 + (1 : Int32)) → X119 (v1, h)) ∧ (¬ (lg_cmp (hp_L h b1 x9.toNatClampNeg) (0 : Int64)) = 0 → Q (0 : Int32) h))
def m_M_fits_119 (Q : Int32 → AH → Prop) (r0 : Nat) (x6 : Int32) (x9 : Int32) (h : AH) : Prop := fx_loop (fun (X119 : Int32 × AH → Prop) (st : Int32 × AH) => m_M_fits_119_b Q X119 r0 x6 st.1 st.2) (x9, h)
def m_M_fits_115 (Q : Int32 → AH → Prop) (sx0 : Int32) (h : AH) : Prop := zb sx0 ∧ Q sx0 h
def m_M_fits_62_b (Q : Int32 → AH → Prop) (X62 : Int64 × Int32 × AH → Prop) (r0 : Nat) (x5 : Int32) (x6 : Int32) (w7 : Int64) (x9 : Int32) (h : AH) : Prop := (x9 < ((2 : Int32) * x6) → ((lg_cmp w7 ((x5).toInt64)) = 0 → m_M_fits_119 Q r0 x6 (0 : Int32) h) ∧ (¬ (lg_cmp w7 ((x5).toInt64)) = 0 → (0 ≤ (lg_cmp w7 ((x5).toInt64)) → m_M_fits_115 Q (0 : Int32) h) ∧ (¬ 0 ≤ (lg_cmp w7 ((x5).toInt64)) → m_M_fits_115 Q (1 : Int32) h))) ∧ (¬ x9 < ((2 : Int32) * x6) → hp_k h r0 = 13 ∧ ∃ b1, hp_R h r0 54 = some b1 ∧ lk (hp_k h b1) ∧ vp_in x9 (hp_n h b1) ∧ ∀ u1 : Int64, u1 = ((sh_ll w7 (32 : Int32)) ||| (hp_L h b1 x9.toNatClampNeg)) → ∀ v1 : Int32, v1 = (x9 + (-1 : Int32)) → X62 (u1, v1, h))
def m_M_fits_62 (Q : Int32 → AH → Prop) (r0 : Nat) (x5 : Int32) (x6 : Int32) (w7 : Int64) (x9 : Int32) (h : AH) : Prop := fx_loop (fun (X62 : Int64 × Int32 × AH → Prop) (st : Int64 × Int32 × AH) => m_M_fits_62_b Q X62 r0 x5 x6 st.1 st.2.1 st.2.2) (w7, x9, h)
def m_M_fits_36_b (Q : Int32 → AH → Prop) (X36 : Int32 × AH → Prop) (r0 : Nat) (w1 : Int64) (w3 : Int64) (x5 : Int32) (x6 : Int32) (x7 : Int32) (h : AH) : Prop := (x6 ≤ x7 → m_M_fits_62 Q r0 x5 x6 (0 : Int64) (7 : Int32) h) ∧ (¬ x6 ≤ x7 → hp_k h r0 = 13 ∧ m_M_raise (fun h1 => fx_ext h h1 → ∀ v1 : Int32, v1 = (x7 + (1 : Int32)) → X36 (v1, h1)) r0 w1 w3 h)
def m_M_fits_36 (Q : Int32 → AH → Prop) (r0 : Nat) (w1 : Int64) (w3 : Int64) (x5 : Int32) (x6 : Int32) (x7 : Int32) (h : AH) : Prop := fx_loop (fun (X36 : Int32 × AH → Prop) (st : Int32 × AH) => m_M_fits_36_b Q X36 r0 w1 w3 x5 x6 st.1 st.2) (x7, h)
def m_M_fits_26 (Q : Int32 → AH → Prop) (X3 : Int32 × AH → Prop) (r0 : Nat) (w1 : Int64) (w3 : Int64) (x5 : Int32) (x6 : Int32) (x7 : Int32) (sr0 : Nat) (sx1 : Int32) (sw2 : Int64) (h : AH) : Prop := hp_k h sr0 = 103 ∧ vp_in sx1 (hp_n h sr0) ∧ ∀ h1 : AH, h1 = up_L h sr0 (sx1).toNatClampNeg sw2 → ∀ v1 : Int32, v1 = (x7 + (1 : Int32)) → X3 (v1, h1)
def m_M_fits_3_b (Q : Int32 → AH → Prop) (X3 : Int32 × AH → Prop) (r0 : Nat) (w1 : Int64) (w3 : Int64) (x5 : Int32) (x6 : Int32) (x7 : Int32) (h : AH) : Prop := ((8 : Int32) ≤ x7 → m_M_fits_36 Q r0 w1 w3 x5 x6 (0 : Int32) h) ∧ (¬ (8 : Int32) ≤ x7 → hp_k h r0 = 13 ∧ ∃ b1, hp_R h r0 54 = some b1 ∧ (¬ x7 = 0 → m_M_fits_26 Q X3 r0 w1 w3 x5 x6 x7 b1 x7 (0 : Int64) h) ∧ (x7 = 0 → m_M_fits_26 Q X3 r0 w1 w3 x5 x6 x7 b1 x7 (1 : Int64) h))
def m_M_fits_3 (Q : Int32 → AH → Prop) (r0 : Nat) (w1 : Int64) (w3 : Int64) (x5 : Int32) (x6 : Int32) (x7 : Int32) (h : AH) : Prop := fx_loop (fun (X3 : Int32 × AH → Prop) (st : Int32 × AH) => m_M_fits_3_b Q X3 r0 w1 w3 x5 x6 st.1 st.2) (x7, h)
def m_M_fits (Q : Int32 → AH → Prop) (r0 : Nat) (w1 : Int64) (w3 : Int64) (x5 : Int32) (x6 : Int32) (h : AH) : Prop := m_M_fits_3 Q r0 w1 w3 x5 x6 (0 : Int32) h
theorem b_M_fits_119 {p : Program} {l : Launch} {e : Env} {R : Room} {s : State} {m : MethodId} {args : Array Value} {below : List Frame} {meth : Method} {c : Code} {D : DD} {h0 : AH} {Q : Int32 → AH → Prop} (C : fx_CX D y_M_fits prog_15_method_7_code 10 1 24 (Option.some FieldType.boolean) [] h0 p R s m meth c) (hl : l.flags = flags0) (r0 : Nat) (x6 : Int32) (x9 : Int32) (h : AH) (hw : m_M_fits_119 Q r0 x6 x9 h) : ∀ (ls : Array Slot) (H : Heap) (locs : List Loc) (cells slots : Nat), lv_has ls 10 [(0, .ref r0), (6, .int x6), (9, .int x9)] → fx_F D h0 h H locs cells slots → W p l e R s m args below meth c H locs cells slots (fx_Z D below s h0 (fx_oZ Q fx_no)) (F0 m 119 ls []) := by
  refine fx_loop.use hw (fun st => ∀ (ls : Array Slot) (H : Heap) (locs : List Loc) (cells slots : Nat), lv_has ls 10 [(0, .ref r0), (6, .int x6), (9, .int st.1)] → fx_F D h0 st.2 H locs cells slots → W p l e R s m args below meth c H locs cells slots (fx_Z D below s h0 (fx_oZ Q fx_no)) (F0 m 119 ls [])) (fun X119 st hX119 hw => ?_)
  obtain ⟨x9, h⟩ := st
  replace hw : m_M_fits_119_b Q X119 r0 x6 x9 h := hw
  unfold m_M_fits_119_b at hw
  intro ls H locs cells slots hv F
  refine lv_iload C.ex C.by d_M_fits_119 (lv_at hv 2 rfl) ?_
  refine lv_iconst (v := (2 : Int32)) C.ex C.by d_M_fits_121 (by decide) ?_
  refine lv_iload C.ex C.by d_M_fits_122 (lv_at hv 1 rfl) ?_
  refine lv_imul C.ex C.by d_M_fits_124 ?_
  refine lv_icmp_ge C.ex C.by d_M_fits_125 rfl (fun hc => ?_) (fun hc => ?_)
  · replace hw := hw.1 hc
    refine lv_iconst (v := (1 : Int32)) C.ex C.by d_M_fits_148 (by decide) ?_
    exact fx_zret C F d_M_fits_149 (Or.inr rfl) (Or.inl ⟨_, rfl, Or.inr rfl, hw⟩)
  · replace hw := hw.2 hc
    refine lv_aload_n C.ex C.by d_M_fits_128 rfl (lv_at hv 0 rfl) ?_
    obtain ⟨hk1, hw⟩ := hw
    obtain ⟨b1, hb1, hw⟩ := hw
    refine fx_getR C F lf_M_71 hk1 rfl hb1 d_M_fits_129 ?_
    refine lv_iload C.ex C.by d_M_fits_132 (lv_at hv 2 rfl) ?_
    obtain ⟨hk2, hw⟩ := hw
    obtain ⟨hi1, hw⟩ := hw
    refine fx_lald C F hk2 hi1 d_M_fits_134 ?_
    refine lv_lconst (v := (0 : Int64)) C.ex C.by d_M_fits_135 (by decide) ?_
    refine W.lcmp C.ex C.by d_M_fits_136 ?_
    refine lv_if_eq C.ex C.by d_M_fits_137 rfl (fun hc => ?_) (fun hc => ?_)
    · replace hw := hw.1 hc
      let v1 : Int32 := (x9 + (1 : Int32))
      replace hw := hw v1 rfl
      refine lv_iinc (v := v1) (k := 2) (lv' := [(9, .int v1), (0, .ref r0), (6, .int x6)]) C.ex C.by d_M_fits_142 hv rfl (congrArg (fun z => x9 + z) (by decide)) (by decide) rfl (fun ls hv => ?_)
      refine lv_goto C.ex C.by d_M_fits_145 rfl ?_
      exact hX119 _ hw _ _ _ _ _ (lv_sub hv [1, 2, 0] rfl) F
    · replace hw := hw.2 hc
      refine lv_iconst (v := (0 : Int32)) C.ex C.by d_M_fits_140 (by decide) ?_
      exact fx_zret C F d_M_fits_141 (Or.inl rfl) (Or.inl ⟨_, rfl, Or.inl rfl, hw⟩)
theorem b_M_fits_115 {p : Program} {l : Launch} {e : Env} {R : Room} {s : State} {m : MethodId} {args : Array Value} {below : List Frame} {meth : Method} {c : Code} {D : DD} {h0 : AH} {Q : Int32 → AH → Prop} (C : fx_CX D y_M_fits prog_15_method_7_code 10 1 24 (Option.some FieldType.boolean) [] h0 p R s m meth c) (hl : l.flags = flags0) (sx0 : Int32) (h : AH) (hw : m_M_fits_115 Q sx0 h) : ∀ (ls : Array Slot) (H : Heap) (locs : List Loc) (cells slots : Nat), lv_has ls 10 [] → fx_F D h0 h H locs cells slots → W p l e R s m args below meth c H locs cells slots (fx_Z D below s h0 (fx_oZ Q fx_no)) (F0 m 115 ls [.int sx0]) := by
  unfold m_M_fits_115 at hw
  intro ls H locs cells slots hv F
  exact fx_zret C F d_M_fits_115 hw.1 (Or.inl ⟨_, rfl, hw.1, hw.2⟩)
theorem b_M_fits_62 {p : Program} {l : Launch} {e : Env} {R : Room} {s : State} {m : MethodId} {args : Array Value} {below : List Frame} {meth : Method} {c : Code} {D : DD} {h0 : AH} {Q : Int32 → AH → Prop} (C : fx_CX D y_M_fits prog_15_method_7_code 10 1 24 (Option.some FieldType.boolean) [] h0 p R s m meth c) (hl : l.flags = flags0) (r0 : Nat) (x5 : Int32) (x6 : Int32) (w7 : Int64) (x9 : Int32) (h : AH) (hw : m_M_fits_62 Q r0 x5 x6 w7 x9 h) : ∀ (ls : Array Slot) (H : Heap) (locs : List Loc) (cells slots : Nat), lv_has ls 10 [(0, .ref r0), (5, .int x5), (6, .int x6), (7, .long w7), (9, .int x9)] → fx_F D h0 h H locs cells slots → W p l e R s m args below meth c H locs cells slots (fx_Z D below s h0 (fx_oZ Q fx_no)) (F0 m 62 ls []) := by
  refine fx_loop.use hw (fun st => ∀ (ls : Array Slot) (H : Heap) (locs : List Loc) (cells slots : Nat), lv_has ls 10 [(0, .ref r0), (5, .int x5), (6, .int x6), (7, .long st.1), (9, .int st.2.1)] → fx_F D h0 st.2.2 H locs cells slots → W p l e R s m args below meth c H locs cells slots (fx_Z D below s h0 (fx_oZ Q fx_no)) (F0 m 62 ls [])) (fun X62 st hX62 hw => ?_)
  obtain ⟨w7, x9, h⟩ := st
  replace hw : m_M_fits_62_b Q X62 r0 x5 x6 w7 x9 h := hw
  unfold m_M_fits_62_b at hw
  intro ls H locs cells slots hv F
  refine lv_iload C.ex C.by d_M_fits_62 (lv_at hv 4 rfl) ?_
  refine lv_iconst (v := (2 : Int32)) C.ex C.by d_M_fits_64 (by decide) ?_
  refine lv_iload C.ex C.by d_M_fits_65 (lv_at hv 2 rfl) ?_
  refine lv_imul C.ex C.by d_M_fits_67 ?_
  refine lv_icmp_lt C.ex C.by d_M_fits_68 rfl (fun hc => ?_) (fun hc => ?_)
  · replace hw := hw.1 hc
    refine lv_lload C.ex C.by d_M_fits_92 (lv_at hv 3 rfl) ?_
    refine lv_iload C.ex C.by d_M_fits_94 (lv_at hv 1 rfl) ?_
    refine lv_i2l (v := ((x5).toInt64)) C.ex C.by d_M_fits_96 rfl ?_
    refine W.lcmp C.ex C.by d_M_fits_97 ?_
    refine lv_if_eq C.ex C.by d_M_fits_98 rfl (fun hc => ?_) (fun hc => ?_)
    · replace hw := hw.1 hc
      refine lv_iconst (v := (0 : Int32)) C.ex C.by d_M_fits_116 (by decide) ?_
      refine lv_istore (lv' := [(9, .int (0 : Int32)), (0, .ref r0), (5, .int x5), (6, .int x6), (7, .long w7)]) C.ex C.by d_M_fits_117 hv (by decide) rfl (fun ls hv => ?_)
      exact b_M_fits_119 C hl _ _ _ _ hw _ _ _ _ _ (lv_sub hv [1, 3, 0] rfl) F
    · replace hw := hw.2 hc
      refine lv_lload C.ex C.by d_M_fits_101 (lv_at hv 3 rfl) ?_
      refine lv_iload C.ex C.by d_M_fits_103 (lv_at hv 1 rfl) ?_
      refine lv_i2l (v := ((x5).toInt64)) C.ex C.by d_M_fits_105 rfl ?_
      refine W.lcmp C.ex C.by d_M_fits_106 ?_
      refine lv_if_ge C.ex C.by d_M_fits_107 rfl (fun hc => ?_) (fun hc => ?_)
      · replace hw := hw.1 hc
        refine lv_iconst (v := (0 : Int32)) C.ex C.by d_M_fits_114 (by decide) ?_
        exact b_M_fits_115 C hl _ _ hw _ _ _ _ _ (lv_sub hv [] rfl) F
      · replace hw := hw.2 hc
        refine lv_iconst (v := (1 : Int32)) C.ex C.by d_M_fits_110 (by decide) ?_
        refine lv_goto C.ex C.by d_M_fits_111 rfl ?_
        exact b_M_fits_115 C hl _ _ hw _ _ _ _ _ (lv_sub hv [] rfl) F
  · replace hw := hw.2 hc
    refine lv_lload C.ex C.by d_M_fits_71 (lv_at hv 3 rfl) ?_
    refine lv_bipush (v := (32 : Int32)) C.ex C.by d_M_fits_73 (by decide) ?_
    refine lv_lshl (v := (sh_ll w7 (32 : Int32))) C.ex C.by d_M_fits_75 rfl ?_
    refine lv_aload_n C.ex C.by d_M_fits_76 rfl (lv_at hv 0 rfl) ?_
    obtain ⟨hk1, hw⟩ := hw
    obtain ⟨b1, hb1, hw⟩ := hw
    refine fx_getR C F lf_M_71 hk1 rfl hb1 d_M_fits_77 ?_
    refine lv_iload C.ex C.by d_M_fits_80 (lv_at hv 4 rfl) ?_
    obtain ⟨hk2, hw⟩ := hw
    obtain ⟨hi1, hw⟩ := hw
    refine fx_lald C F hk2 hi1 d_M_fits_82 ?_
    refine lv_lor C.ex C.by d_M_fits_83 ?_
    let u1 : Int64 := ((sh_ll w7 (32 : Int32)) ||| (hp_L h b1 x9.toNatClampNeg))
    replace hw := hw u1 rfl
    refine lv_lstore (lv' := [(7, .long u1), (0, .ref r0), (5, .int x5), (6, .int x6), (9, .int x9)]) C.ex C.by d_M_fits_84 hv (by decide) rfl (fun ls hv => ?_)
    let v1 : Int32 := (x9 + (-1 : Int32))
    replace hw := hw v1 rfl
    refine lv_iinc (v := v1) (k := 4) (lv' := [(9, .int v1), (7, .long u1), (0, .ref r0), (5, .int x5), (6, .int x6)]) C.ex C.by d_M_fits_86 hv rfl (congrArg (fun z => x9 + z) (by decide)) (by decide) rfl (fun ls hv => ?_)
    refine lv_goto C.ex C.by d_M_fits_89 rfl ?_
    exact hX62 _ hw _ _ _ _ _ (lv_sub hv [2, 3, 4, 1, 0] rfl) F
theorem b_M_fits_36 {p : Program} {l : Launch} {e : Env} {R : Room} {s : State} {m : MethodId} {args : Array Value} {below : List Frame} {meth : Method} {c : Code} {D : DD} {h0 : AH} {Q : Int32 → AH → Prop} (C : fx_CX D y_M_fits prog_15_method_7_code 10 1 24 (Option.some FieldType.boolean) [] h0 p R s m meth c) (hl : l.flags = flags0) (r0 : Nat) (w1 : Int64) (w3 : Int64) (x5 : Int32) (x6 : Int32) (x7 : Int32) (h : AH) (hw : m_M_fits_36 Q r0 w1 w3 x5 x6 x7 h) : ∀ (ls : Array Slot) (H : Heap) (locs : List Loc) (cells slots : Nat), lv_has ls 10 [(0, .ref r0), (1, .long w1), (3, .long w3), (5, .int x5), (6, .int x6), (7, .int x7)] → fx_F D h0 h H locs cells slots → W p l e R s m args below meth c H locs cells slots (fx_Z D below s h0 (fx_oZ Q fx_no)) (F0 m 36 ls []) := by
  refine fx_loop.use hw (fun st => ∀ (ls : Array Slot) (H : Heap) (locs : List Loc) (cells slots : Nat), lv_has ls 10 [(0, .ref r0), (1, .long w1), (3, .long w3), (5, .int x5), (6, .int x6), (7, .int st.1)] → fx_F D h0 st.2 H locs cells slots → W p l e R s m args below meth c H locs cells slots (fx_Z D below s h0 (fx_oZ Q fx_no)) (F0 m 36 ls [])) (fun X36 st hX36 hw => ?_)
  obtain ⟨x7, h⟩ := st
  replace hw : m_M_fits_36_b Q X36 r0 w1 w3 x5 x6 x7 h := hw
  unfold m_M_fits_36_b at hw
  intro ls H locs cells slots hv F
  refine lv_iload C.ex C.by d_M_fits_36 (lv_at hv 5 rfl) ?_
  refine lv_iload C.ex C.by d_M_fits_38 (lv_at hv 4 rfl) ?_
  refine lv_icmp_ge C.ex C.by d_M_fits_40 rfl (fun hc => ?_) (fun hc => ?_)
  · replace hw := hw.1 hc
    refine lv_lconst (v := (0 : Int64)) C.ex C.by d_M_fits_55 (by decide) ?_
    refine lv_lstore (lv' := [(7, .long (0 : Int64)), (0, .ref r0), (1, .long w1), (3, .long w3), (5, .int x5), (6, .int x6)]) C.ex C.by d_M_fits_56 hv (by decide) rfl (fun ls hv => ?_)
    refine lv_bipush (v := (7 : Int32)) C.ex C.by d_M_fits_58 (by decide) ?_
    refine lv_istore (lv' := [(9, .int (7 : Int32)), (7, .long (0 : Int64)), (0, .ref r0), (1, .long w1), (3, .long w3), (5, .int x5), (6, .int x6)]) C.ex C.by d_M_fits_60 hv (by decide) rfl (fun ls hv => ?_)
    exact b_M_fits_62 C hl _ _ _ _ _ _ hw _ _ _ _ _ (lv_sub hv [2, 5, 6, 1, 0] rfl) F
  · replace hw := hw.2 hc
    refine lv_aload_n C.ex C.by d_M_fits_43 rfl (lv_at hv 0 rfl) ?_
    refine lv_lload_n C.ex C.by d_M_fits_44 rfl (lv_at hv 1 rfl) ?_
    refine lv_lload_n C.ex C.by d_M_fits_45 rfl (lv_at hv 2 rfl) ?_
    obtain ⟨hk1, hw⟩ := hw
    refine fx_callV C F (c_M_raise hl hw) hm_M_raise hi_M_raise hv.1 (by decide) (Nat.le_of_ble_eq_true rfl) (iv_M_raise C F lm_M_98 hk1 d_M_fits_46) (fx_out0 _) fx_eno (fun h1 H locs cells slots hw hx1 F => ?_)
    replace hw := hw hx1
    have hk1 := (hx1).k hk1
    let v1 : Int32 := (x7 + (1 : Int32))
    replace hw := hw v1 rfl
    refine lv_iinc (v := v1) (k := 5) (lv' := [(7, .int v1), (0, .ref r0), (1, .long w1), (3, .long w3), (5, .int x5), (6, .int x6)]) C.ex C.by d_M_fits_49 hv rfl (congrArg (fun z => x7 + z) (by decide)) (by decide) rfl (fun ls hv => ?_)
    refine lv_goto C.ex C.by d_M_fits_52 rfl ?_
    exact hX36 _ hw _ _ _ _ _ (lv_sub hv [1, 2, 3, 4, 5, 0] rfl) F
theorem b_M_fits_26 {p : Program} {l : Launch} {e : Env} {R : Room} {s : State} {m : MethodId} {args : Array Value} {below : List Frame} {meth : Method} {c : Code} {D : DD} {h0 : AH} {Q : Int32 → AH → Prop} {X3 : Int32 × AH → Prop} (C : fx_CX D y_M_fits prog_15_method_7_code 10 1 24 (Option.some FieldType.boolean) [] h0 p R s m meth c) (hl : l.flags = flags0) (r0 : Nat) (w1 : Int64) (w3 : Int64) (x5 : Int32) (x6 : Int32) (x7 : Int32) (sr0 : Nat) (sx1 : Int32) (sw2 : Int64) (h : AH) (hX3 : ∀ st, X3 st → ∀ (ls : Array Slot) (H : Heap) (locs : List Loc) (cells slots : Nat), lv_has ls 10 [(0, .ref r0), (1, .long w1), (3, .long w3), (5, .int x5), (6, .int x6), (7, .int st.1)] → fx_F D h0 st.2 H locs cells slots → W p l e R s m args below meth c H locs cells slots (fx_Z D below s h0 (fx_oZ Q fx_no)) (F0 m 3 ls [])) (hw : m_M_fits_26 Q X3 r0 w1 w3 x5 x6 x7 sr0 sx1 sw2 h) : ∀ (ls : Array Slot) (H : Heap) (locs : List Loc) (cells slots : Nat), lv_has ls 10 [(0, .ref r0), (1, .long w1), (3, .long w3), (5, .int x5), (6, .int x6), (7, .int x7)] → fx_F D h0 h H locs cells slots → W p l e R s m args below meth c H locs cells slots (fx_Z D below s h0 (fx_oZ Q fx_no)) (F0 m 26 ls [.long sw2, .int sx1, .ref sr0]) := by
  unfold m_M_fits_26 at hw
  intro ls H locs cells slots hv F
  obtain ⟨hk1, hw⟩ := hw
  obtain ⟨hi1, hw⟩ := hw
  let h1 : AH := up_L h sr0 (sx1).toNatClampNeg sw2
  replace hw := hw h1 rfl
  refine fx_last C F hk1 hi1 d_M_fits_26 (fun H locs (F : fx_F D h0 h1 H locs _ _) => ?_)
  let v1 : Int32 := (x7 + (1 : Int32))
  replace hw := hw v1 rfl
  refine lv_iinc (v := v1) (k := 5) (lv' := [(7, .int v1), (0, .ref r0), (1, .long w1), (3, .long w3), (5, .int x5), (6, .int x6)]) C.ex C.by d_M_fits_27 hv rfl (congrArg (fun z => x7 + z) (by decide)) (by decide) rfl (fun ls hv => ?_)
  refine lv_goto C.ex C.by d_M_fits_30 rfl ?_
  exact hX3 _ hw _ _ _ _ _ (lv_sub hv [1, 2, 3, 4, 5, 0] rfl) F
theorem b_M_fits_3 {p : Program} {l : Launch} {e : Env} {R : Room} {s : State} {m : MethodId} {args : Array Value} {below : List Frame} {meth : Method} {c : Code} {D : DD} {h0 : AH} {Q : Int32 → AH → Prop} (C : fx_CX D y_M_fits prog_15_method_7_code 10 1 24 (Option.some FieldType.boolean) [] h0 p R s m meth c) (hl : l.flags = flags0) (r0 : Nat) (w1 : Int64) (w3 : Int64) (x5 : Int32) (x6 : Int32) (x7 : Int32) (h : AH) (hw : m_M_fits_3 Q r0 w1 w3 x5 x6 x7 h) : ∀ (ls : Array Slot) (H : Heap) (locs : List Loc) (cells slots : Nat), lv_has ls 10 [(0, .ref r0), (1, .long w1), (3, .long w3), (5, .int x5), (6, .int x6), (7, .int x7)] → fx_F D h0 h H locs cells slots → W p l e R s m args below meth c H locs cells slots (fx_Z D below s h0 (fx_oZ Q fx_no)) (F0 m 3 ls []) := by
  refine fx_loop.use hw (fun st => ∀ (ls : Array Slot) (H : Heap) (locs : List Loc) (cells slots : Nat), lv_has ls 10 [(0, .ref r0), (1, .long w1), (3, .long w3), (5, .int x5), (6, .int x6), (7, .int st.1)] → fx_F D h0 st.2 H locs cells slots → W p l e R s m args below meth c H locs cells slots (fx_Z D below s h0 (fx_oZ Q fx_no)) (F0 m 3 ls [])) (fun X3 st hX3 hw => ?_)
  obtain ⟨x7, h⟩ := st
  replace hw : m_M_fits_3_b Q X3 r0 w1 w3 x5 x6 x7 h := hw
  unfold m_M_fits_3_b at hw
  intro ls H locs cells slots hv F
  refine lv_iload C.ex C.by d_M_fits_3 (lv_at hv 5 rfl) ?_
  refine lv_bipush (v := (8 : Int32)) C.ex C.by d_M_fits_5 (by decide) ?_
  refine lv_icmp_ge C.ex C.by d_M_fits_7 rfl (fun hc => ?_) (fun hc => ?_)
  · replace hw := hw.1 hc
    refine lv_iconst (v := (0 : Int32)) C.ex C.by d_M_fits_33 (by decide) ?_
    refine lv_istore (lv' := [(7, .int (0 : Int32)), (0, .ref r0), (1, .long w1), (3, .long w3), (5, .int x5), (6, .int x6)]) C.ex C.by d_M_fits_34 hv (by decide) rfl (fun ls hv => ?_)
    exact b_M_fits_36 C hl _ _ _ _ _ _ _ hw _ _ _ _ _ (lv_sub hv [1, 2, 3, 4, 5, 0] rfl) F
  · replace hw := hw.2 hc
    refine lv_aload_n C.ex C.by d_M_fits_10 rfl (lv_at hv 0 rfl) ?_
    obtain ⟨hk1, hw⟩ := hw
    obtain ⟨b1, hb1, hw⟩ := hw
    refine fx_getR C F lf_M_71 hk1 rfl hb1 d_M_fits_11 ?_
    refine lv_iload C.ex C.by d_M_fits_14 (lv_at hv 5 rfl) ?_
    refine lv_iload C.ex C.by d_M_fits_16 (lv_at hv 5 rfl) ?_
    refine lv_if_ne C.ex C.by d_M_fits_18 rfl (fun hc => ?_) (fun hc => ?_)
    · replace hw := hw.1 hc
      refine lv_lconst (v := (0 : Int64)) C.ex C.by d_M_fits_25 (by decide) ?_
      exact b_M_fits_26 C hl _ _ _ _ _ _ _ _ _ _ hX3 hw _ _ _ _ _ hv F
    · replace hw := hw.2 hc
      refine lv_lconst (v := (1 : Int64)) C.ex C.by d_M_fits_21 (by decide) ?_
      refine lv_goto C.ex C.by d_M_fits_22 rfl ?_
      exact b_M_fits_26 C hl _ _ _ _ _ _ _ _ _ _ hX3 hw _ _ _ _ _ hv F
theorem b_M_fits_0 {p : Program} {l : Launch} {e : Env} {R : Room} {s : State} {m : MethodId} {args : Array Value} {below : List Frame} {meth : Method} {c : Code} {D : DD} {h0 : AH} {Q : Int32 → AH → Prop} (C : fx_CX D y_M_fits prog_15_method_7_code 10 1 24 (Option.some FieldType.boolean) [] h0 p R s m meth c) (hl : l.flags = flags0) (r0 : Nat) (w1 : Int64) (w3 : Int64) (x5 : Int32) (x6 : Int32) (h : AH) (hw : m_M_fits Q r0 w1 w3 x5 x6 h) : ∀ (ls : Array Slot) (H : Heap) (locs : List Loc) (cells slots : Nat), lv_has ls 10 [(0, .ref r0), (1, .long w1), (3, .long w3), (5, .int x5), (6, .int x6)] → fx_F D h0 h H locs cells slots → W p l e R s m args below meth c H locs cells slots (fx_Z D below s h0 (fx_oZ Q fx_no)) (F0 m 0 ls []) := by
  unfold m_M_fits at hw
  intro ls H locs cells slots hv F
  refine lv_iconst (v := (0 : Int32)) C.ex C.by d_M_fits_0 (by decide) ?_
  refine lv_istore (lv' := [(7, .int (0 : Int32)), (0, .ref r0), (1, .long w1), (3, .long w3), (5, .int x5), (6, .int x6)]) C.ex C.by d_M_fits_1 hv (by decide) rfl (fun ls hv => ?_)
  exact b_M_fits_3 C hl _ _ _ _ _ _ _ hw _ _ _ _ _ (lv_sub hv [1, 2, 3, 4, 5, 0] rfl) F
theorem hm_M_fits : fx_hd y_M_fits prog_15_method_7_code 10 (Option.some FieldType.boolean) [] ∈ tables_1 := (fx_m6 (List.mem_of_getElem? (i := 0) rfl))
theorem hi_M_fits : Cond.initialized y_M_fits.cls ∈ tables_1 := (fx_m1 (List.mem_of_getElem? (i := 15) rfl))
theorem c_M_fits {l : Launch} (hl : l.flags = flags0) {D : DD} {Q : Int32 → AH → Prop} {r0 : Nat} {w1 : Int64} {w3 : Int64} {x5 : Int32} {x6 : Int32} {h : AH} (hw : m_M_fits Q r0 w1 w3 x5 x6 h) : fx_Mt l D y_M_fits (fx_hd y_M_fits prog_15_method_7_code 10 (Option.some FieldType.boolean) []) 1 24 [.ref r0, .long w1, .long w3, .int x5, .int x6] h (fx_oZ Q fx_no) := by
  refine fx_ofW (plainFor_of_name (by decide)) (fun p e s m below meth c C F => ?_)
  have hv := lv_entry ([.ref r0, .long w1, .long w3, .int x5, .int x6]) (n := 10) (Nat.le_of_ble_eq_true rfl)
  rw [lg_entry_eq]
  generalize (lg_sl ([.ref r0, .long w1, .long w3, .int x5, .int x6]) ++ List.replicate (10 - (lg_sl ([.ref r0, .long w1, .long w3, .int x5, .int x6])).length) Slot.unset).toArray = ls at hv ⊢
  have hv : lv_has ls 10 [(0, .ref r0), (1, .long w1), (3, .long w3), (5, .int x5), (6, .int x6)] := hv
  exact b_M_fits_0 C hl _ _ _ _ _ _ hw _ _ _ _ _ hv F
/-! ChainJudgeModel.root(II)J: frames 2, words 45 -/
abbrev y_M_root : MethodName := ⟨"ChainJudgeModel", "root", "(II)J"⟩
theorem lm_M_94 : Cond.methodLink "ChainJudgeModel" 94 y_M_fits ∈ tables_1 ∨ ∃ host, Cond.methodLinkNest "ChainJudgeModel" 94 y_M_fits host ∈ tables_1 := Or.inl (fx_m5 (List.mem_of_getElem? (i := 237) rfl))
section
variable {p : Program} {l : Launch} {e : Env} {R : Room} {s : State} {m : MethodId} {args : Array Value} {below : List Frame} {meth : Method} {c : Code} {H : Heap} {locs : List Loc} {cells slots : Nat}
variable {D : DD} {y : MethodName} {cc : ByteArray} {nL kf kw : Nat} {ret : Option FieldType} {hh : List (Nat × Nat × Nat × Nat)} {h0 h : AH} {pc : Nat} {ls : Array Slot} {rest : List Value} {b idx : Nat}
theorem iv_M_fits {w1 : Int64} {w3 : Int64} {x5 : Int32} {x6 : Int32} (C : fx_CX D y cc nL kf kw ret hh h0 p R s m meth c) (F : fx_F D h0 h H locs cells slots) (hw1 : Cond.methodLink y.cls idx y_M_fits ∈ tables_1 ∨ ∃ host, Cond.methodLinkNest y.cls idx y_M_fits host ∈ tables_1) (hk : hp_k h b = 13) (hd : decode cc pc = .ok (.invokevirtual idx, 3)) : fx_IV p l e R s m args below meth c H locs cells slots (F0 m pc ls (.int x6 :: .int x5 :: .long w3 :: .long w1 :: .ref b :: rest)) rest y_M_fits [.ref b, .long w1, .long w3, .int x5, .int x6] 3 := fun T hT X => fx_invV (As := [.long w1, .long w3, .int x5, .int x6]) (Cn := "ChainJudgeModel") C X hw1 (fx_m5 (List.mem_of_getElem? (i := 239) rfl)) (fx_selP C ⟨by decide, by decide⟩ (fx_m5 (List.mem_of_getElem? (i := 217) rfl)) (fx_m5 (List.mem_of_getElem? (i := 238) rfl)) (fx_m5 (List.mem_of_getElem? (i := 239) rfl))) hm_M_fits ⟨by decide, by decide⟩ (by rw [hT]; exact fx_clsO (ci := 12) (r := ("ChainJudgeModel", fx_T12, 57)) C F rfl (by decide) hk) rfl (n := 4) (by decide +kernel) rfl rfl hd
end
def dl_M_root : List (Nat × Instr × Nat) := [(0, .lconst 0, 1), (1, .lstore_n 3, 1), (2, .lconst 0, 1), (3, .lstore 5, 2), (5, .bipush 66, 2), (7, .istore 7, 2), (9, .iload 7, 2), (11, .ifCond .lt 72, 3), (14, .iload 7, 2), (16, .bipush 63, 2), (18, .if_icmp .le 15, 3), (21, .lload_n 3, 1), (22, .lconst 1, 1), (23, .iload 7, 2), (25, .bipush 64, 2), (27, .isub, 1), (28, .lshl, 1), (29, .lor, 1), (30, .goto 4, 3), (33, .lload_n 3, 1), (34, .lstore 8, 2), (36, .iload 7, 2), (38, .bipush 63, 2), (40, .if_icmp .le 8, 3), (43, .lload 5, 2), (45, .goto 10, 3), (48, .lload 5, 2), (50, .lconst 1, 1), (51, .iload 7, 2), (53, .lshl, 1), (54, .lor, 1), (55, .lstore 10, 2), (57, .aload_n 0, 1), (58, .lload 8, 2), (60, .lload 10, 2), (62, .iload_n 1, 1), (63, .iload_n 2, 1), (64, .invokevirtual 94, 3), (67, .ifCond .eq 10, 3), (70, .lload 8, 2), (72, .lstore_n 3, 1), (73, .lload 10, 2), (75, .lstore 5, 2), (77, .iinc 7 (-1), 3), (80, .goto (-71), 3), (83, .lload 5, 2), (85, .lreturn, 1)]
theorem dk_M_root : fx_dec prog_15_method_6_code dl_M_root = true := by decide +kernel
theorem d_M_root_0 : decode prog_15_method_6_code 0 = .ok (.lconst 0, 1) := fx_dat dk_M_root 0 rfl
theorem d_M_root_1 : decode prog_15_method_6_code 1 = .ok (.lstore_n 3, 1) := fx_dat dk_M_root 1 rfl
theorem d_M_root_2 : decode prog_15_method_6_code 2 = .ok (.lconst 0, 1) := fx_dat dk_M_root 2 rfl
theorem d_M_root_3 : decode prog_15_method_6_code 3 = .ok (.lstore 5, 2) := fx_dat dk_M_root 3 rfl
theorem d_M_root_5 : decode prog_15_method_6_code 5 = .ok (.bipush 66, 2) := fx_dat dk_M_root 4 rfl
theorem d_M_root_7 : decode prog_15_method_6_code 7 = .ok (.istore 7, 2) := fx_dat dk_M_root 5 rfl
theorem d_M_root_9 : decode prog_15_method_6_code 9 = .ok (.iload 7, 2) := fx_dat dk_M_root 6 rfl
theorem d_M_root_11 : decode prog_15_method_6_code 11 = .ok (.ifCond .lt 72, 3) := fx_dat dk_M_root 7 rfl
theorem d_M_root_14 : decode prog_15_method_6_code 14 = .ok (.iload 7, 2) := fx_dat dk_M_root 8 rfl
theorem d_M_root_16 : decode prog_15_method_6_code 16 = .ok (.bipush 63, 2) := fx_dat dk_M_root 9 rfl
theorem d_M_root_18 : decode prog_15_method_6_code 18 = .ok (.if_icmp .le 15, 3) := fx_dat dk_M_root 10 rfl
theorem d_M_root_21 : decode prog_15_method_6_code 21 = .ok (.lload_n 3, 1) := fx_dat dk_M_root 11 rfl
theorem d_M_root_22 : decode prog_15_method_6_code 22 = .ok (.lconst 1, 1) := fx_dat dk_M_root 12 rfl
theorem d_M_root_23 : decode prog_15_method_6_code 23 = .ok (.iload 7, 2) := fx_dat dk_M_root 13 rfl
theorem d_M_root_25 : decode prog_15_method_6_code 25 = .ok (.bipush 64, 2) := fx_dat dk_M_root 14 rfl
theorem d_M_root_27 : decode prog_15_method_6_code 27 = .ok (.isub, 1) := fx_dat dk_M_root 15 rfl
theorem d_M_root_28 : decode prog_15_method_6_code 28 = .ok (.lshl, 1) := fx_dat dk_M_root 16 rfl
theorem d_M_root_29 : decode prog_15_method_6_code 29 = .ok (.lor, 1) := fx_dat dk_M_root 17 rfl
theorem d_M_root_30 : decode prog_15_method_6_code 30 = .ok (.goto 4, 3) := fx_dat dk_M_root 18 rfl
theorem d_M_root_33 : decode prog_15_method_6_code 33 = .ok (.lload_n 3, 1) := fx_dat dk_M_root 19 rfl
theorem d_M_root_34 : decode prog_15_method_6_code 34 = .ok (.lstore 8, 2) := fx_dat dk_M_root 20 rfl
theorem d_M_root_36 : decode prog_15_method_6_code 36 = .ok (.iload 7, 2) := fx_dat dk_M_root 21 rfl
theorem d_M_root_38 : decode prog_15_method_6_code 38 = .ok (.bipush 63, 2) := fx_dat dk_M_root 22 rfl
theorem d_M_root_40 : decode prog_15_method_6_code 40 = .ok (.if_icmp .le 8, 3) := fx_dat dk_M_root 23 rfl
theorem d_M_root_43 : decode prog_15_method_6_code 43 = .ok (.lload 5, 2) := fx_dat dk_M_root 24 rfl
theorem d_M_root_45 : decode prog_15_method_6_code 45 = .ok (.goto 10, 3) := fx_dat dk_M_root 25 rfl
theorem d_M_root_48 : decode prog_15_method_6_code 48 = .ok (.lload 5, 2) := fx_dat dk_M_root 26 rfl
theorem d_M_root_50 : decode prog_15_method_6_code 50 = .ok (.lconst 1, 1) := fx_dat dk_M_root 27 rfl
theorem d_M_root_51 : decode prog_15_method_6_code 51 = .ok (.iload 7, 2) := fx_dat dk_M_root 28 rfl
theorem d_M_root_53 : decode prog_15_method_6_code 53 = .ok (.lshl, 1) := fx_dat dk_M_root 29 rfl
theorem d_M_root_54 : decode prog_15_method_6_code 54 = .ok (.lor, 1) := fx_dat dk_M_root 30 rfl
theorem d_M_root_55 : decode prog_15_method_6_code 55 = .ok (.lstore 10, 2) := fx_dat dk_M_root 31 rfl
theorem d_M_root_57 : decode prog_15_method_6_code 57 = .ok (.aload_n 0, 1) := fx_dat dk_M_root 32 rfl
theorem d_M_root_58 : decode prog_15_method_6_code 58 = .ok (.lload 8, 2) := fx_dat dk_M_root 33 rfl
theorem d_M_root_60 : decode prog_15_method_6_code 60 = .ok (.lload 10, 2) := fx_dat dk_M_root 34 rfl
theorem d_M_root_62 : decode prog_15_method_6_code 62 = .ok (.iload_n 1, 1) := fx_dat dk_M_root 35 rfl
theorem d_M_root_63 : decode prog_15_method_6_code 63 = .ok (.iload_n 2, 1) := fx_dat dk_M_root 36 rfl
theorem d_M_root_64 : decode prog_15_method_6_code 64 = .ok (.invokevirtual 94, 3) := fx_dat dk_M_root 37 rfl
theorem d_M_root_67 : decode prog_15_method_6_code 67 = .ok (.ifCond .eq 10, 3) := fx_dat dk_M_root 38 rfl
theorem d_M_root_70 : decode prog_15_method_6_code 70 = .ok (.lload 8, 2) := fx_dat dk_M_root 39 rfl
theorem d_M_root_72 : decode prog_15_method_6_code 72 = .ok (.lstore_n 3, 1) := fx_dat dk_M_root 40 rfl
theorem d_M_root_73 : decode prog_15_method_6_code 73 = .ok (.lload 10, 2) := fx_dat dk_M_root 41 rfl
theorem d_M_root_75 : decode prog_15_method_6_code 75 = .ok (.lstore 5, 2) := fx_dat dk_M_root 42 rfl
theorem d_M_root_77 : decode prog_15_method_6_code 77 = .ok (.iinc 7 (-1), 3) := fx_dat dk_M_root 43 rfl
theorem d_M_root_80 : decode prog_15_method_6_code 80 = .ok (.goto (-71), 3) := fx_dat dk_M_root 44 rfl
theorem d_M_root_83 : decode prog_15_method_6_code 83 = .ok (.lload 5, 2) := fx_dat dk_M_root 45 rfl
theorem d_M_root_85 : decode prog_15_method_6_code 85 = .ok (.lreturn, 1) := fx_dat dk_M_root 46 rfl
def m_M_root_77 (Q : Int64 → AH → Prop) (X9 : Int64 × Int64 × Int32 × AH → Prop) (r0 : Nat) (x1 : Int32) (x2 : Int32) (w3 : Int64) (w5 : Int64) (x7 : Int32) (h : AH) : Prop := ∀ v1 : Int32, v1 = (x7 + (-1 : Int32)) → X9 (w3, w5, v1, h)
def m_M_root_55 (Q : Int64 → AH → Prop) (X9 : Int64 × Int64 × Int32 × AH → Prop) (r0 : Nat) (x1 : Int32) (x2 : Int32) (w3 : Int64) (w5 : Int64) (x7 : Int32) (w8 : Int64) (sw0 : Int64) (h : AH) : Prop := hp_k h r0 = 13 ∧ m_M_fits (fun v1 h1 => fx_ext h h1 → zb v1 → (v1 = 0 → m_M_root_77 Q X9 r0 x1 x2 w3 w5 x7 h1) ∧ (¬ v1 = 0 → m_M_root_77 Q X9 r0 x1 x2 w8 sw0 x7 h1)) r0 w8 sw0 x1 x2 h
def m_M_root_34 (Q : Int64 → AH → Prop) (X9 : Int64 × Int64 × Int32 × AH → Prop) (r0 : Nat) (x1 : Int32) (x2 : Int32) (w3 : Int64) (w5 : Int64) (x7 : Int32) (sw0 : Int64) (h : AH) : Prop := (x7 ≤ (63 : Int32) → m_M_root_55 Q X9 r0 x1 x2 w3 w5 x7 sw0 (w5 ||| (sh_ll (1 : Int64) x7)) h) ∧ (¬ x7 ≤ (63 : Int32) → m_M_root_55 Q X9 r0 x1 x2 w3 w5 x7 sw0 w5 h)
def m_M_root_9_b (Q : Int64 → AH → Prop) (X9 : Int64 × Int64 × Int32 × AH → Prop) (r0 : Nat) (x1 : Int32) (x2 : Int32) (w3 : Int64) (w5 : Int64) (x7 : Int32) (h : AH) : Prop := (x7 < 0 → Q w5 h) ∧ (¬ x7 < 0 → (x7 ≤ (63 : Int32) → m_M_root_34 Q X9 r0 x1 x2 w3 w5 x7 w3 h) ∧ (¬ x7 ≤ (63 : Int32) → m_M_root_34 Q X9 r0 x1 x2 w3 w5 x7 (w3 ||| (sh_ll (1 : Int64) (x7 - (64 : Int32)))) h))
def m_M_root_9 (Q : Int64 → AH → Prop) (r0 : Nat) (x1 : Int32) (x2 : Int32) (w3 : Int64) (w5 : Int64) (x7 : Int32) (h : AH) : Prop := fx_loop (fun (X9 : Int64 × Int64 × Int32 × AH → Prop) (st : Int64 × Int64 × Int32 × AH) => m_M_root_9_b Q X9 r0 x1 x2 st.1 st.2.1 st.2.2.1 st.2.2.2) (w3, w5, x7, h)
def m_M_root (Q : Int64 → AH → Prop) (r0 : Nat) (x1 : Int32) (x2 : Int32) (h : AH) : Prop := m_M_root_9 Q r0 x1 x2 (0 : Int64) (0 : Int64) (66 : Int32) h
theorem b_M_root_77 {p : Program} {l : Launch} {e : Env} {R : Room} {s : State} {m : MethodId} {args : Array Value} {below : List Frame} {meth : Method} {c : Code} {D : DD} {h0 : AH} {Q : Int64 → AH → Prop} {X9 : Int64 × Int64 × Int32 × AH → Prop} (C : fx_CX D y_M_root prog_15_method_6_code 12 2 45 (Option.some FieldType.long) [] h0 p R s m meth c) (hl : l.flags = flags0) (r0 : Nat) (x1 : Int32) (x2 : Int32) (w3 : Int64) (w5 : Int64) (x7 : Int32) (h : AH) (hX9 : ∀ st, X9 st → ∀ (ls : Array Slot) (H : Heap) (locs : List Loc) (cells slots : Nat), lv_has ls 12 [(0, .ref r0), (1, .int x1), (2, .int x2), (3, .long st.1), (5, .long st.2.1), (7, .int st.2.2.1)] → fx_F D h0 st.2.2.2 H locs cells slots → W p l e R s m args below meth c H locs cells slots (fx_Z D below s h0 (fx_oL Q fx_no)) (F0 m 9 ls [])) (hw : m_M_root_77 Q X9 r0 x1 x2 w3 w5 x7 h) : ∀ (ls : Array Slot) (H : Heap) (locs : List Loc) (cells slots : Nat), lv_has ls 12 [(0, .ref r0), (1, .int x1), (2, .int x2), (3, .long w3), (5, .long w5), (7, .int x7)] → fx_F D h0 h H locs cells slots → W p l e R s m args below meth c H locs cells slots (fx_Z D below s h0 (fx_oL Q fx_no)) (F0 m 77 ls []) := by
  unfold m_M_root_77 at hw
  intro ls H locs cells slots hv F
  let v1 : Int32 := (x7 + (-1 : Int32))
  replace hw := hw v1 rfl
  refine lv_iinc (v := v1) (k := 5) (lv' := [(7, .int v1), (0, .ref r0), (1, .int x1), (2, .int x2), (3, .long w3), (5, .long w5)]) C.ex C.by d_M_root_77 hv rfl (congrArg (fun z => x7 + z) (by decide)) (by decide) rfl (fun ls hv => ?_)
  refine lv_goto C.ex C.by d_M_root_80 rfl ?_
  exact hX9 _ hw _ _ _ _ _ (lv_sub hv [1, 2, 3, 4, 5, 0] rfl) F
theorem b_M_root_55 {p : Program} {l : Launch} {e : Env} {R : Room} {s : State} {m : MethodId} {args : Array Value} {below : List Frame} {meth : Method} {c : Code} {D : DD} {h0 : AH} {Q : Int64 → AH → Prop} {X9 : Int64 × Int64 × Int32 × AH → Prop} (C : fx_CX D y_M_root prog_15_method_6_code 12 2 45 (Option.some FieldType.long) [] h0 p R s m meth c) (hl : l.flags = flags0) (r0 : Nat) (x1 : Int32) (x2 : Int32) (w3 : Int64) (w5 : Int64) (x7 : Int32) (w8 : Int64) (sw0 : Int64) (h : AH) (hX9 : ∀ st, X9 st → ∀ (ls : Array Slot) (H : Heap) (locs : List Loc) (cells slots : Nat), lv_has ls 12 [(0, .ref r0), (1, .int x1), (2, .int x2), (3, .long st.1), (5, .long st.2.1), (7, .int st.2.2.1)] → fx_F D h0 st.2.2.2 H locs cells slots → W p l e R s m args below meth c H locs cells slots (fx_Z D below s h0 (fx_oL Q fx_no)) (F0 m 9 ls [])) (hw : m_M_root_55 Q X9 r0 x1 x2 w3 w5 x7 w8 sw0 h) : ∀ (ls : Array Slot) (H : Heap) (locs : List Loc) (cells slots : Nat), lv_has ls 12 [(0, .ref r0), (1, .int x1), (2, .int x2), (3, .long w3), (5, .long w5), (7, .int x7), (8, .long w8)] → fx_F D h0 h H locs cells slots → W p l e R s m args below meth c H locs cells slots (fx_Z D below s h0 (fx_oL Q fx_no)) (F0 m 55 ls [.long sw0]) := by
  unfold m_M_root_55 at hw
  intro ls H locs cells slots hv F
  refine lv_lstore (lv' := [(10, .long sw0), (0, .ref r0), (1, .int x1), (2, .int x2), (3, .long w3), (5, .long w5), (7, .int x7), (8, .long w8)]) C.ex C.by d_M_root_55 hv (by decide) rfl (fun ls hv => ?_)
  refine lv_aload_n C.ex C.by d_M_root_57 rfl (lv_at hv 1 rfl) ?_
  refine lv_lload C.ex C.by d_M_root_58 (lv_at hv 7 rfl) ?_
  refine lv_lload C.ex C.by d_M_root_60 (lv_at hv 0 rfl) ?_
  refine lv_iload_n C.ex C.by d_M_root_62 rfl (lv_at hv 2 rfl) ?_
  refine lv_iload_n C.ex C.by d_M_root_63 rfl (lv_at hv 3 rfl) ?_
  obtain ⟨hk1, hw⟩ := hw
  refine fx_callZ C F (c_M_fits hl hw) hm_M_fits hi_M_fits hv.1 (by decide) (Nat.le_of_ble_eq_true rfl) (iv_M_fits C F lm_M_94 hk1 d_M_root_64) (fx_out0 _) fx_eno (fun v1 h1 H locs cells slots hw hx1 hzb F => ?_)
  replace hw := hw hx1 hzb
  have hk1 := (hx1).k hk1
  refine lv_if_eq C.ex C.by d_M_root_67 rfl (fun hc => ?_) (fun hc => ?_)
  · replace hw := hw.1 hc
    exact b_M_root_77 C hl _ _ _ _ _ _ _ hX9 hw _ _ _ _ _ (lv_sub hv [1, 2, 3, 4, 5, 6] rfl) F
  · replace hw := hw.2 hc
    refine lv_lload C.ex C.by d_M_root_70 (lv_at hv 7 rfl) ?_
    refine lv_lstore_n (lv' := [(3, .long w8), (10, .long sw0), (0, .ref r0), (1, .int x1), (2, .int x2), (5, .long w5), (7, .int x7), (8, .long w8)]) C.ex C.by d_M_root_72 rfl hv (by decide) rfl (fun ls hv => ?_)
    refine lv_lload C.ex C.by d_M_root_73 (lv_at hv 1 rfl) ?_
    refine lv_lstore (lv' := [(5, .long sw0), (3, .long w8), (10, .long sw0), (0, .ref r0), (1, .int x1), (2, .int x2), (7, .int x7), (8, .long w8)]) C.ex C.by d_M_root_75 hv (by decide) rfl (fun ls hv => ?_)
    exact b_M_root_77 C hl _ _ _ _ _ _ _ hX9 hw _ _ _ _ _ (lv_sub hv [3, 4, 5, 1, 0, 6] rfl) F
theorem b_M_root_34 {p : Program} {l : Launch} {e : Env} {R : Room} {s : State} {m : MethodId} {args : Array Value} {below : List Frame} {meth : Method} {c : Code} {D : DD} {h0 : AH} {Q : Int64 → AH → Prop} {X9 : Int64 × Int64 × Int32 × AH → Prop} (C : fx_CX D y_M_root prog_15_method_6_code 12 2 45 (Option.some FieldType.long) [] h0 p R s m meth c) (hl : l.flags = flags0) (r0 : Nat) (x1 : Int32) (x2 : Int32) (w3 : Int64) (w5 : Int64) (x7 : Int32) (sw0 : Int64) (h : AH) (hX9 : ∀ st, X9 st → ∀ (ls : Array Slot) (H : Heap) (locs : List Loc) (cells slots : Nat), lv_has ls 12 [(0, .ref r0), (1, .int x1), (2, .int x2), (3, .long st.1), (5, .long st.2.1), (7, .int st.2.2.1)] → fx_F D h0 st.2.2.2 H locs cells slots → W p l e R s m args below meth c H locs cells slots (fx_Z D below s h0 (fx_oL Q fx_no)) (F0 m 9 ls [])) (hw : m_M_root_34 Q X9 r0 x1 x2 w3 w5 x7 sw0 h) : ∀ (ls : Array Slot) (H : Heap) (locs : List Loc) (cells slots : Nat), lv_has ls 12 [(0, .ref r0), (1, .int x1), (2, .int x2), (3, .long w3), (5, .long w5), (7, .int x7)] → fx_F D h0 h H locs cells slots → W p l e R s m args below meth c H locs cells slots (fx_Z D below s h0 (fx_oL Q fx_no)) (F0 m 34 ls [.long sw0]) := by
  unfold m_M_root_34 at hw
  intro ls H locs cells slots hv F
  refine lv_lstore (lv' := [(8, .long sw0), (0, .ref r0), (1, .int x1), (2, .int x2), (3, .long w3), (5, .long w5), (7, .int x7)]) C.ex C.by d_M_root_34 hv (by decide) rfl (fun ls hv => ?_)
  refine lv_iload C.ex C.by d_M_root_36 (lv_at hv 6 rfl) ?_
  refine lv_bipush (v := (63 : Int32)) C.ex C.by d_M_root_38 (by decide) ?_
  refine lv_icmp_le C.ex C.by d_M_root_40 rfl (fun hc => ?_) (fun hc => ?_)
  · replace hw := hw.1 hc
    refine lv_lload C.ex C.by d_M_root_48 (lv_at hv 5 rfl) ?_
    refine lv_lconst (v := (1 : Int64)) C.ex C.by d_M_root_50 (by decide) ?_
    refine lv_iload C.ex C.by d_M_root_51 (lv_at hv 6 rfl) ?_
    refine lv_lshl (v := (sh_ll (1 : Int64) x7)) C.ex C.by d_M_root_53 rfl ?_
    refine lv_lor C.ex C.by d_M_root_54 ?_
    exact b_M_root_55 C hl _ _ _ _ _ _ _ _ _ hX9 hw _ _ _ _ _ (lv_sub hv [1, 2, 3, 4, 5, 6, 0] rfl) F
  · replace hw := hw.2 hc
    refine lv_lload C.ex C.by d_M_root_43 (lv_at hv 5 rfl) ?_
    refine lv_goto C.ex C.by d_M_root_45 rfl ?_
    exact b_M_root_55 C hl _ _ _ _ _ _ _ _ _ hX9 hw _ _ _ _ _ (lv_sub hv [1, 2, 3, 4, 5, 6, 0] rfl) F
theorem b_M_root_9 {p : Program} {l : Launch} {e : Env} {R : Room} {s : State} {m : MethodId} {args : Array Value} {below : List Frame} {meth : Method} {c : Code} {D : DD} {h0 : AH} {Q : Int64 → AH → Prop} (C : fx_CX D y_M_root prog_15_method_6_code 12 2 45 (Option.some FieldType.long) [] h0 p R s m meth c) (hl : l.flags = flags0) (r0 : Nat) (x1 : Int32) (x2 : Int32) (w3 : Int64) (w5 : Int64) (x7 : Int32) (h : AH) (hw : m_M_root_9 Q r0 x1 x2 w3 w5 x7 h) : ∀ (ls : Array Slot) (H : Heap) (locs : List Loc) (cells slots : Nat), lv_has ls 12 [(0, .ref r0), (1, .int x1), (2, .int x2), (3, .long w3), (5, .long w5), (7, .int x7)] → fx_F D h0 h H locs cells slots → W p l e R s m args below meth c H locs cells slots (fx_Z D below s h0 (fx_oL Q fx_no)) (F0 m 9 ls []) := by
  refine fx_loop.use hw (fun st => ∀ (ls : Array Slot) (H : Heap) (locs : List Loc) (cells slots : Nat), lv_has ls 12 [(0, .ref r0), (1, .int x1), (2, .int x2), (3, .long st.1), (5, .long st.2.1), (7, .int st.2.2.1)] → fx_F D h0 st.2.2.2 H locs cells slots → W p l e R s m args below meth c H locs cells slots (fx_Z D below s h0 (fx_oL Q fx_no)) (F0 m 9 ls [])) (fun X9 st hX9 hw => ?_)
  obtain ⟨w3, w5, x7, h⟩ := st
  replace hw : m_M_root_9_b Q X9 r0 x1 x2 w3 w5 x7 h := hw
  unfold m_M_root_9_b at hw
  intro ls H locs cells slots hv F
  refine lv_iload C.ex C.by d_M_root_9 (lv_at hv 5 rfl) ?_
  refine lv_if_lt C.ex C.by d_M_root_11 rfl (fun hc => ?_) (fun hc => ?_)
  · replace hw := hw.1 hc
    refine lv_lload C.ex C.by d_M_root_83 (lv_at hv 4 rfl) ?_
    exact fx_lret C F d_M_root_85 (Or.inl ⟨_, rfl, hw⟩)
  · replace hw := hw.2 hc
    refine lv_iload C.ex C.by d_M_root_14 (lv_at hv 5 rfl) ?_
    refine lv_bipush (v := (63 : Int32)) C.ex C.by d_M_root_16 (by decide) ?_
    refine lv_icmp_le C.ex C.by d_M_root_18 rfl (fun hc => ?_) (fun hc => ?_)
    · replace hw := hw.1 hc
      refine lv_lload_n C.ex C.by d_M_root_33 rfl (lv_at hv 3 rfl) ?_
      exact b_M_root_34 C hl _ _ _ _ _ _ _ _ hX9 hw _ _ _ _ _ hv F
    · replace hw := hw.2 hc
      refine lv_lload_n C.ex C.by d_M_root_21 rfl (lv_at hv 3 rfl) ?_
      refine lv_lconst (v := (1 : Int64)) C.ex C.by d_M_root_22 (by decide) ?_
      refine lv_iload C.ex C.by d_M_root_23 (lv_at hv 5 rfl) ?_
      refine lv_bipush (v := (64 : Int32)) C.ex C.by d_M_root_25 (by decide) ?_
      refine lv_isub C.ex C.by d_M_root_27 ?_
      refine lv_lshl (v := (sh_ll (1 : Int64) (x7 - (64 : Int32)))) C.ex C.by d_M_root_28 rfl ?_
      refine lv_lor C.ex C.by d_M_root_29 ?_
      refine lv_goto C.ex C.by d_M_root_30 rfl ?_
      exact b_M_root_34 C hl _ _ _ _ _ _ _ _ hX9 hw _ _ _ _ _ hv F
theorem b_M_root_0 {p : Program} {l : Launch} {e : Env} {R : Room} {s : State} {m : MethodId} {args : Array Value} {below : List Frame} {meth : Method} {c : Code} {D : DD} {h0 : AH} {Q : Int64 → AH → Prop} (C : fx_CX D y_M_root prog_15_method_6_code 12 2 45 (Option.some FieldType.long) [] h0 p R s m meth c) (hl : l.flags = flags0) (r0 : Nat) (x1 : Int32) (x2 : Int32) (h : AH) (hw : m_M_root Q r0 x1 x2 h) : ∀ (ls : Array Slot) (H : Heap) (locs : List Loc) (cells slots : Nat), lv_has ls 12 [(0, .ref r0), (1, .int x1), (2, .int x2)] → fx_F D h0 h H locs cells slots → W p l e R s m args below meth c H locs cells slots (fx_Z D below s h0 (fx_oL Q fx_no)) (F0 m 0 ls []) := by
  unfold m_M_root at hw
  intro ls H locs cells slots hv F
  refine lv_lconst (v := (0 : Int64)) C.ex C.by d_M_root_0 (by decide) ?_
  refine lv_lstore_n (lv' := [(3, .long (0 : Int64)), (0, .ref r0), (1, .int x1), (2, .int x2)]) C.ex C.by d_M_root_1 rfl hv (by decide) rfl (fun ls hv => ?_)
  refine lv_lconst (v := (0 : Int64)) C.ex C.by d_M_root_2 (by decide) ?_
  refine lv_lstore (lv' := [(5, .long (0 : Int64)), (3, .long (0 : Int64)), (0, .ref r0), (1, .int x1), (2, .int x2)]) C.ex C.by d_M_root_3 hv (by decide) rfl (fun ls hv => ?_)
  refine lv_bipush (v := (66 : Int32)) C.ex C.by d_M_root_5 (by decide) ?_
  refine lv_istore (lv' := [(7, .int (66 : Int32)), (5, .long (0 : Int64)), (3, .long (0 : Int64)), (0, .ref r0), (1, .int x1), (2, .int x2)]) C.ex C.by d_M_root_7 hv (by decide) rfl (fun ls hv => ?_)
  exact b_M_root_9 C hl _ _ _ _ _ _ _ hw _ _ _ _ _ (lv_sub hv [3, 4, 5, 2, 1, 0] rfl) F
theorem hm_M_root : fx_hd y_M_root prog_15_method_6_code 12 (Option.some FieldType.long) [] ∈ tables_1 := (fx_m5 (List.mem_of_getElem? (i := 236) rfl))
theorem hi_M_root : Cond.initialized y_M_root.cls ∈ tables_1 := (fx_m1 (List.mem_of_getElem? (i := 15) rfl))
theorem c_M_root {l : Launch} (hl : l.flags = flags0) {D : DD} {Q : Int64 → AH → Prop} {r0 : Nat} {x1 : Int32} {x2 : Int32} {h : AH} (hw : m_M_root Q r0 x1 x2 h) : fx_Mt l D y_M_root (fx_hd y_M_root prog_15_method_6_code 12 (Option.some FieldType.long) []) 2 45 [.ref r0, .int x1, .int x2] h (fx_oL Q fx_no) := by
  refine fx_ofW (plainFor_of_name (by decide)) (fun p e s m below meth c C F => ?_)
  have hv := lv_entry ([.ref r0, .int x1, .int x2]) (n := 12) (Nat.le_of_ble_eq_true rfl)
  rw [lg_entry_eq]
  generalize (lg_sl ([.ref r0, .int x1, .int x2]) ++ List.replicate (12 - (lg_sl ([.ref r0, .int x1, .int x2])).length) Slot.unset).toArray = ls at hv ⊢
  have hv : lv_has ls 12 [(0, .ref r0), (1, .int x1), (2, .int x2)] := hv
  exact b_M_root_0 C hl _ _ _ _ hw _ _ _ _ _ hv F
/-! ChainJudgeModel.constants()V: frames 3, words 70 -/
abbrev y_M_constants : MethodName := ⟨"ChainJudgeModel", "constants", "()V"⟩
theorem lf_M_58 : fx_Lk "ChainJudgeModel" 58 12 50 := fx_Lk.mk (C := "ChainJudgeModel") (T := fx_T12) (N := 57) rfl (by decide) (by decide) (fx_m6 (List.mem_of_getElem? (i := 56) rfl))
theorem lf_M_62 : fx_Lk "ChainJudgeModel" 62 12 51 := fx_Lk.mk (C := "ChainJudgeModel") (T := fx_T12) (N := 57) rfl (by decide) (by decide) (fx_m6 (List.mem_of_getElem? (i := 57) rfl))
theorem lm_M_86 : Cond.methodLink "ChainJudgeModel" 86 y_M_prime ∈ tables_1 ∨ ∃ host, Cond.methodLinkNest "ChainJudgeModel" 86 y_M_prime host ∈ tables_1 := Or.inl (fx_m5 (List.mem_of_getElem? (i := 230) rfl))
theorem lm_M_90 : Cond.methodLink "ChainJudgeModel" 90 y_M_root ∈ tables_1 ∨ ∃ host, Cond.methodLinkNest "ChainJudgeModel" 90 y_M_root host ∈ tables_1 := Or.inl (fx_m5 (List.mem_of_getElem? (i := 233) rfl))
section
variable {p : Program} {l : Launch} {e : Env} {R : Room} {s : State} {m : MethodId} {args : Array Value} {below : List Frame} {meth : Method} {c : Code} {H : Heap} {locs : List Loc} {cells slots : Nat}
variable {D : DD} {y : MethodName} {cc : ByteArray} {nL kf kw : Nat} {ret : Option FieldType} {hh : List (Nat × Nat × Nat × Nat)} {h0 h : AH} {pc : Nat} {ls : Array Slot} {rest : List Value} {b idx : Nat}
theorem iv_M_prime {x0 : Int32} (C : fx_CX D y cc nL kf kw ret hh h0 p R s m meth c) (F : fx_F D h0 h H locs cells slots) (hw1 : Cond.methodLink y.cls idx y_M_prime ∈ tables_1 ∨ ∃ host, Cond.methodLinkNest y.cls idx y_M_prime host ∈ tables_1) (hd : decode cc pc = .ok (.invokestatic idx, 3)) : fx_IV p l e R s m args below meth c H locs cells slots (F0 m pc ls (.int x0 :: rest)) rest y_M_prime [.int x0] 3 := fun T hT X => fx_invS (As := [.int x0]) C X hw1 (fx_m5 (List.mem_of_getElem? (i := 231) rfl)) hi_M_prime hm_M_prime ⟨by decide, by decide⟩ rfl (n := 1) (by decide +kernel) rfl rfl hd
theorem iv_M_root {x1 : Int32} {x2 : Int32} (C : fx_CX D y cc nL kf kw ret hh h0 p R s m meth c) (F : fx_F D h0 h H locs cells slots) (hw1 : Cond.methodLink y.cls idx y_M_root ∈ tables_1 ∨ ∃ host, Cond.methodLinkNest y.cls idx y_M_root host ∈ tables_1) (hk : hp_k h b = 13) (hd : decode cc pc = .ok (.invokevirtual idx, 3)) : fx_IV p l e R s m args below meth c H locs cells slots (F0 m pc ls (.int x2 :: .int x1 :: .ref b :: rest)) rest y_M_root [.ref b, .int x1, .int x2] 3 := fun T hT X => fx_invV (As := [.int x1, .int x2]) (Cn := "ChainJudgeModel") C X hw1 (fx_m5 (List.mem_of_getElem? (i := 235) rfl)) (fx_selP C ⟨by decide, by decide⟩ (fx_m5 (List.mem_of_getElem? (i := 217) rfl)) (fx_m5 (List.mem_of_getElem? (i := 234) rfl)) (fx_m5 (List.mem_of_getElem? (i := 235) rfl))) hm_M_root ⟨by decide, by decide⟩ (by rw [hT]; exact fx_clsO (ci := 12) (r := ("ChainJudgeModel", fx_T12, 57)) C F rfl (by decide) hk) rfl (n := 2) (by decide +kernel) rfl rfl hd
end
def dl_M_constants : List (Nat × Instr × Nat) := [(0, .iconst 1, 1), (1, .istore_n 1, 1), (2, .iconst 0, 1), (3, .istore_n 2, 1), (4, .iload_n 2, 1), (5, .bipush 64, 2), (7, .if_icmp .ge 44, 3), (10, .iload_n 1, 1), (11, .invokestatic 86, 3), (14, .istore_n 1, 1), (15, .aload_n 0, 1), (16, .getfield 58, 3), (19, .iload_n 2, 1), (20, .aload_n 0, 1), (21, .iload_n 1, 1), (22, .iconst 3, 1), (23, .invokevirtual 90, 3), (26, .lastore, 1), (27, .iload_n 2, 1), (28, .bipush 8, 2), (30, .if_icmp .ge 15, 3), (33, .aload_n 0, 1), (34, .getfield 62, 3), (37, .iload_n 2, 1), (38, .aload_n 0, 1), (39, .iload_n 1, 1), (40, .iconst 2, 1), (41, .invokevirtual 90, 3), (44, .lastore, 1), (45, .iinc 2 1, 3), (48, .goto (-44), 3), (51, .return_, 1)]
theorem dk_M_constants : fx_dec prog_15_method_5_code dl_M_constants = true := by decide +kernel
theorem d_M_constants_0 : decode prog_15_method_5_code 0 = .ok (.iconst 1, 1) := fx_dat dk_M_constants 0 rfl
theorem d_M_constants_1 : decode prog_15_method_5_code 1 = .ok (.istore_n 1, 1) := fx_dat dk_M_constants 1 rfl
theorem d_M_constants_2 : decode prog_15_method_5_code 2 = .ok (.iconst 0, 1) := fx_dat dk_M_constants 2 rfl
theorem d_M_constants_3 : decode prog_15_method_5_code 3 = .ok (.istore_n 2, 1) := fx_dat dk_M_constants 3 rfl
theorem d_M_constants_4 : decode prog_15_method_5_code 4 = .ok (.iload_n 2, 1) := fx_dat dk_M_constants 4 rfl
theorem d_M_constants_5 : decode prog_15_method_5_code 5 = .ok (.bipush 64, 2) := fx_dat dk_M_constants 5 rfl
theorem d_M_constants_7 : decode prog_15_method_5_code 7 = .ok (.if_icmp .ge 44, 3) := fx_dat dk_M_constants 6 rfl
theorem d_M_constants_10 : decode prog_15_method_5_code 10 = .ok (.iload_n 1, 1) := fx_dat dk_M_constants 7 rfl
theorem d_M_constants_11 : decode prog_15_method_5_code 11 = .ok (.invokestatic 86, 3) := fx_dat dk_M_constants 8 rfl
theorem d_M_constants_14 : decode prog_15_method_5_code 14 = .ok (.istore_n 1, 1) := fx_dat dk_M_constants 9 rfl
theorem d_M_constants_15 : decode prog_15_method_5_code 15 = .ok (.aload_n 0, 1) := fx_dat dk_M_constants 10 rfl
theorem d_M_constants_16 : decode prog_15_method_5_code 16 = .ok (.getfield 58, 3) := fx_dat dk_M_constants 11 rfl
theorem d_M_constants_19 : decode prog_15_method_5_code 19 = .ok (.iload_n 2, 1) := fx_dat dk_M_constants 12 rfl
theorem d_M_constants_20 : decode prog_15_method_5_code 20 = .ok (.aload_n 0, 1) := fx_dat dk_M_constants 13 rfl
theorem d_M_constants_21 : decode prog_15_method_5_code 21 = .ok (.iload_n 1, 1) := fx_dat dk_M_constants 14 rfl
theorem d_M_constants_22 : decode prog_15_method_5_code 22 = .ok (.iconst 3, 1) := fx_dat dk_M_constants 15 rfl
theorem d_M_constants_23 : decode prog_15_method_5_code 23 = .ok (.invokevirtual 90, 3) := fx_dat dk_M_constants 16 rfl
theorem d_M_constants_26 : decode prog_15_method_5_code 26 = .ok (.lastore, 1) := fx_dat dk_M_constants 17 rfl
theorem d_M_constants_27 : decode prog_15_method_5_code 27 = .ok (.iload_n 2, 1) := fx_dat dk_M_constants 18 rfl
theorem d_M_constants_28 : decode prog_15_method_5_code 28 = .ok (.bipush 8, 2) := fx_dat dk_M_constants 19 rfl
theorem d_M_constants_30 : decode prog_15_method_5_code 30 = .ok (.if_icmp .ge 15, 3) := fx_dat dk_M_constants 20 rfl
theorem d_M_constants_33 : decode prog_15_method_5_code 33 = .ok (.aload_n 0, 1) := fx_dat dk_M_constants 21 rfl
theorem d_M_constants_34 : decode prog_15_method_5_code 34 = .ok (.getfield 62, 3) := fx_dat dk_M_constants 22 rfl
theorem d_M_constants_37 : decode prog_15_method_5_code 37 = .ok (.iload_n 2, 1) := fx_dat dk_M_constants 23 rfl
theorem d_M_constants_38 : decode prog_15_method_5_code 38 = .ok (.aload_n 0, 1) := fx_dat dk_M_constants 24 rfl
theorem d_M_constants_39 : decode prog_15_method_5_code 39 = .ok (.iload_n 1, 1) := fx_dat dk_M_constants 25 rfl
theorem d_M_constants_40 : decode prog_15_method_5_code 40 = .ok (.iconst 2, 1) := fx_dat dk_M_constants 26 rfl
theorem d_M_constants_41 : decode prog_15_method_5_code 41 = .ok (.invokevirtual 90, 3) := fx_dat dk_M_constants 27 rfl
theorem d_M_constants_44 : decode prog_15_method_5_code 44 = .ok (.lastore, 1) := fx_dat dk_M_constants 28 rfl
theorem d_M_constants_45 : decode prog_15_method_5_code 45 = .ok (.iinc 2 1, 3) := fx_dat dk_M_constants 29 rfl
theorem d_M_constants_48 : decode prog_15_method_5_code 48 = .ok (.goto (-44), 3) := fx_dat dk_M_constants 30 rfl
theorem d_M_constants_51 : decode prog_15_method_5_code 51 = .ok (.return_, 1) := fx_dat dk_M_constants 31 rfl
def m_M_constants_45 (Q : AH → Prop) (X4 : Int32 × Int32 × AH → Prop) (r0 : Nat) (x1 : Int32) (x2 : Int32) (h : AH) : Prop := ∀ v1 : Int32, v1 = (x2 + (1 : Int32)) → X4 (x1, v1, h)
def m_M_constants_4_b (Q : AH → Prop) (X4 : Int32 × Int32 × AH → Prop) (r0 : Nat) (x1 : Int32) (x2 : Int32) (h : AH) : Prop := ((64 : Int32) ≤ x2 → Q h) ∧ (¬ (64 : Int32) ≤ x2 → m_M_prime (fun v1 h1 => fx_ext h h1 → hp_k h1 r0 = 13 ∧ ∃ b1, hp_R h1 r0 50 = some b1 ∧ m_M_root (fun u1 h2 => fx_ext h1 h2 → hp_k h2 b1 = 103 ∧ vp_in x2 (hp_n h2 b1) ∧ ∀ h3 : AH, h3 = up_L h2 b1 (x2).toNatClampNeg u1 → ((8 : Int32) ≤ x2 → m_M_constants_45 Q X4 r0 v1 x2 h3) ∧ (¬ (8 : Int32) ≤ x2 → ∃ b2, hp_R h3 r0 51 = some b2 ∧ m_M_root (fun u2 h4 => fx_ext h3 h4 → hp_k h4 b2 = 103 ∧ vp_in x2 (hp_n h4 b2) ∧ ∀ h5 : AH, h5 = up_L h4 b2 (x2).toNatClampNeg u2 → m_M_constants_45 Q X4 r0 v1 x2 h5) r0 v1 (2 : Int32) h3)) r0 v1 (3 : Int32) h1) x1 h)
def m_M_constants_4 (Q : AH → Prop) (r0 : Nat) (x1 : Int32) (x2 : Int32) (h : AH) : Prop := fx_loop (fun (X4 : Int32 × Int32 × AH → Prop) (st : Int32 × Int32 × AH) => m_M_constants_4_b Q X4 r0 st.1 st.2.1 st.2.2) (x1, x2, h)
def m_M_constants (Q : AH → Prop) (r0 : Nat) (h : AH) : Prop := m_M_constants_4 Q r0 (1 : Int32) (0 : Int32) h
theorem b_M_constants_45 {p : Program} {l : Launch} {e : Env} {R : Room} {s : State} {m : MethodId} {args : Array Value} {below : List Frame} {meth : Method} {c : Code} {D : DD} {h0 : AH} {Q : AH → Prop} {X4 : Int32 × Int32 × AH → Prop} (C : fx_CX D y_M_constants prog_15_method_5_code 3 3 70 (none) [] h0 p R s m meth c) (hl : l.flags = flags0) (r0 : Nat) (x1 : Int32) (x2 : Int32) (h : AH) (hX4 : ∀ st, X4 st → ∀ (ls : Array Slot) (H : Heap) (locs : List Loc) (cells slots : Nat), lv_has ls 3 [(0, .ref r0), (1, .int st.1), (2, .int st.2.1)] → fx_F D h0 st.2.2 H locs cells slots → W p l e R s m args below meth c H locs cells slots (fx_Z D below s h0 (fx_oV Q fx_no)) (F0 m 4 ls [])) (hw : m_M_constants_45 Q X4 r0 x1 x2 h) : ∀ (ls : Array Slot) (H : Heap) (locs : List Loc) (cells slots : Nat), lv_has ls 3 [(0, .ref r0), (1, .int x1), (2, .int x2)] → fx_F D h0 h H locs cells slots → W p l e R s m args below meth c H locs cells slots (fx_Z D below s h0 (fx_oV Q fx_no)) (F0 m 45 ls []) := by
  unfold m_M_constants_45 at hw
  intro ls H locs cells slots hv F
  let v1 : Int32 := (x2 + (1 : Int32))
  replace hw := hw v1 rfl
  refine lv_iinc (v := v1) (k := 2) (lv' := [(2, .int v1), (0, .ref r0), (1, .int x1)]) C.ex C.by d_M_constants_45 hv rfl (congrArg (fun z => x2 + z) (by decide)) (by decide) rfl (fun ls hv => ?_)
  refine lv_goto C.ex C.by d_M_constants_48 rfl ?_
  exact hX4 _ hw _ _ _ _ _ (lv_sub hv [1, 2, 0] rfl) F
theorem b_M_constants_4 {p : Program} {l : Launch} {e : Env} {R : Room} {s : State} {m : MethodId} {args : Array Value} {below : List Frame} {meth : Method} {c : Code} {D : DD} {h0 : AH} {Q : AH → Prop} (C : fx_CX D y_M_constants prog_15_method_5_code 3 3 70 (none) [] h0 p R s m meth c) (hl : l.flags = flags0) (r0 : Nat) (x1 : Int32) (x2 : Int32) (h : AH) (hw : m_M_constants_4 Q r0 x1 x2 h) : ∀ (ls : Array Slot) (H : Heap) (locs : List Loc) (cells slots : Nat), lv_has ls 3 [(0, .ref r0), (1, .int x1), (2, .int x2)] → fx_F D h0 h H locs cells slots → W p l e R s m args below meth c H locs cells slots (fx_Z D below s h0 (fx_oV Q fx_no)) (F0 m 4 ls []) := by
  refine fx_loop.use hw (fun st => ∀ (ls : Array Slot) (H : Heap) (locs : List Loc) (cells slots : Nat), lv_has ls 3 [(0, .ref r0), (1, .int st.1), (2, .int st.2.1)] → fx_F D h0 st.2.2 H locs cells slots → W p l e R s m args below meth c H locs cells slots (fx_Z D below s h0 (fx_oV Q fx_no)) (F0 m 4 ls [])) (fun X4 st hX4 hw => ?_)
  obtain ⟨x1, x2, h⟩ := st
  replace hw : m_M_constants_4_b Q X4 r0 x1 x2 h := hw
  unfold m_M_constants_4_b at hw
  intro ls H locs cells slots hv F
  refine lv_iload_n C.ex C.by d_M_constants_4 rfl (lv_at hv 2 rfl) ?_
  refine lv_bipush (v := (64 : Int32)) C.ex C.by d_M_constants_5 (by decide) ?_
  refine lv_icmp_ge C.ex C.by d_M_constants_7 rfl (fun hc => ?_) (fun hc => ?_)
  · replace hw := hw.1 hc
    exact fx_vret C F d_M_constants_51 (Or.inl ⟨rfl, hw⟩)
  · replace hw := hw.2 hc
    refine lv_iload_n C.ex C.by d_M_constants_10 rfl (lv_at hv 1 rfl) ?_
    refine fx_callI C F (c_M_prime hl hw) hm_M_prime hi_M_prime hv.1 (by decide) (Nat.le_of_ble_eq_true rfl) (iv_M_prime C F lm_M_86 d_M_constants_11) (fx_out0 _) fx_eno (fun v1 h1 H locs cells slots hw hx1 F => ?_)
    replace hw := hw hx1
    refine lv_istore_n (lv' := [(1, .int v1), (0, .ref r0), (2, .int x2)]) C.ex C.by d_M_constants_14 rfl hv (by decide) rfl (fun ls hv => ?_)
    refine lv_aload_n C.ex C.by d_M_constants_15 rfl (lv_at hv 1 rfl) ?_
    obtain ⟨hk1, hw⟩ := hw
    obtain ⟨b1, hb1, hw⟩ := hw
    refine fx_getR C F lf_M_58 hk1 rfl hb1 d_M_constants_16 ?_
    refine lv_iload_n C.ex C.by d_M_constants_19 rfl (lv_at hv 2 rfl) ?_
    refine lv_aload_n C.ex C.by d_M_constants_20 rfl (lv_at hv 1 rfl) ?_
    refine lv_iload_n C.ex C.by d_M_constants_21 rfl (lv_at hv 0 rfl) ?_
    refine lv_iconst (v := (3 : Int32)) C.ex C.by d_M_constants_22 (by decide) ?_
    refine fx_callL C F (c_M_root hl hw) hm_M_root hi_M_root hv.1 (by decide) (Nat.le_of_ble_eq_true rfl) (iv_M_root C F lm_M_90 hk1 d_M_constants_23) (fx_out0 _) fx_eno (fun u1 h2 H locs cells slots hw hx2 F => ?_)
    replace hw := hw hx2
    have hk1 := (hx2).k hk1
    obtain ⟨hk2, hw⟩ := hw
    obtain ⟨hi1, hw⟩ := hw
    let h3 : AH := up_L h2 b1 (x2).toNatClampNeg u1
    replace hw := hw h3 rfl
    refine fx_last C F hk2 hi1 d_M_constants_26 (fun H locs (F : fx_F D h0 h3 H locs _ _) => ?_)
    refine lv_iload_n C.ex C.by d_M_constants_27 rfl (lv_at hv 2 rfl) ?_
    refine lv_bipush (v := (8 : Int32)) C.ex C.by d_M_constants_28 (by decide) ?_
    refine lv_icmp_ge C.ex C.by d_M_constants_30 rfl (fun hc => ?_) (fun hc => ?_)
    · replace hw := hw.1 hc
      exact b_M_constants_45 C hl _ _ _ _ hX4 hw _ _ _ _ _ (lv_sub hv [1, 0, 2] rfl) F
    · replace hw := hw.2 hc
      refine lv_aload_n C.ex C.by d_M_constants_33 rfl (lv_at hv 1 rfl) ?_
      obtain ⟨b2, hb2, hw⟩ := hw
      refine fx_getR C F lf_M_62 hk1 rfl hb2 d_M_constants_34 ?_
      refine lv_iload_n C.ex C.by d_M_constants_37 rfl (lv_at hv 2 rfl) ?_
      refine lv_aload_n C.ex C.by d_M_constants_38 rfl (lv_at hv 1 rfl) ?_
      refine lv_iload_n C.ex C.by d_M_constants_39 rfl (lv_at hv 0 rfl) ?_
      refine lv_iconst (v := (2 : Int32)) C.ex C.by d_M_constants_40 (by decide) ?_
      refine fx_callL C F (c_M_root hl hw) hm_M_root hi_M_root hv.1 (by decide) (Nat.le_of_ble_eq_true rfl) (iv_M_root C F lm_M_90 hk1 d_M_constants_41) (fx_out0 _) fx_eno (fun u2 h4 H locs cells slots hw hx3 F => ?_)
      replace hw := hw hx3
      have hk2 := (hx3).k hk2
      have hk1 := (hx3).k hk1
      obtain ⟨hk3, hw⟩ := hw
      obtain ⟨hi2, hw⟩ := hw
      let h5 : AH := up_L h4 b2 (x2).toNatClampNeg u2
      replace hw := hw h5 rfl
      refine fx_last C F hk3 hi2 d_M_constants_44 (fun H locs (F : fx_F D h0 h5 H locs _ _) => ?_)
      exact b_M_constants_45 C hl _ _ _ _ hX4 hw _ _ _ _ _ (lv_sub hv [1, 0, 2] rfl) F
theorem b_M_constants_0 {p : Program} {l : Launch} {e : Env} {R : Room} {s : State} {m : MethodId} {args : Array Value} {below : List Frame} {meth : Method} {c : Code} {D : DD} {h0 : AH} {Q : AH → Prop} (C : fx_CX D y_M_constants prog_15_method_5_code 3 3 70 (none) [] h0 p R s m meth c) (hl : l.flags = flags0) (r0 : Nat) (h : AH) (hw : m_M_constants Q r0 h) : ∀ (ls : Array Slot) (H : Heap) (locs : List Loc) (cells slots : Nat), lv_has ls 3 [(0, .ref r0)] → fx_F D h0 h H locs cells slots → W p l e R s m args below meth c H locs cells slots (fx_Z D below s h0 (fx_oV Q fx_no)) (F0 m 0 ls []) := by
  unfold m_M_constants at hw
  intro ls H locs cells slots hv F
  refine lv_iconst (v := (1 : Int32)) C.ex C.by d_M_constants_0 (by decide) ?_
  refine lv_istore_n (lv' := [(1, .int (1 : Int32)), (0, .ref r0)]) C.ex C.by d_M_constants_1 rfl hv (by decide) rfl (fun ls hv => ?_)
  refine lv_iconst (v := (0 : Int32)) C.ex C.by d_M_constants_2 (by decide) ?_
  refine lv_istore_n (lv' := [(2, .int (0 : Int32)), (1, .int (1 : Int32)), (0, .ref r0)]) C.ex C.by d_M_constants_3 rfl hv (by decide) rfl (fun ls hv => ?_)
  exact b_M_constants_4 C hl _ _ _ _ hw _ _ _ _ _ (lv_sub hv [2, 1, 0] rfl) F
theorem hm_M_constants : fx_hd y_M_constants prog_15_method_5_code 3 (none) [] ∈ tables_1 := (fx_m5 (List.mem_of_getElem? (i := 229) rfl))
theorem hi_M_constants : Cond.initialized y_M_constants.cls ∈ tables_1 := (fx_m1 (List.mem_of_getElem? (i := 15) rfl))
theorem c_M_constants {l : Launch} (hl : l.flags = flags0) {D : DD} {Q : AH → Prop} {r0 : Nat} {h : AH} (hw : m_M_constants Q r0 h) : fx_Mt l D y_M_constants (fx_hd y_M_constants prog_15_method_5_code 3 (none) []) 3 70 [.ref r0] h (fx_oV Q fx_no) := by
  refine fx_ofW (plainFor_of_name (by decide)) (fun p e s m below meth c C F => ?_)
  have hv := lv_entry ([.ref r0]) (n := 3) (Nat.le_of_ble_eq_true rfl)
  rw [lg_entry_eq]
  generalize (lg_sl ([.ref r0]) ++ List.replicate (3 - (lg_sl ([.ref r0])).length) Slot.unset).toArray = ls at hv ⊢
  have hv : lv_has ls 3 [(0, .ref r0)] := hv
  exact b_M_constants_0 C hl _ _ hw _ _ _ _ _ hv F
/-! ChainJudgeModel.<init>()V: frames 4, words 84 -/
abbrev y_M_init : MethodName := ⟨"ChainJudgeModel", "<init>", "()V"⟩
theorem lf_M_8 : fx_Lk "ChainJudgeModel" 8 12 1 := fx_Lk.mk (C := "ChainJudgeModel") (T := fx_T12) (N := 57) rfl (by decide) (by decide) (fx_m6 (List.mem_of_getElem? (i := 7) rfl))
theorem lf_M_14 : fx_Lk "ChainJudgeModel" 14 12 2 := fx_Lk.mk (C := "ChainJudgeModel") (T := fx_T12) (N := 57) rfl (by decide) (by decide) (fx_m6 (List.mem_of_getElem? (i := 8) rfl))
theorem lf_M_17 : fx_Lk "ChainJudgeModel" 17 12 3 := fx_Lk.mk (C := "ChainJudgeModel") (T := fx_T12) (N := 57) rfl (by decide) (by decide) (fx_m6 (List.mem_of_getElem? (i := 9) rfl))
theorem lf_M_21 : fx_Lk "ChainJudgeModel" 21 12 7 := fx_Lk.mk (C := "ChainJudgeModel") (T := fx_T12) (N := 57) rfl (by decide) (by decide) (fx_m6 (List.mem_of_getElem? (i := 13) rfl))
theorem lf_M_24 : fx_Lk "ChainJudgeModel" 24 12 8 := fx_Lk.mk (C := "ChainJudgeModel") (T := fx_T12) (N := 57) rfl (by decide) (by decide) (fx_m6 (List.mem_of_getElem? (i := 14) rfl))
theorem lf_M_28 : fx_Lk "ChainJudgeModel" 28 12 9 := fx_Lk.mk (C := "ChainJudgeModel") (T := fx_T12) (N := 57) rfl (by decide) (by decide) (fx_m6 (List.mem_of_getElem? (i := 15) rfl))
theorem lf_M_31 : fx_Lk "ChainJudgeModel" 31 12 11 := fx_Lk.mk (C := "ChainJudgeModel") (T := fx_T12) (N := 57) rfl (by decide) (by decide) (fx_m6 (List.mem_of_getElem? (i := 17) rfl))
theorem lf_M_34 : fx_Lk "ChainJudgeModel" 34 12 12 := fx_Lk.mk (C := "ChainJudgeModel") (T := fx_T12) (N := 57) rfl (by decide) (by decide) (fx_m6 (List.mem_of_getElem? (i := 18) rfl))
theorem lf_M_37 : fx_Lk "ChainJudgeModel" 37 12 13 := fx_Lk.mk (C := "ChainJudgeModel") (T := fx_T12) (N := 57) rfl (by decide) (by decide) (fx_m6 (List.mem_of_getElem? (i := 19) rfl))
theorem lf_M_40 : fx_Lk "ChainJudgeModel" 40 12 17 := fx_Lk.mk (C := "ChainJudgeModel") (T := fx_T12) (N := 57) rfl (by decide) (by decide) (fx_m6 (List.mem_of_getElem? (i := 23) rfl))
theorem lf_M_44 : fx_Lk "ChainJudgeModel" 44 12 44 := fx_Lk.mk (C := "ChainJudgeModel") (T := fx_T12) (N := 57) rfl (by decide) (by decide) (fx_m6 (List.mem_of_getElem? (i := 50) rfl))
theorem lf_M_48 : fx_Lk "ChainJudgeModel" 48 12 46 := fx_Lk.mk (C := "ChainJudgeModel") (T := fx_T12) (N := 57) rfl (by decide) (by decide) (fx_m6 (List.mem_of_getElem? (i := 52) rfl))
theorem lf_M_52 : fx_Lk "ChainJudgeModel" 52 12 48 := fx_Lk.mk (C := "ChainJudgeModel") (T := fx_T12) (N := 57) rfl (by decide) (by decide) (fx_m6 (List.mem_of_getElem? (i := 54) rfl))
theorem lf_M_55 : fx_Lk "ChainJudgeModel" 55 12 49 := fx_Lk.mk (C := "ChainJudgeModel") (T := fx_T12) (N := 57) rfl (by decide) (by decide) (fx_m6 (List.mem_of_getElem? (i := 55) rfl))
theorem lf_M_65 : fx_Lk "ChainJudgeModel" 65 12 52 := fx_Lk.mk (C := "ChainJudgeModel") (T := fx_T12) (N := 57) rfl (by decide) (by decide) (fx_m6 (List.mem_of_getElem? (i := 58) rfl))
theorem lf_M_68 : fx_Lk "ChainJudgeModel" 68 12 53 := fx_Lk.mk (C := "ChainJudgeModel") (T := fx_T12) (N := 57) rfl (by decide) (by decide) (fx_m6 (List.mem_of_getElem? (i := 59) rfl))
theorem lf_M_77 : fx_Lk "ChainJudgeModel" 77 12 56 := fx_Lk.mk (C := "ChainJudgeModel") (T := fx_T12) (N := 57) rfl (by decide) (by decide) (fx_m6 (List.mem_of_getElem? (i := 62) rfl))
theorem lm_M_80 : Cond.methodLink "ChainJudgeModel" 80 y_M_constants ∈ tables_1 ∨ ∃ host, Cond.methodLinkNest "ChainJudgeModel" 80 y_M_constants host ∈ tables_1 := Or.inl (fx_m5 (List.mem_of_getElem? (i := 226) rfl))
section
variable {p : Program} {l : Launch} {e : Env} {R : Room} {s : State} {m : MethodId} {args : Array Value} {below : List Frame} {meth : Method} {c : Code} {H : Heap} {locs : List Loc} {cells slots : Nat}
variable {D : DD} {y : MethodName} {cc : ByteArray} {nL kf kw : Nat} {ret : Option FieldType} {hh : List (Nat × Nat × Nat × Nat)} {h0 h : AH} {pc : Nat} {ls : Array Slot} {rest : List Value} {b idx : Nat}
theorem iv_M_constants (C : fx_CX D y cc nL kf kw ret hh h0 p R s m meth c) (F : fx_F D h0 h H locs cells slots) (hw1 : Cond.methodLink y.cls idx y_M_constants ∈ tables_1 ∨ ∃ host, Cond.methodLinkNest y.cls idx y_M_constants host ∈ tables_1) (hk : hp_k h b = 13) (hd : decode cc pc = .ok (.invokevirtual idx, 3)) : fx_IV p l e R s m args below meth c H locs cells slots (F0 m pc ls (.ref b :: rest)) rest y_M_constants [.ref b] 3 := fun T hT X => fx_invV (As := []) (Cn := "ChainJudgeModel") C X hw1 (fx_m5 (List.mem_of_getElem? (i := 228) rfl)) (fx_selP C ⟨by decide, by decide⟩ (fx_m5 (List.mem_of_getElem? (i := 217) rfl)) (fx_m5 (List.mem_of_getElem? (i := 227) rfl)) (fx_m5 (List.mem_of_getElem? (i := 228) rfl))) hm_M_constants ⟨by decide, by decide⟩ (by rw [hT]; exact fx_clsO (ci := 12) (r := ("ChainJudgeModel", fx_T12, 57)) C F rfl (by decide) hk) rfl (n := 0) (by decide +kernel) rfl rfl hd
end
def dl_M_init : List (Nat × Instr × Nat) := [(0, .aload_n 0, 1), (1, .invokespecial 1, 3), (4, .aload_n 0, 1), (5, .ldc 7, 2), (7, .newarray .byte, 2), (9, .putfield 8, 3), (12, .aload_n 0, 1), (13, .sipush 3200, 3), (16, .newarray .byte, 2), (18, .putfield 14, 3), (21, .aload_n 0, 1), (22, .sipush 256, 3), (25, .newarray .byte, 2), (27, .putfield 17, 3), (30, .aload_n 0, 1), (31, .ldc 20, 2), (33, .newarray .byte, 2), (35, .putfield 21, 3), (38, .aload_n 0, 1), (39, .sipush 1001, 3), (42, .newarray .int, 2), (44, .putfield 24, 3), (47, .aload_n 0, 1), (48, .sipush 1000, 3), (51, .newarray .int, 2), (53, .putfield 28, 3), (56, .aload_n 0, 1), (57, .bipush 16, 2), (59, .newarray .int, 2), (61, .putfield 31, 3), (64, .aload_n 0, 1), (65, .bipush 16, 2), (67, .newarray .int, 2), (69, .putfield 34, 3), (72, .aload_n 0, 1), (73, .bipush 8, 2), (75, .newarray .int, 2), (77, .putfield 37, 3), (80, .aload_n 0, 1), (81, .iconst (-1), 1), (82, .putfield 40, 3), (85, .aload_n 0, 1), (86, .sipush 10000, 3), (89, .newarray .int, 2), (91, .putfield 44, 3), (94, .aload_n 0, 1), (95, .ldc 47, 2), (97, .newarray .byte, 2), (99, .putfield 48, 3), (102, .aload_n 0, 1), (103, .ldc 51, 2), (105, .newarray .byte, 2), (107, .putfield 52, 3), (110, .aload_n 0, 1), (111, .bipush 32, 2), (113, .newarray .byte, 2), (115, .putfield 55, 3), (118, .aload_n 0, 1), (119, .bipush 80, 2), (121, .newarray .long, 2), (123, .putfield 58, 3), (126, .aload_n 0, 1), (127, .bipush 8, 2), (129, .newarray .long, 2), (131, .putfield 62, 3), (134, .aload_n 0, 1), (135, .bipush 64, 2), (137, .newarray .int, 2), (139, .putfield 65, 3), (142, .aload_n 0, 1), (143, .bipush 8, 2), (145, .newarray .int, 2), (147, .putfield 68, 3), (150, .aload_n 0, 1), (151, .bipush 8, 2), (153, .newarray .long, 2), (155, .putfield 71, 3), (158, .aload_n 0, 1), (159, .bipush 8, 2), (161, .newarray .long, 2), (163, .putfield 74, 3), (166, .aload_n 0, 1), (167, .bipush 32, 2), (169, .newarray .byte, 2), (171, .putfield 77, 3), (174, .aload_n 0, 1), (175, .invokevirtual 80, 3), (178, .return_, 1)]
theorem dk_M_init : fx_dec prog_15_method_1_code dl_M_init = true := by decide +kernel
theorem d_M_init_0 : decode prog_15_method_1_code 0 = .ok (.aload_n 0, 1) := fx_dat dk_M_init 0 rfl
theorem d_M_init_1 : decode prog_15_method_1_code 1 = .ok (.invokespecial 1, 3) := fx_dat dk_M_init 1 rfl
theorem d_M_init_4 : decode prog_15_method_1_code 4 = .ok (.aload_n 0, 1) := fx_dat dk_M_init 2 rfl
theorem d_M_init_5 : decode prog_15_method_1_code 5 = .ok (.ldc 7, 2) := fx_dat dk_M_init 3 rfl
theorem d_M_init_7 : decode prog_15_method_1_code 7 = .ok (.newarray .byte, 2) := fx_dat dk_M_init 4 rfl
theorem d_M_init_9 : decode prog_15_method_1_code 9 = .ok (.putfield 8, 3) := fx_dat dk_M_init 5 rfl
theorem d_M_init_12 : decode prog_15_method_1_code 12 = .ok (.aload_n 0, 1) := fx_dat dk_M_init 6 rfl
theorem d_M_init_13 : decode prog_15_method_1_code 13 = .ok (.sipush 3200, 3) := fx_dat dk_M_init 7 rfl
theorem d_M_init_16 : decode prog_15_method_1_code 16 = .ok (.newarray .byte, 2) := fx_dat dk_M_init 8 rfl
theorem d_M_init_18 : decode prog_15_method_1_code 18 = .ok (.putfield 14, 3) := fx_dat dk_M_init 9 rfl
theorem d_M_init_21 : decode prog_15_method_1_code 21 = .ok (.aload_n 0, 1) := fx_dat dk_M_init 10 rfl
theorem d_M_init_22 : decode prog_15_method_1_code 22 = .ok (.sipush 256, 3) := fx_dat dk_M_init 11 rfl
theorem d_M_init_25 : decode prog_15_method_1_code 25 = .ok (.newarray .byte, 2) := fx_dat dk_M_init 12 rfl
theorem d_M_init_27 : decode prog_15_method_1_code 27 = .ok (.putfield 17, 3) := fx_dat dk_M_init 13 rfl
theorem d_M_init_30 : decode prog_15_method_1_code 30 = .ok (.aload_n 0, 1) := fx_dat dk_M_init 14 rfl
theorem d_M_init_31 : decode prog_15_method_1_code 31 = .ok (.ldc 20, 2) := fx_dat dk_M_init 15 rfl
theorem d_M_init_33 : decode prog_15_method_1_code 33 = .ok (.newarray .byte, 2) := fx_dat dk_M_init 16 rfl
theorem d_M_init_35 : decode prog_15_method_1_code 35 = .ok (.putfield 21, 3) := fx_dat dk_M_init 17 rfl
theorem d_M_init_38 : decode prog_15_method_1_code 38 = .ok (.aload_n 0, 1) := fx_dat dk_M_init 18 rfl
theorem d_M_init_39 : decode prog_15_method_1_code 39 = .ok (.sipush 1001, 3) := fx_dat dk_M_init 19 rfl
theorem d_M_init_42 : decode prog_15_method_1_code 42 = .ok (.newarray .int, 2) := fx_dat dk_M_init 20 rfl
theorem d_M_init_44 : decode prog_15_method_1_code 44 = .ok (.putfield 24, 3) := fx_dat dk_M_init 21 rfl
theorem d_M_init_47 : decode prog_15_method_1_code 47 = .ok (.aload_n 0, 1) := fx_dat dk_M_init 22 rfl
theorem d_M_init_48 : decode prog_15_method_1_code 48 = .ok (.sipush 1000, 3) := fx_dat dk_M_init 23 rfl
theorem d_M_init_51 : decode prog_15_method_1_code 51 = .ok (.newarray .int, 2) := fx_dat dk_M_init 24 rfl
theorem d_M_init_53 : decode prog_15_method_1_code 53 = .ok (.putfield 28, 3) := fx_dat dk_M_init 25 rfl
theorem d_M_init_56 : decode prog_15_method_1_code 56 = .ok (.aload_n 0, 1) := fx_dat dk_M_init 26 rfl
theorem d_M_init_57 : decode prog_15_method_1_code 57 = .ok (.bipush 16, 2) := fx_dat dk_M_init 27 rfl
theorem d_M_init_59 : decode prog_15_method_1_code 59 = .ok (.newarray .int, 2) := fx_dat dk_M_init 28 rfl
theorem d_M_init_61 : decode prog_15_method_1_code 61 = .ok (.putfield 31, 3) := fx_dat dk_M_init 29 rfl
theorem d_M_init_64 : decode prog_15_method_1_code 64 = .ok (.aload_n 0, 1) := fx_dat dk_M_init 30 rfl
theorem d_M_init_65 : decode prog_15_method_1_code 65 = .ok (.bipush 16, 2) := fx_dat dk_M_init 31 rfl
theorem d_M_init_67 : decode prog_15_method_1_code 67 = .ok (.newarray .int, 2) := fx_dat dk_M_init 32 rfl
theorem d_M_init_69 : decode prog_15_method_1_code 69 = .ok (.putfield 34, 3) := fx_dat dk_M_init 33 rfl
theorem d_M_init_72 : decode prog_15_method_1_code 72 = .ok (.aload_n 0, 1) := fx_dat dk_M_init 34 rfl
theorem d_M_init_73 : decode prog_15_method_1_code 73 = .ok (.bipush 8, 2) := fx_dat dk_M_init 35 rfl
theorem d_M_init_75 : decode prog_15_method_1_code 75 = .ok (.newarray .int, 2) := fx_dat dk_M_init 36 rfl
theorem d_M_init_77 : decode prog_15_method_1_code 77 = .ok (.putfield 37, 3) := fx_dat dk_M_init 37 rfl
theorem d_M_init_80 : decode prog_15_method_1_code 80 = .ok (.aload_n 0, 1) := fx_dat dk_M_init 38 rfl
theorem d_M_init_81 : decode prog_15_method_1_code 81 = .ok (.iconst (-1), 1) := fx_dat dk_M_init 39 rfl
theorem d_M_init_82 : decode prog_15_method_1_code 82 = .ok (.putfield 40, 3) := fx_dat dk_M_init 40 rfl
theorem d_M_init_85 : decode prog_15_method_1_code 85 = .ok (.aload_n 0, 1) := fx_dat dk_M_init 41 rfl
theorem d_M_init_86 : decode prog_15_method_1_code 86 = .ok (.sipush 10000, 3) := fx_dat dk_M_init 42 rfl
theorem d_M_init_89 : decode prog_15_method_1_code 89 = .ok (.newarray .int, 2) := fx_dat dk_M_init 43 rfl
theorem d_M_init_91 : decode prog_15_method_1_code 91 = .ok (.putfield 44, 3) := fx_dat dk_M_init 44 rfl
theorem d_M_init_94 : decode prog_15_method_1_code 94 = .ok (.aload_n 0, 1) := fx_dat dk_M_init 45 rfl
theorem d_M_init_95 : decode prog_15_method_1_code 95 = .ok (.ldc 47, 2) := fx_dat dk_M_init 46 rfl
theorem d_M_init_97 : decode prog_15_method_1_code 97 = .ok (.newarray .byte, 2) := fx_dat dk_M_init 47 rfl
theorem d_M_init_99 : decode prog_15_method_1_code 99 = .ok (.putfield 48, 3) := fx_dat dk_M_init 48 rfl
theorem d_M_init_102 : decode prog_15_method_1_code 102 = .ok (.aload_n 0, 1) := fx_dat dk_M_init 49 rfl
theorem d_M_init_103 : decode prog_15_method_1_code 103 = .ok (.ldc 51, 2) := fx_dat dk_M_init 50 rfl
theorem d_M_init_105 : decode prog_15_method_1_code 105 = .ok (.newarray .byte, 2) := fx_dat dk_M_init 51 rfl
theorem d_M_init_107 : decode prog_15_method_1_code 107 = .ok (.putfield 52, 3) := fx_dat dk_M_init 52 rfl
theorem d_M_init_110 : decode prog_15_method_1_code 110 = .ok (.aload_n 0, 1) := fx_dat dk_M_init 53 rfl
theorem d_M_init_111 : decode prog_15_method_1_code 111 = .ok (.bipush 32, 2) := fx_dat dk_M_init 54 rfl
theorem d_M_init_113 : decode prog_15_method_1_code 113 = .ok (.newarray .byte, 2) := fx_dat dk_M_init 55 rfl
theorem d_M_init_115 : decode prog_15_method_1_code 115 = .ok (.putfield 55, 3) := fx_dat dk_M_init 56 rfl
theorem d_M_init_118 : decode prog_15_method_1_code 118 = .ok (.aload_n 0, 1) := fx_dat dk_M_init 57 rfl
theorem d_M_init_119 : decode prog_15_method_1_code 119 = .ok (.bipush 80, 2) := fx_dat dk_M_init 58 rfl
theorem d_M_init_121 : decode prog_15_method_1_code 121 = .ok (.newarray .long, 2) := fx_dat dk_M_init 59 rfl
theorem d_M_init_123 : decode prog_15_method_1_code 123 = .ok (.putfield 58, 3) := fx_dat dk_M_init 60 rfl
theorem d_M_init_126 : decode prog_15_method_1_code 126 = .ok (.aload_n 0, 1) := fx_dat dk_M_init 61 rfl
theorem d_M_init_127 : decode prog_15_method_1_code 127 = .ok (.bipush 8, 2) := fx_dat dk_M_init 62 rfl
theorem d_M_init_129 : decode prog_15_method_1_code 129 = .ok (.newarray .long, 2) := fx_dat dk_M_init 63 rfl
theorem d_M_init_131 : decode prog_15_method_1_code 131 = .ok (.putfield 62, 3) := fx_dat dk_M_init 64 rfl
theorem d_M_init_134 : decode prog_15_method_1_code 134 = .ok (.aload_n 0, 1) := fx_dat dk_M_init 65 rfl
theorem d_M_init_135 : decode prog_15_method_1_code 135 = .ok (.bipush 64, 2) := fx_dat dk_M_init 66 rfl
theorem d_M_init_137 : decode prog_15_method_1_code 137 = .ok (.newarray .int, 2) := fx_dat dk_M_init 67 rfl
theorem d_M_init_139 : decode prog_15_method_1_code 139 = .ok (.putfield 65, 3) := fx_dat dk_M_init 68 rfl
theorem d_M_init_142 : decode prog_15_method_1_code 142 = .ok (.aload_n 0, 1) := fx_dat dk_M_init 69 rfl
theorem d_M_init_143 : decode prog_15_method_1_code 143 = .ok (.bipush 8, 2) := fx_dat dk_M_init 70 rfl
theorem d_M_init_145 : decode prog_15_method_1_code 145 = .ok (.newarray .int, 2) := fx_dat dk_M_init 71 rfl
theorem d_M_init_147 : decode prog_15_method_1_code 147 = .ok (.putfield 68, 3) := fx_dat dk_M_init 72 rfl
theorem d_M_init_150 : decode prog_15_method_1_code 150 = .ok (.aload_n 0, 1) := fx_dat dk_M_init 73 rfl
theorem d_M_init_151 : decode prog_15_method_1_code 151 = .ok (.bipush 8, 2) := fx_dat dk_M_init 74 rfl
theorem d_M_init_153 : decode prog_15_method_1_code 153 = .ok (.newarray .long, 2) := fx_dat dk_M_init 75 rfl
theorem d_M_init_155 : decode prog_15_method_1_code 155 = .ok (.putfield 71, 3) := fx_dat dk_M_init 76 rfl
theorem d_M_init_158 : decode prog_15_method_1_code 158 = .ok (.aload_n 0, 1) := fx_dat dk_M_init 77 rfl
theorem d_M_init_159 : decode prog_15_method_1_code 159 = .ok (.bipush 8, 2) := fx_dat dk_M_init 78 rfl
theorem d_M_init_161 : decode prog_15_method_1_code 161 = .ok (.newarray .long, 2) := fx_dat dk_M_init 79 rfl
theorem d_M_init_163 : decode prog_15_method_1_code 163 = .ok (.putfield 74, 3) := fx_dat dk_M_init 80 rfl
theorem d_M_init_166 : decode prog_15_method_1_code 166 = .ok (.aload_n 0, 1) := fx_dat dk_M_init 81 rfl
theorem d_M_init_167 : decode prog_15_method_1_code 167 = .ok (.bipush 32, 2) := fx_dat dk_M_init 82 rfl
theorem d_M_init_169 : decode prog_15_method_1_code 169 = .ok (.newarray .byte, 2) := fx_dat dk_M_init 83 rfl
theorem d_M_init_171 : decode prog_15_method_1_code 171 = .ok (.putfield 77, 3) := fx_dat dk_M_init 84 rfl
theorem d_M_init_174 : decode prog_15_method_1_code 174 = .ok (.aload_n 0, 1) := fx_dat dk_M_init 85 rfl
theorem d_M_init_175 : decode prog_15_method_1_code 175 = .ok (.invokevirtual 80, 3) := fx_dat dk_M_init 86 rfl
theorem d_M_init_178 : decode prog_15_method_1_code 178 = .ok (.return_, 1) := fx_dat dk_M_init 87 rfl
def m_M_init_174 (Q : AH → Prop) (r0 : Nat) (h : AH) : Prop := hp_k h r0 = 13 ∧ m_M_constants (fun h1 => fx_ext h h1 → Q h1) r0 h
def m_M_init_142 (Q : AH → Prop) (r0 : Nat) (h : AH) : Prop := fx_has h 8 ∧ ∀ (_ : fx_wf h) (q1 : Nat), q1 = hp_z h → ∀ h1 : AH, h1 = up_N h 102 8 8 → hp_k h1 r0 = 13 ∧ ∀ h2 : AH, h2 = up_R h1 r0 53 (some q1) → fx_has h2 8 ∧ ∀ (_ : fx_wf h2) (q2 : Nat), q2 = hp_z h2 → ∀ h3 : AH, h3 = up_N h2 103 8 8 → ∀ h4 : AH, h4 = up_R h3 r0 54 (some q2) → fx_has h4 8 ∧ ∀ (_ : fx_wf h4) (q3 : Nat), q3 = hp_z h4 → ∀ h5 : AH, h5 = up_N h4 103 8 8 → ∀ h6 : AH, h6 = up_R h5 r0 55 (some q3) → fx_has h6 32 ∧ ∀ (_ : fx_wf h6) (q4 : Nat), q4 = hp_z h6 → ∀ h7 : AH, h7 = up_N h6 101 32 32 → ∀ h8 : AH, h8 = up_R h7 r0 56 (some q4) → m_M_init_174 Q r0 h8
def m_M_init_110 (Q : AH → Prop) (r0 : Nat) (h : AH) : Prop := fx_has h 32 ∧ ∀ (_ : fx_wf h) (q1 : Nat), q1 = hp_z h → ∀ h1 : AH, h1 = up_N h 101 32 32 → hp_k h1 r0 = 13 ∧ ∀ h2 : AH, h2 = up_R h1 r0 49 (some q1) → fx_has h2 80 ∧ ∀ (_ : fx_wf h2) (q2 : Nat), q2 = hp_z h2 → ∀ h3 : AH, h3 = up_N h2 103 80 80 → ∀ h4 : AH, h4 = up_R h3 r0 50 (some q2) → fx_has h4 8 ∧ ∀ (_ : fx_wf h4) (q3 : Nat), q3 = hp_z h4 → ∀ h5 : AH, h5 = up_N h4 103 8 8 → ∀ h6 : AH, h6 = up_R h5 r0 51 (some q3) → fx_has h6 64 ∧ ∀ (_ : fx_wf h6) (q4 : Nat), q4 = hp_z h6 → ∀ h7 : AH, h7 = up_N h6 102 64 64 → ∀ h8 : AH, h8 = up_R h7 r0 52 (some q4) → m_M_init_142 Q r0 h8
def m_M_init_72 (Q : AH → Prop) (r0 : Nat) (h : AH) : Prop := fx_has h 8 ∧ ∀ (_ : fx_wf h) (q1 : Nat), q1 = hp_z h → ∀ h1 : AH, h1 = up_N h 102 8 8 → hp_k h1 r0 = 13 ∧ ∀ h2 : AH, h2 = up_R h1 r0 13 (some q1) → ∀ h3 : AH, h3 = up_I h2 r0 17 (-1 : Int32) → fx_has h3 10000 ∧ ∀ (_ : fx_wf h3) (q2 : Nat), q2 = hp_z h3 → ∀ h4 : AH, h4 = up_N h3 102 10000 10000 → ∀ h5 : AH, h5 = up_R h4 r0 44 (some q2) → fx_has h5 140000 ∧ ∀ (_ : fx_wf h5) (q3 : Nat), q3 = hp_z h5 → ∀ h6 : AH, h6 = up_N h5 101 140000 140000 → ∀ h7 : AH, h7 = up_R h6 r0 46 (some q3) → fx_has h7 262300 ∧ ∀ (_ : fx_wf h7) (q4 : Nat), q4 = hp_z h7 → ∀ h8 : AH, h8 = up_N h7 101 262300 262300 → ∀ h9 : AH, h9 = up_R h8 r0 48 (some q4) → m_M_init_110 Q r0 h9
def m_M_init_38 (Q : AH → Prop) (r0 : Nat) (h : AH) : Prop := fx_has h 1001 ∧ ∀ (_ : fx_wf h) (q1 : Nat), q1 = hp_z h → ∀ h1 : AH, h1 = up_N h 102 1001 1001 → hp_k h1 r0 = 13 ∧ ∀ h2 : AH, h2 = up_R h1 r0 8 (some q1) → fx_has h2 1000 ∧ ∀ (_ : fx_wf h2) (q2 : Nat), q2 = hp_z h2 → ∀ h3 : AH, h3 = up_N h2 102 1000 1000 → ∀ h4 : AH, h4 = up_R h3 r0 9 (some q2) → fx_has h4 16 ∧ ∀ (_ : fx_wf h4) (q3 : Nat), q3 = hp_z h4 → ∀ h5 : AH, h5 = up_N h4 102 16 16 → ∀ h6 : AH, h6 = up_R h5 r0 11 (some q3) → fx_has h6 16 ∧ ∀ (_ : fx_wf h6) (q4 : Nat), q4 = hp_z h6 → ∀ h7 : AH, h7 = up_N h6 102 16 16 → ∀ h8 : AH, h8 = up_R h7 r0 12 (some q4) → m_M_init_72 Q r0 h8
def m_M_init (Q : AH → Prop) (r0 : Nat) (h : AH) : Prop := fx_has h 65536 ∧ ∀ (_ : fx_wf h) (q1 : Nat), q1 = hp_z h → ∀ h1 : AH, h1 = up_N h 101 65536 65536 → hp_k h1 r0 = 13 ∧ ∀ h2 : AH, h2 = up_R h1 r0 1 (some q1) → fx_has h2 3200 ∧ ∀ (_ : fx_wf h2) (q2 : Nat), q2 = hp_z h2 → ∀ h3 : AH, h3 = up_N h2 101 3200 3200 → ∀ h4 : AH, h4 = up_R h3 r0 2 (some q2) → fx_has h4 256 ∧ ∀ (_ : fx_wf h4) (q3 : Nat), q3 = hp_z h4 → ∀ h5 : AH, h5 = up_N h4 101 256 256 → ∀ h6 : AH, h6 = up_R h5 r0 3 (some q3) → fx_has h6 262144 ∧ ∀ (_ : fx_wf h6) (q4 : Nat), q4 = hp_z h6 → ∀ h7 : AH, h7 = up_N h6 101 262144 262144 → ∀ h8 : AH, h8 = up_R h7 r0 7 (some q4) → m_M_init_38 Q r0 h8
theorem b_M_init_174 {p : Program} {l : Launch} {e : Env} {R : Room} {s : State} {m : MethodId} {args : Array Value} {below : List Frame} {meth : Method} {c : Code} {D : DD} {h0 : AH} {Q : AH → Prop} (C : fx_CX D y_M_init prog_15_method_1_code 1 4 84 (none) [] h0 p R s m meth c) (hl : l.flags = flags0) (r0 : Nat) (h : AH) (hw : m_M_init_174 Q r0 h) : ∀ (ls : Array Slot) (H : Heap) (locs : List Loc) (cells slots : Nat), lv_has ls 1 [(0, .ref r0)] → fx_F D h0 h H locs cells slots → W p l e R s m args below meth c H locs cells slots (fx_Z D below s h0 (fx_oV Q fx_no)) (F0 m 174 ls []) := by
  unfold m_M_init_174 at hw
  intro ls H locs cells slots hv F
  refine lv_aload_n C.ex C.by d_M_init_174 rfl (lv_at hv 0 rfl) ?_
  obtain ⟨hk1, hw⟩ := hw
  refine fx_callV C F (c_M_constants hl hw) hm_M_constants hi_M_constants hv.1 (by decide) (Nat.le_of_ble_eq_true rfl) (iv_M_constants C F lm_M_80 hk1 d_M_init_175) (fx_out0 _) fx_eno (fun h1 H locs cells slots hw hx1 F => ?_)
  replace hw := hw hx1
  have hk1 := (hx1).k hk1
  exact fx_vret C F d_M_init_178 (Or.inl ⟨rfl, hw⟩)
theorem b_M_init_142 {p : Program} {l : Launch} {e : Env} {R : Room} {s : State} {m : MethodId} {args : Array Value} {below : List Frame} {meth : Method} {c : Code} {D : DD} {h0 : AH} {Q : AH → Prop} (C : fx_CX D y_M_init prog_15_method_1_code 1 4 84 (none) [] h0 p R s m meth c) (hl : l.flags = flags0) (r0 : Nat) (h : AH) (hw : m_M_init_142 Q r0 h) : ∀ (ls : Array Slot) (H : Heap) (locs : List Loc) (cells slots : Nat), lv_has ls 1 [(0, .ref r0)] → fx_F D h0 h H locs cells slots → W p l e R s m args below meth c H locs cells slots (fx_Z D below s h0 (fx_oV Q fx_no)) (F0 m 142 ls []) := by
  unfold m_M_init_142 at hw
  intro ls H locs cells slots hv F
  refine lv_aload_n C.ex C.by d_M_init_142 rfl (lv_at hv 0 rfl) ?_
  refine lv_bipush (v := (8 : Int32)) C.ex C.by d_M_init_143 (by decide) ?_
  obtain ⟨hs, hw⟩ := hw
  let q1 : Nat := hp_z h
  let h1 : AH := up_N h 102 8 8
  replace hw := hw F.wf q1 rfl h1 rfl
  have hkq1 : hp_k h1 q1 = 102 := fx_nk _ _ _ _
  refine fx_newaI (n := (8 : Int32)) C F (fx_m1 (List.mem_of_getElem? (i := 128) rfl)) (by decide) (by decide) hs d_M_init_145 (fun H cells slots (F : fx_F D h0 h1 H locs cells slots) => ?_)
  obtain ⟨hk1, hw⟩ := hw
  let h2 : AH := up_R h1 r0 53 (some q1)
  replace hw := hw h2 rfl
  refine fx_putR C F lf_M_68 hk1 rfl rfl (fx_mayF.ini rfl rfl rfl) d_M_init_147 (fun H locs (F : fx_F D h0 h2 H locs _ _) => ?_)
  refine lv_aload_n C.ex C.by d_M_init_150 rfl (lv_at hv 0 rfl) ?_
  refine lv_bipush (v := (8 : Int32)) C.ex C.by d_M_init_151 (by decide) ?_
  obtain ⟨hs, hw⟩ := hw
  let q2 : Nat := hp_z h2
  let h3 : AH := up_N h2 103 8 8
  replace hw := hw F.wf q2 rfl h3 rfl
  have hkq1 := (F.xN (k := 103) (n := 8) (m := 8)).k hkq1
  have hk1 := (F.xN (k := 103) (n := 8) (m := 8)).k hk1
  have hkq2 : hp_k h3 q2 = 103 := fx_nk _ _ _ _
  refine fx_newaL (n := (8 : Int32)) C F (fx_m6 (List.mem_of_getElem? (i := 178) rfl)) (by decide) (by decide) hs d_M_init_153 (fun H cells slots (F : fx_F D h0 h3 H locs cells slots) => ?_)
  let h4 : AH := up_R h3 r0 54 (some q2)
  replace hw := hw h4 rfl
  refine fx_putR C F lf_M_71 hk1 rfl rfl (fx_mayF.ini rfl rfl rfl) d_M_init_155 (fun H locs (F : fx_F D h0 h4 H locs _ _) => ?_)
  refine lv_aload_n C.ex C.by d_M_init_158 rfl (lv_at hv 0 rfl) ?_
  refine lv_bipush (v := (8 : Int32)) C.ex C.by d_M_init_159 (by decide) ?_
  obtain ⟨hs, hw⟩ := hw
  let q3 : Nat := hp_z h4
  let h5 : AH := up_N h4 103 8 8
  replace hw := hw F.wf q3 rfl h5 rfl
  have hkq1 := (F.xN (k := 103) (n := 8) (m := 8)).k hkq1
  have hkq2 := (F.xN (k := 103) (n := 8) (m := 8)).k hkq2
  have hk1 := (F.xN (k := 103) (n := 8) (m := 8)).k hk1
  have hkq3 : hp_k h5 q3 = 103 := fx_nk _ _ _ _
  refine fx_newaL (n := (8 : Int32)) C F (fx_m6 (List.mem_of_getElem? (i := 178) rfl)) (by decide) (by decide) hs d_M_init_161 (fun H cells slots (F : fx_F D h0 h5 H locs cells slots) => ?_)
  let h6 : AH := up_R h5 r0 55 (some q3)
  replace hw := hw h6 rfl
  refine fx_putR C F lf_M_74 hk1 rfl rfl (fx_mayF.ini rfl rfl rfl) d_M_init_163 (fun H locs (F : fx_F D h0 h6 H locs _ _) => ?_)
  refine lv_aload_n C.ex C.by d_M_init_166 rfl (lv_at hv 0 rfl) ?_
  refine lv_bipush (v := (32 : Int32)) C.ex C.by d_M_init_167 (by decide) ?_
  obtain ⟨hs, hw⟩ := hw
  let q4 : Nat := hp_z h6
  let h7 : AH := up_N h6 101 32 32
  replace hw := hw F.wf q4 rfl h7 rfl
  have hkq1 := (F.xN (k := 101) (n := 32) (m := 32)).k hkq1
  have hkq2 := (F.xN (k := 101) (n := 32) (m := 32)).k hkq2
  have hkq3 := (F.xN (k := 101) (n := 32) (m := 32)).k hkq3
  have hk1 := (F.xN (k := 101) (n := 32) (m := 32)).k hk1
  have hkq4 : hp_k h7 q4 = 101 := fx_nk _ _ _ _
  refine fx_newaB (n := (32 : Int32)) C F (fx_m1 (List.mem_of_getElem? (i := 55) rfl)) (by decide) (by decide) hs d_M_init_169 (fun H cells slots (F : fx_F D h0 h7 H locs cells slots) => ?_)
  let h8 : AH := up_R h7 r0 56 (some q4)
  replace hw := hw h8 rfl
  refine fx_putR C F lf_M_77 hk1 rfl rfl (fx_mayF.ini rfl rfl rfl) d_M_init_171 (fun H locs (F : fx_F D h0 h8 H locs _ _) => ?_)
  exact b_M_init_174 C hl _ _ hw _ _ _ _ _ hv F
theorem b_M_init_110 {p : Program} {l : Launch} {e : Env} {R : Room} {s : State} {m : MethodId} {args : Array Value} {below : List Frame} {meth : Method} {c : Code} {D : DD} {h0 : AH} {Q : AH → Prop} (C : fx_CX D y_M_init prog_15_method_1_code 1 4 84 (none) [] h0 p R s m meth c) (hl : l.flags = flags0) (r0 : Nat) (h : AH) (hw : m_M_init_110 Q r0 h) : ∀ (ls : Array Slot) (H : Heap) (locs : List Loc) (cells slots : Nat), lv_has ls 1 [(0, .ref r0)] → fx_F D h0 h H locs cells slots → W p l e R s m args below meth c H locs cells slots (fx_Z D below s h0 (fx_oV Q fx_no)) (F0 m 110 ls []) := by
  unfold m_M_init_110 at hw
  intro ls H locs cells slots hv F
  refine lv_aload_n C.ex C.by d_M_init_110 rfl (lv_at hv 0 rfl) ?_
  refine lv_bipush (v := (32 : Int32)) C.ex C.by d_M_init_111 (by decide) ?_
  obtain ⟨hs, hw⟩ := hw
  let q1 : Nat := hp_z h
  let h1 : AH := up_N h 101 32 32
  replace hw := hw F.wf q1 rfl h1 rfl
  have hkq1 : hp_k h1 q1 = 101 := fx_nk _ _ _ _
  refine fx_newaB (n := (32 : Int32)) C F (fx_m1 (List.mem_of_getElem? (i := 55) rfl)) (by decide) (by decide) hs d_M_init_113 (fun H cells slots (F : fx_F D h0 h1 H locs cells slots) => ?_)
  obtain ⟨hk1, hw⟩ := hw
  let h2 : AH := up_R h1 r0 49 (some q1)
  replace hw := hw h2 rfl
  refine fx_putR C F lf_M_55 hk1 rfl rfl (fx_mayF.ini rfl rfl rfl) d_M_init_115 (fun H locs (F : fx_F D h0 h2 H locs _ _) => ?_)
  refine lv_aload_n C.ex C.by d_M_init_118 rfl (lv_at hv 0 rfl) ?_
  refine lv_bipush (v := (80 : Int32)) C.ex C.by d_M_init_119 (by decide) ?_
  obtain ⟨hs, hw⟩ := hw
  let q2 : Nat := hp_z h2
  let h3 : AH := up_N h2 103 80 80
  replace hw := hw F.wf q2 rfl h3 rfl
  have hkq1 := (F.xN (k := 103) (n := 80) (m := 80)).k hkq1
  have hk1 := (F.xN (k := 103) (n := 80) (m := 80)).k hk1
  have hkq2 : hp_k h3 q2 = 103 := fx_nk _ _ _ _
  refine fx_newaL (n := (80 : Int32)) C F (fx_m6 (List.mem_of_getElem? (i := 178) rfl)) (by decide) (by decide) hs d_M_init_121 (fun H cells slots (F : fx_F D h0 h3 H locs cells slots) => ?_)
  let h4 : AH := up_R h3 r0 50 (some q2)
  replace hw := hw h4 rfl
  refine fx_putR C F lf_M_58 hk1 rfl rfl (fx_mayF.ini rfl rfl rfl) d_M_init_123 (fun H locs (F : fx_F D h0 h4 H locs _ _) => ?_)
  refine lv_aload_n C.ex C.by d_M_init_126 rfl (lv_at hv 0 rfl) ?_
  refine lv_bipush (v := (8 : Int32)) C.ex C.by d_M_init_127 (by decide) ?_
  obtain ⟨hs, hw⟩ := hw
  let q3 : Nat := hp_z h4
  let h5 : AH := up_N h4 103 8 8
  replace hw := hw F.wf q3 rfl h5 rfl
  have hkq1 := (F.xN (k := 103) (n := 8) (m := 8)).k hkq1
  have hkq2 := (F.xN (k := 103) (n := 8) (m := 8)).k hkq2
  have hk1 := (F.xN (k := 103) (n := 8) (m := 8)).k hk1
  have hkq3 : hp_k h5 q3 = 103 := fx_nk _ _ _ _
  refine fx_newaL (n := (8 : Int32)) C F (fx_m6 (List.mem_of_getElem? (i := 178) rfl)) (by decide) (by decide) hs d_M_init_129 (fun H cells slots (F : fx_F D h0 h5 H locs cells slots) => ?_)
  let h6 : AH := up_R h5 r0 51 (some q3)
  replace hw := hw h6 rfl
  refine fx_putR C F lf_M_62 hk1 rfl rfl (fx_mayF.ini rfl rfl rfl) d_M_init_131 (fun H locs (F : fx_F D h0 h6 H locs _ _) => ?_)
  refine lv_aload_n C.ex C.by d_M_init_134 rfl (lv_at hv 0 rfl) ?_
  refine lv_bipush (v := (64 : Int32)) C.ex C.by d_M_init_135 (by decide) ?_
  obtain ⟨hs, hw⟩ := hw
  let q4 : Nat := hp_z h6
  let h7 : AH := up_N h6 102 64 64
  replace hw := hw F.wf q4 rfl h7 rfl
  have hkq1 := (F.xN (k := 102) (n := 64) (m := 64)).k hkq1
  have hkq2 := (F.xN (k := 102) (n := 64) (m := 64)).k hkq2
  have hkq3 := (F.xN (k := 102) (n := 64) (m := 64)).k hkq3
  have hk1 := (F.xN (k := 102) (n := 64) (m := 64)).k hk1
  have hkq4 : hp_k h7 q4 = 102 := fx_nk _ _ _ _
  refine fx_newaI (n := (64 : Int32)) C F (fx_m1 (List.mem_of_getElem? (i := 128) rfl)) (by decide) (by decide) hs d_M_init_137 (fun H cells slots (F : fx_F D h0 h7 H locs cells slots) => ?_)
  let h8 : AH := up_R h7 r0 52 (some q4)
  replace hw := hw h8 rfl
  refine fx_putR C F lf_M_65 hk1 rfl rfl (fx_mayF.ini rfl rfl rfl) d_M_init_139 (fun H locs (F : fx_F D h0 h8 H locs _ _) => ?_)
  exact b_M_init_142 C hl _ _ hw _ _ _ _ _ hv F
theorem b_M_init_72 {p : Program} {l : Launch} {e : Env} {R : Room} {s : State} {m : MethodId} {args : Array Value} {below : List Frame} {meth : Method} {c : Code} {D : DD} {h0 : AH} {Q : AH → Prop} (C : fx_CX D y_M_init prog_15_method_1_code 1 4 84 (none) [] h0 p R s m meth c) (hl : l.flags = flags0) (r0 : Nat) (h : AH) (hw : m_M_init_72 Q r0 h) : ∀ (ls : Array Slot) (H : Heap) (locs : List Loc) (cells slots : Nat), lv_has ls 1 [(0, .ref r0)] → fx_F D h0 h H locs cells slots → W p l e R s m args below meth c H locs cells slots (fx_Z D below s h0 (fx_oV Q fx_no)) (F0 m 72 ls []) := by
  unfold m_M_init_72 at hw
  intro ls H locs cells slots hv F
  refine lv_aload_n C.ex C.by d_M_init_72 rfl (lv_at hv 0 rfl) ?_
  refine lv_bipush (v := (8 : Int32)) C.ex C.by d_M_init_73 (by decide) ?_
  obtain ⟨hs, hw⟩ := hw
  let q1 : Nat := hp_z h
  let h1 : AH := up_N h 102 8 8
  replace hw := hw F.wf q1 rfl h1 rfl
  have hkq1 : hp_k h1 q1 = 102 := fx_nk _ _ _ _
  refine fx_newaI (n := (8 : Int32)) C F (fx_m1 (List.mem_of_getElem? (i := 128) rfl)) (by decide) (by decide) hs d_M_init_75 (fun H cells slots (F : fx_F D h0 h1 H locs cells slots) => ?_)
  obtain ⟨hk1, hw⟩ := hw
  let h2 : AH := up_R h1 r0 13 (some q1)
  replace hw := hw h2 rfl
  refine fx_putR C F lf_M_37 hk1 rfl rfl (fx_mayF.ini rfl rfl rfl) d_M_init_77 (fun H locs (F : fx_F D h0 h2 H locs _ _) => ?_)
  refine lv_aload_n C.ex C.by d_M_init_80 rfl (lv_at hv 0 rfl) ?_
  refine lv_iconst (v := (-1 : Int32)) C.ex C.by d_M_init_81 (by decide) ?_
  let h3 : AH := up_I h2 r0 17 (-1 : Int32)
  replace hw := hw h3 rfl
  refine fx_putI C F lf_M_40 hk1 rfl rfl (fx_mayF.no rfl rfl) d_M_init_82 (fun H locs (F : fx_F D h0 h3 H locs _ _) => ?_)
  refine lv_aload_n C.ex C.by d_M_init_85 rfl (lv_at hv 0 rfl) ?_
  refine lv_sipush (v := (10000 : Int32)) C.ex C.by d_M_init_86 (by decide) ?_
  obtain ⟨hs, hw⟩ := hw
  let q2 : Nat := hp_z h3
  let h4 : AH := up_N h3 102 10000 10000
  replace hw := hw F.wf q2 rfl h4 rfl
  have hkq1 := (F.xN (k := 102) (n := 10000) (m := 10000)).k hkq1
  have hk1 := (F.xN (k := 102) (n := 10000) (m := 10000)).k hk1
  have hkq2 : hp_k h4 q2 = 102 := fx_nk _ _ _ _
  refine fx_newaI (n := (10000 : Int32)) C F (fx_m1 (List.mem_of_getElem? (i := 128) rfl)) (by decide) (by decide) hs d_M_init_89 (fun H cells slots (F : fx_F D h0 h4 H locs cells slots) => ?_)
  let h5 : AH := up_R h4 r0 44 (some q2)
  replace hw := hw h5 rfl
  refine fx_putR C F lf_M_44 hk1 rfl rfl (fx_mayF.ini rfl rfl rfl) d_M_init_91 (fun H locs (F : fx_F D h0 h5 H locs _ _) => ?_)
  refine lv_aload_n C.ex C.by d_M_init_94 rfl (lv_at hv 0 rfl) ?_
  refine lv_ldc (v := (140000 : Int32)) C.ex C.by C.ow (C.tw.at (fx_m5 (List.mem_of_getElem? (i := 224) rfl)) rfl rfl) d_M_init_95 ?_
  obtain ⟨hs, hw⟩ := hw
  let q3 : Nat := hp_z h5
  let h6 : AH := up_N h5 101 140000 140000
  replace hw := hw F.wf q3 rfl h6 rfl
  have hkq1 := (F.xN (k := 101) (n := 140000) (m := 140000)).k hkq1
  have hkq2 := (F.xN (k := 101) (n := 140000) (m := 140000)).k hkq2
  have hk1 := (F.xN (k := 101) (n := 140000) (m := 140000)).k hk1
  have hkq3 : hp_k h6 q3 = 101 := fx_nk _ _ _ _
  refine fx_newaB (n := (140000 : Int32)) C F (fx_m1 (List.mem_of_getElem? (i := 55) rfl)) (by decide) (by decide) hs d_M_init_97 (fun H cells slots (F : fx_F D h0 h6 H locs cells slots) => ?_)
  let h7 : AH := up_R h6 r0 46 (some q3)
  replace hw := hw h7 rfl
  refine fx_putR C F lf_M_48 hk1 rfl rfl (fx_mayF.ini rfl rfl rfl) d_M_init_99 (fun H locs (F : fx_F D h0 h7 H locs _ _) => ?_)
  refine lv_aload_n C.ex C.by d_M_init_102 rfl (lv_at hv 0 rfl) ?_
  refine lv_ldc (v := (262300 : Int32)) C.ex C.by C.ow (C.tw.at (fx_m5 (List.mem_of_getElem? (i := 225) rfl)) rfl rfl) d_M_init_103 ?_
  obtain ⟨hs, hw⟩ := hw
  let q4 : Nat := hp_z h7
  let h8 : AH := up_N h7 101 262300 262300
  replace hw := hw F.wf q4 rfl h8 rfl
  have hkq1 := (F.xN (k := 101) (n := 262300) (m := 262300)).k hkq1
  have hkq2 := (F.xN (k := 101) (n := 262300) (m := 262300)).k hkq2
  have hkq3 := (F.xN (k := 101) (n := 262300) (m := 262300)).k hkq3
  have hk1 := (F.xN (k := 101) (n := 262300) (m := 262300)).k hk1
  have hkq4 : hp_k h8 q4 = 101 := fx_nk _ _ _ _
  refine fx_newaB (n := (262300 : Int32)) C F (fx_m1 (List.mem_of_getElem? (i := 55) rfl)) (by decide) (by decide) hs d_M_init_105 (fun H cells slots (F : fx_F D h0 h8 H locs cells slots) => ?_)
  let h9 : AH := up_R h8 r0 48 (some q4)
  replace hw := hw h9 rfl
  refine fx_putR C F lf_M_52 hk1 rfl rfl (fx_mayF.ini rfl rfl rfl) d_M_init_107 (fun H locs (F : fx_F D h0 h9 H locs _ _) => ?_)
  exact b_M_init_110 C hl _ _ hw _ _ _ _ _ hv F
theorem b_M_init_38 {p : Program} {l : Launch} {e : Env} {R : Room} {s : State} {m : MethodId} {args : Array Value} {below : List Frame} {meth : Method} {c : Code} {D : DD} {h0 : AH} {Q : AH → Prop} (C : fx_CX D y_M_init prog_15_method_1_code 1 4 84 (none) [] h0 p R s m meth c) (hl : l.flags = flags0) (r0 : Nat) (h : AH) (hw : m_M_init_38 Q r0 h) : ∀ (ls : Array Slot) (H : Heap) (locs : List Loc) (cells slots : Nat), lv_has ls 1 [(0, .ref r0)] → fx_F D h0 h H locs cells slots → W p l e R s m args below meth c H locs cells slots (fx_Z D below s h0 (fx_oV Q fx_no)) (F0 m 38 ls []) := by
  unfold m_M_init_38 at hw
  intro ls H locs cells slots hv F
  refine lv_aload_n C.ex C.by d_M_init_38 rfl (lv_at hv 0 rfl) ?_
  refine lv_sipush (v := (1001 : Int32)) C.ex C.by d_M_init_39 (by decide) ?_
  obtain ⟨hs, hw⟩ := hw
  let q1 : Nat := hp_z h
  let h1 : AH := up_N h 102 1001 1001
  replace hw := hw F.wf q1 rfl h1 rfl
  have hkq1 : hp_k h1 q1 = 102 := fx_nk _ _ _ _
  refine fx_newaI (n := (1001 : Int32)) C F (fx_m1 (List.mem_of_getElem? (i := 128) rfl)) (by decide) (by decide) hs d_M_init_42 (fun H cells slots (F : fx_F D h0 h1 H locs cells slots) => ?_)
  obtain ⟨hk1, hw⟩ := hw
  let h2 : AH := up_R h1 r0 8 (some q1)
  replace hw := hw h2 rfl
  refine fx_putR C F lf_M_24 hk1 rfl rfl (fx_mayF.ini rfl rfl rfl) d_M_init_44 (fun H locs (F : fx_F D h0 h2 H locs _ _) => ?_)
  refine lv_aload_n C.ex C.by d_M_init_47 rfl (lv_at hv 0 rfl) ?_
  refine lv_sipush (v := (1000 : Int32)) C.ex C.by d_M_init_48 (by decide) ?_
  obtain ⟨hs, hw⟩ := hw
  let q2 : Nat := hp_z h2
  let h3 : AH := up_N h2 102 1000 1000
  replace hw := hw F.wf q2 rfl h3 rfl
  have hkq1 := (F.xN (k := 102) (n := 1000) (m := 1000)).k hkq1
  have hk1 := (F.xN (k := 102) (n := 1000) (m := 1000)).k hk1
  have hkq2 : hp_k h3 q2 = 102 := fx_nk _ _ _ _
  refine fx_newaI (n := (1000 : Int32)) C F (fx_m1 (List.mem_of_getElem? (i := 128) rfl)) (by decide) (by decide) hs d_M_init_51 (fun H cells slots (F : fx_F D h0 h3 H locs cells slots) => ?_)
  let h4 : AH := up_R h3 r0 9 (some q2)
  replace hw := hw h4 rfl
  refine fx_putR C F lf_M_28 hk1 rfl rfl (fx_mayF.ini rfl rfl rfl) d_M_init_53 (fun H locs (F : fx_F D h0 h4 H locs _ _) => ?_)
  refine lv_aload_n C.ex C.by d_M_init_56 rfl (lv_at hv 0 rfl) ?_
  refine lv_bipush (v := (16 : Int32)) C.ex C.by d_M_init_57 (by decide) ?_
  obtain ⟨hs, hw⟩ := hw
  let q3 : Nat := hp_z h4
  let h5 : AH := up_N h4 102 16 16
  replace hw := hw F.wf q3 rfl h5 rfl
  have hkq1 := (F.xN (k := 102) (n := 16) (m := 16)).k hkq1
  have hkq2 := (F.xN (k := 102) (n := 16) (m := 16)).k hkq2
  have hk1 := (F.xN (k := 102) (n := 16) (m := 16)).k hk1
  have hkq3 : hp_k h5 q3 = 102 := fx_nk _ _ _ _
  refine fx_newaI (n := (16 : Int32)) C F (fx_m1 (List.mem_of_getElem? (i := 128) rfl)) (by decide) (by decide) hs d_M_init_59 (fun H cells slots (F : fx_F D h0 h5 H locs cells slots) => ?_)
  let h6 : AH := up_R h5 r0 11 (some q3)
  replace hw := hw h6 rfl
  refine fx_putR C F lf_M_31 hk1 rfl rfl (fx_mayF.ini rfl rfl rfl) d_M_init_61 (fun H locs (F : fx_F D h0 h6 H locs _ _) => ?_)
  refine lv_aload_n C.ex C.by d_M_init_64 rfl (lv_at hv 0 rfl) ?_
  refine lv_bipush (v := (16 : Int32)) C.ex C.by d_M_init_65 (by decide) ?_
  obtain ⟨hs, hw⟩ := hw
  let q4 : Nat := hp_z h6
  let h7 : AH := up_N h6 102 16 16
  replace hw := hw F.wf q4 rfl h7 rfl
  have hkq1 := (F.xN (k := 102) (n := 16) (m := 16)).k hkq1
  have hkq2 := (F.xN (k := 102) (n := 16) (m := 16)).k hkq2
  have hkq3 := (F.xN (k := 102) (n := 16) (m := 16)).k hkq3
  have hk1 := (F.xN (k := 102) (n := 16) (m := 16)).k hk1
  have hkq4 : hp_k h7 q4 = 102 := fx_nk _ _ _ _
  refine fx_newaI (n := (16 : Int32)) C F (fx_m1 (List.mem_of_getElem? (i := 128) rfl)) (by decide) (by decide) hs d_M_init_67 (fun H cells slots (F : fx_F D h0 h7 H locs cells slots) => ?_)
  let h8 : AH := up_R h7 r0 12 (some q4)
  replace hw := hw h8 rfl
  refine fx_putR C F lf_M_34 hk1 rfl rfl (fx_mayF.ini rfl rfl rfl) d_M_init_69 (fun H locs (F : fx_F D h0 h8 H locs _ _) => ?_)
  exact b_M_init_72 C hl _ _ hw _ _ _ _ _ hv F
theorem b_M_init_0 {p : Program} {l : Launch} {e : Env} {R : Room} {s : State} {m : MethodId} {args : Array Value} {below : List Frame} {meth : Method} {c : Code} {D : DD} {h0 : AH} {Q : AH → Prop} (C : fx_CX D y_M_init prog_15_method_1_code 1 4 84 (none) [] h0 p R s m meth c) (hl : l.flags = flags0) (r0 : Nat) (h : AH) (hw : m_M_init Q r0 h) : ∀ (ls : Array Slot) (H : Heap) (locs : List Loc) (cells slots : Nat), lv_has ls 1 [(0, .ref r0)] → fx_F D h0 h H locs cells slots → W p l e R s m args below meth c H locs cells slots (fx_Z D below s h0 (fx_oV Q fx_no)) (F0 m 0 ls []) := by
  unfold m_M_init at hw
  intro ls H locs cells slots hv F
  refine lv_aload_n C.ex C.by d_M_init_0 rfl (lv_at hv 0 rfl) ?_
  refine fx_objI C (fx_m5 (List.mem_of_getElem? (i := 221) rfl)) (fx_m1 (List.mem_of_getElem? (i := 38) rfl)) (fx_m1 (List.mem_of_getElem? (i := 39) rfl)) hv.1 d_M_init_1 (by decide) (Nat.le_of_ble_eq_true rfl) ?_
  refine lv_aload_n C.ex C.by d_M_init_4 rfl (lv_at hv 0 rfl) ?_
  refine lv_ldc (v := (65536 : Int32)) C.ex C.by C.ow (C.tw.at (fx_m5 (List.mem_of_getElem? (i := 222) rfl)) rfl rfl) d_M_init_5 ?_
  obtain ⟨hs, hw⟩ := hw
  let q1 : Nat := hp_z h
  let h1 : AH := up_N h 101 65536 65536
  replace hw := hw F.wf q1 rfl h1 rfl
  have hkq1 : hp_k h1 q1 = 101 := fx_nk _ _ _ _
  refine fx_newaB (n := (65536 : Int32)) C F (fx_m1 (List.mem_of_getElem? (i := 55) rfl)) (by decide) (by decide) hs d_M_init_7 (fun H cells slots (F : fx_F D h0 h1 H locs cells slots) => ?_)
  obtain ⟨hk1, hw⟩ := hw
  let h2 : AH := up_R h1 r0 1 (some q1)
  replace hw := hw h2 rfl
  refine fx_putR C F lf_M_8 hk1 rfl rfl (fx_mayF.ini rfl rfl rfl) d_M_init_9 (fun H locs (F : fx_F D h0 h2 H locs _ _) => ?_)
  refine lv_aload_n C.ex C.by d_M_init_12 rfl (lv_at hv 0 rfl) ?_
  refine lv_sipush (v := (3200 : Int32)) C.ex C.by d_M_init_13 (by decide) ?_
  obtain ⟨hs, hw⟩ := hw
  let q2 : Nat := hp_z h2
  let h3 : AH := up_N h2 101 3200 3200
  replace hw := hw F.wf q2 rfl h3 rfl
  have hkq1 := (F.xN (k := 101) (n := 3200) (m := 3200)).k hkq1
  have hk1 := (F.xN (k := 101) (n := 3200) (m := 3200)).k hk1
  have hkq2 : hp_k h3 q2 = 101 := fx_nk _ _ _ _
  refine fx_newaB (n := (3200 : Int32)) C F (fx_m1 (List.mem_of_getElem? (i := 55) rfl)) (by decide) (by decide) hs d_M_init_16 (fun H cells slots (F : fx_F D h0 h3 H locs cells slots) => ?_)
  let h4 : AH := up_R h3 r0 2 (some q2)
  replace hw := hw h4 rfl
  refine fx_putR C F lf_M_14 hk1 rfl rfl (fx_mayF.ini rfl rfl rfl) d_M_init_18 (fun H locs (F : fx_F D h0 h4 H locs _ _) => ?_)
  refine lv_aload_n C.ex C.by d_M_init_21 rfl (lv_at hv 0 rfl) ?_
  refine lv_sipush (v := (256 : Int32)) C.ex C.by d_M_init_22 (by decide) ?_
  obtain ⟨hs, hw⟩ := hw
  let q3 : Nat := hp_z h4
  let h5 : AH := up_N h4 101 256 256
  replace hw := hw F.wf q3 rfl h5 rfl
  have hkq1 := (F.xN (k := 101) (n := 256) (m := 256)).k hkq1
  have hkq2 := (F.xN (k := 101) (n := 256) (m := 256)).k hkq2
  have hk1 := (F.xN (k := 101) (n := 256) (m := 256)).k hk1
  have hkq3 : hp_k h5 q3 = 101 := fx_nk _ _ _ _
  refine fx_newaB (n := (256 : Int32)) C F (fx_m1 (List.mem_of_getElem? (i := 55) rfl)) (by decide) (by decide) hs d_M_init_25 (fun H cells slots (F : fx_F D h0 h5 H locs cells slots) => ?_)
  let h6 : AH := up_R h5 r0 3 (some q3)
  replace hw := hw h6 rfl
  refine fx_putR C F lf_M_17 hk1 rfl rfl (fx_mayF.ini rfl rfl rfl) d_M_init_27 (fun H locs (F : fx_F D h0 h6 H locs _ _) => ?_)
  refine lv_aload_n C.ex C.by d_M_init_30 rfl (lv_at hv 0 rfl) ?_
  refine lv_ldc (v := (262144 : Int32)) C.ex C.by C.ow (C.tw.at (fx_m5 (List.mem_of_getElem? (i := 223) rfl)) rfl rfl) d_M_init_31 ?_
  obtain ⟨hs, hw⟩ := hw
  let q4 : Nat := hp_z h6
  let h7 : AH := up_N h6 101 262144 262144
  replace hw := hw F.wf q4 rfl h7 rfl
  have hkq1 := (F.xN (k := 101) (n := 262144) (m := 262144)).k hkq1
  have hkq2 := (F.xN (k := 101) (n := 262144) (m := 262144)).k hkq2
  have hkq3 := (F.xN (k := 101) (n := 262144) (m := 262144)).k hkq3
  have hk1 := (F.xN (k := 101) (n := 262144) (m := 262144)).k hk1
  have hkq4 : hp_k h7 q4 = 101 := fx_nk _ _ _ _
  refine fx_newaB (n := (262144 : Int32)) C F (fx_m1 (List.mem_of_getElem? (i := 55) rfl)) (by decide) (by decide) hs d_M_init_33 (fun H cells slots (F : fx_F D h0 h7 H locs cells slots) => ?_)
  let h8 : AH := up_R h7 r0 7 (some q4)
  replace hw := hw h8 rfl
  refine fx_putR C F lf_M_21 hk1 rfl rfl (fx_mayF.ini rfl rfl rfl) d_M_init_35 (fun H locs (F : fx_F D h0 h8 H locs _ _) => ?_)
  exact b_M_init_38 C hl _ _ hw _ _ _ _ _ hv F
theorem hm_M_init : fx_hd y_M_init prog_15_method_1_code 1 (none) [] ∈ tables_1 := (fx_m5 (List.mem_of_getElem? (i := 220) rfl))
theorem hi_M_init : Cond.initialized y_M_init.cls ∈ tables_1 := (fx_m1 (List.mem_of_getElem? (i := 15) rfl))
theorem c_M_init {l : Launch} (hl : l.flags = flags0) {D : DD} {Q : AH → Prop} {r0 : Nat} {h : AH} (hw : m_M_init Q r0 h) : fx_Mt l D y_M_init (fx_hd y_M_init prog_15_method_1_code 1 (none) []) 4 84 [.ref r0] h (fx_oV Q fx_no) := by
  refine fx_ofW (plainFor_of_name (by decide)) (fun p e s m below meth c C F => ?_)
  have hv := lv_entry ([.ref r0]) (n := 1) (Nat.le_of_ble_eq_true rfl)
  rw [lg_entry_eq]
  generalize (lg_sl ([.ref r0]) ++ List.replicate (1 - (lg_sl ([.ref r0])).length) Slot.unset).toArray = ls at hv ⊢
  have hv : lv_has ls 1 [(0, .ref r0)] := hv
  exact b_M_init_0 C hl _ _ hw _ _ _ _ _ hv F
/-! ChainJudgeModel.thrown()I: frames 0, words 0 -/
abbrev y_M_thrown : MethodName := ⟨"ChainJudgeModel", "thrown", "()I"⟩
theorem lf_M_83 : fx_Lk "ChainJudgeModel" 83 12 0 := fx_Lk.mk (C := "ChainJudgeModel") (T := fx_T12) (N := 57) rfl (by decide) (by decide) (fx_m6 (List.mem_of_getElem? (i := 6) rfl))
def dl_M_thrown : List (Nat × Instr × Nat) := [(0, .aload_n 0, 1), (1, .getfield 83, 3), (4, .ireturn, 1)]
theorem dk_M_thrown : fx_dec prog_15_method_2_code dl_M_thrown = true := by decide +kernel
theorem d_M_thrown_0 : decode prog_15_method_2_code 0 = .ok (.aload_n 0, 1) := fx_dat dk_M_thrown 0 rfl
theorem d_M_thrown_1 : decode prog_15_method_2_code 1 = .ok (.getfield 83, 3) := fx_dat dk_M_thrown 1 rfl
theorem d_M_thrown_4 : decode prog_15_method_2_code 4 = .ok (.ireturn, 1) := fx_dat dk_M_thrown 2 rfl
def m_M_thrown (Q : Int32 → AH → Prop) (r0 : Nat) (h : AH) : Prop := hp_k h r0 = 13 ∧ Q (hp_I h r0 0) h
theorem b_M_thrown_0 {p : Program} {l : Launch} {e : Env} {R : Room} {s : State} {m : MethodId} {args : Array Value} {below : List Frame} {meth : Method} {c : Code} {D : DD} {h0 : AH} {Q : Int32 → AH → Prop} (C : fx_CX D y_M_thrown prog_15_method_2_code 1 0 0 (Option.some FieldType.int) [] h0 p R s m meth c) (hl : l.flags = flags0) (r0 : Nat) (h : AH) (hw : m_M_thrown Q r0 h) : ∀ (ls : Array Slot) (H : Heap) (locs : List Loc) (cells slots : Nat), lv_has ls 1 [(0, .ref r0)] → fx_F D h0 h H locs cells slots → W p l e R s m args below meth c H locs cells slots (fx_Z D below s h0 (fx_oI Q fx_no)) (F0 m 0 ls []) := by
  unfold m_M_thrown at hw
  intro ls H locs cells slots hv F
  refine lv_aload_n C.ex C.by d_M_thrown_0 rfl (lv_at hv 0 rfl) ?_
  obtain ⟨hk1, hw⟩ := hw
  refine fx_getI C F lf_M_83 hk1 rfl d_M_thrown_1 ?_
  exact fx_iret C F d_M_thrown_4 (Or.inl ⟨_, rfl, hw⟩)
theorem hm_M_thrown : fx_hd y_M_thrown prog_15_method_2_code 1 (Option.some FieldType.int) [] ∈ tables_1 := (fx_m6 (List.mem_of_getElem? (i := 182) rfl))
theorem hi_M_thrown : Cond.initialized y_M_thrown.cls ∈ tables_1 := (fx_m1 (List.mem_of_getElem? (i := 15) rfl))
theorem c_M_thrown {l : Launch} (hl : l.flags = flags0) {D : DD} {Q : Int32 → AH → Prop} {r0 : Nat} {h : AH} (hw : m_M_thrown Q r0 h) : fx_Mt l D y_M_thrown (fx_hd y_M_thrown prog_15_method_2_code 1 (Option.some FieldType.int) []) 0 0 [.ref r0] h (fx_oI Q fx_no) := by
  refine fx_ofW (plainFor_of_name (by decide)) (fun p e s m below meth c C F => ?_)
  have hv := lv_entry ([.ref r0]) (n := 1) (Nat.le_of_ble_eq_true rfl)
  rw [lg_entry_eq]
  generalize (lg_sl ([.ref r0]) ++ List.replicate (1 - (lg_sl ([.ref r0])).length) Slot.unset).toArray = ls at hv ⊢
  have hv : lv_has ls 1 [(0, .ref r0)] := hv
  exact b_M_thrown_0 C hl _ _ hw _ _ _ _ _ hv F
