set_option maxRecDepth 10000
/-! ChainJudgeModel.feed(IIIII)I: frames 1, words 13 -/
abbrev y_M_feed : MethodName := ⟨"ChainJudgeModel", "feed", "(IIIII)I"⟩
def dl_M_feed : List (Nat × Instr × Nat) := [(0, .aload_n 0, 1), (1, .iconst 0, 1), (2, .putfield 83, 3), (5, .aload_n 0, 1), (6, .getfield 328, 3), (9, .ldc_w 395, 3), (12, .if_icmp .le 9, 3), (15, .aload_n 0, 1), (16, .iconst 1, 1), (17, .invokevirtual 362, 3), (20, .ireturn, 1), (21, .iconst 0, 1), (22, .istore 6, 2), (24, .iload 6, 2), (26, .bipush 20, 2), (28, .if_icmp .ge 82, 3), (31, .iload 6, 2), (33, .iconst 4, 1), (34, .if_icmp .ge 7, 3), (37, .iload_n 1, 1), (38, .goto 39, 3), (41, .iload 6, 2), (43, .bipush 8, 2), (45, .if_icmp .ge 7, 3), (48, .iload_n 2, 1), (49, .goto 28, 3), (52, .iload 6, 2), (54, .bipush 12, 2), (56, .if_icmp .ge 7, 3), (59, .iload_n 3, 1), (60, .goto 17, 3), (63, .iload 6, 2), (65, .bipush 16, 2), (67, .if_icmp .ge 8, 3), (70, .iload 4, 2), (72, .goto 5, 3), (75, .iload 5, 2), (77, .istore 7, 2), (79, .aload_n 0, 1), (80, .getfield 8, 3), (83, .aload_n 0, 1), (84, .getfield 328, 3), (87, .iload 6, 2), (89, .iadd, 1), (90, .iload 7, 2), (92, .bipush 8, 2), (94, .iconst 3, 1), (95, .iload 6, 2), (97, .iconst 4, 1), (98, .irem, 1), (99, .isub, 1), (100, .imul, 1), (101, .ishr, 1), (102, .i2b, 1), (103, .bastore, 1), (104, .iinc 6 1, 3), (107, .goto (-83), 3), (110, .aload_n 0, 1), (111, .dup, 1), (112, .getfield 328, 3), (115, .bipush 20, 2), (117, .iadd, 1), (118, .putfield 328, 3), (121, .aload_n 0, 1), (122, .getfield 328, 3), (125, .ireturn, 1)]
theorem dk_M_feed : fx_dec prog_15_method_59_code dl_M_feed = true := by decide +kernel
theorem d_M_feed_0 : decode prog_15_method_59_code 0 = .ok (.aload_n 0, 1) := fx_dat dk_M_feed 0 rfl
theorem d_M_feed_1 : decode prog_15_method_59_code 1 = .ok (.iconst 0, 1) := fx_dat dk_M_feed 1 rfl
theorem d_M_feed_2 : decode prog_15_method_59_code 2 = .ok (.putfield 83, 3) := fx_dat dk_M_feed 2 rfl
theorem d_M_feed_5 : decode prog_15_method_59_code 5 = .ok (.aload_n 0, 1) := fx_dat dk_M_feed 3 rfl
theorem d_M_feed_6 : decode prog_15_method_59_code 6 = .ok (.getfield 328, 3) := fx_dat dk_M_feed 4 rfl
theorem d_M_feed_9 : decode prog_15_method_59_code 9 = .ok (.ldc_w 395, 3) := fx_dat dk_M_feed 5 rfl
theorem d_M_feed_12 : decode prog_15_method_59_code 12 = .ok (.if_icmp .le 9, 3) := fx_dat dk_M_feed 6 rfl
theorem d_M_feed_15 : decode prog_15_method_59_code 15 = .ok (.aload_n 0, 1) := fx_dat dk_M_feed 7 rfl
theorem d_M_feed_16 : decode prog_15_method_59_code 16 = .ok (.iconst 1, 1) := fx_dat dk_M_feed 8 rfl
theorem d_M_feed_17 : decode prog_15_method_59_code 17 = .ok (.invokevirtual 362, 3) := fx_dat dk_M_feed 9 rfl
theorem d_M_feed_20 : decode prog_15_method_59_code 20 = .ok (.ireturn, 1) := fx_dat dk_M_feed 10 rfl
theorem d_M_feed_21 : decode prog_15_method_59_code 21 = .ok (.iconst 0, 1) := fx_dat dk_M_feed 11 rfl
theorem d_M_feed_22 : decode prog_15_method_59_code 22 = .ok (.istore 6, 2) := fx_dat dk_M_feed 12 rfl
theorem d_M_feed_24 : decode prog_15_method_59_code 24 = .ok (.iload 6, 2) := fx_dat dk_M_feed 13 rfl
theorem d_M_feed_26 : decode prog_15_method_59_code 26 = .ok (.bipush 20, 2) := fx_dat dk_M_feed 14 rfl
theorem d_M_feed_28 : decode prog_15_method_59_code 28 = .ok (.if_icmp .ge 82, 3) := fx_dat dk_M_feed 15 rfl
theorem d_M_feed_31 : decode prog_15_method_59_code 31 = .ok (.iload 6, 2) := fx_dat dk_M_feed 16 rfl
theorem d_M_feed_33 : decode prog_15_method_59_code 33 = .ok (.iconst 4, 1) := fx_dat dk_M_feed 17 rfl
theorem d_M_feed_34 : decode prog_15_method_59_code 34 = .ok (.if_icmp .ge 7, 3) := fx_dat dk_M_feed 18 rfl
theorem d_M_feed_37 : decode prog_15_method_59_code 37 = .ok (.iload_n 1, 1) := fx_dat dk_M_feed 19 rfl
theorem d_M_feed_38 : decode prog_15_method_59_code 38 = .ok (.goto 39, 3) := fx_dat dk_M_feed 20 rfl
theorem d_M_feed_41 : decode prog_15_method_59_code 41 = .ok (.iload 6, 2) := fx_dat dk_M_feed 21 rfl
theorem d_M_feed_43 : decode prog_15_method_59_code 43 = .ok (.bipush 8, 2) := fx_dat dk_M_feed 22 rfl
theorem d_M_feed_45 : decode prog_15_method_59_code 45 = .ok (.if_icmp .ge 7, 3) := fx_dat dk_M_feed 23 rfl
theorem d_M_feed_48 : decode prog_15_method_59_code 48 = .ok (.iload_n 2, 1) := fx_dat dk_M_feed 24 rfl
theorem d_M_feed_49 : decode prog_15_method_59_code 49 = .ok (.goto 28, 3) := fx_dat dk_M_feed 25 rfl
theorem d_M_feed_52 : decode prog_15_method_59_code 52 = .ok (.iload 6, 2) := fx_dat dk_M_feed 26 rfl
theorem d_M_feed_54 : decode prog_15_method_59_code 54 = .ok (.bipush 12, 2) := fx_dat dk_M_feed 27 rfl
theorem d_M_feed_56 : decode prog_15_method_59_code 56 = .ok (.if_icmp .ge 7, 3) := fx_dat dk_M_feed 28 rfl
theorem d_M_feed_59 : decode prog_15_method_59_code 59 = .ok (.iload_n 3, 1) := fx_dat dk_M_feed 29 rfl
theorem d_M_feed_60 : decode prog_15_method_59_code 60 = .ok (.goto 17, 3) := fx_dat dk_M_feed 30 rfl
theorem d_M_feed_63 : decode prog_15_method_59_code 63 = .ok (.iload 6, 2) := fx_dat dk_M_feed 31 rfl
theorem d_M_feed_65 : decode prog_15_method_59_code 65 = .ok (.bipush 16, 2) := fx_dat dk_M_feed 32 rfl
theorem d_M_feed_67 : decode prog_15_method_59_code 67 = .ok (.if_icmp .ge 8, 3) := fx_dat dk_M_feed 33 rfl
theorem d_M_feed_70 : decode prog_15_method_59_code 70 = .ok (.iload 4, 2) := fx_dat dk_M_feed 34 rfl
theorem d_M_feed_72 : decode prog_15_method_59_code 72 = .ok (.goto 5, 3) := fx_dat dk_M_feed 35 rfl
theorem d_M_feed_75 : decode prog_15_method_59_code 75 = .ok (.iload 5, 2) := fx_dat dk_M_feed 36 rfl
theorem d_M_feed_77 : decode prog_15_method_59_code 77 = .ok (.istore 7, 2) := fx_dat dk_M_feed 37 rfl
theorem d_M_feed_79 : decode prog_15_method_59_code 79 = .ok (.aload_n 0, 1) := fx_dat dk_M_feed 38 rfl
theorem d_M_feed_80 : decode prog_15_method_59_code 80 = .ok (.getfield 8, 3) := fx_dat dk_M_feed 39 rfl
theorem d_M_feed_83 : decode prog_15_method_59_code 83 = .ok (.aload_n 0, 1) := fx_dat dk_M_feed 40 rfl
theorem d_M_feed_84 : decode prog_15_method_59_code 84 = .ok (.getfield 328, 3) := fx_dat dk_M_feed 41 rfl
theorem d_M_feed_87 : decode prog_15_method_59_code 87 = .ok (.iload 6, 2) := fx_dat dk_M_feed 42 rfl
theorem d_M_feed_89 : decode prog_15_method_59_code 89 = .ok (.iadd, 1) := fx_dat dk_M_feed 43 rfl
theorem d_M_feed_90 : decode prog_15_method_59_code 90 = .ok (.iload 7, 2) := fx_dat dk_M_feed 44 rfl
theorem d_M_feed_92 : decode prog_15_method_59_code 92 = .ok (.bipush 8, 2) := fx_dat dk_M_feed 45 rfl
theorem d_M_feed_94 : decode prog_15_method_59_code 94 = .ok (.iconst 3, 1) := fx_dat dk_M_feed 46 rfl
theorem d_M_feed_95 : decode prog_15_method_59_code 95 = .ok (.iload 6, 2) := fx_dat dk_M_feed 47 rfl
theorem d_M_feed_97 : decode prog_15_method_59_code 97 = .ok (.iconst 4, 1) := fx_dat dk_M_feed 48 rfl
theorem d_M_feed_98 : decode prog_15_method_59_code 98 = .ok (.irem, 1) := fx_dat dk_M_feed 49 rfl
theorem d_M_feed_99 : decode prog_15_method_59_code 99 = .ok (.isub, 1) := fx_dat dk_M_feed 50 rfl
theorem d_M_feed_100 : decode prog_15_method_59_code 100 = .ok (.imul, 1) := fx_dat dk_M_feed 51 rfl
theorem d_M_feed_101 : decode prog_15_method_59_code 101 = .ok (.ishr, 1) := fx_dat dk_M_feed 52 rfl
theorem d_M_feed_102 : decode prog_15_method_59_code 102 = .ok (.i2b, 1) := fx_dat dk_M_feed 53 rfl
theorem d_M_feed_103 : decode prog_15_method_59_code 103 = .ok (.bastore, 1) := fx_dat dk_M_feed 54 rfl
theorem d_M_feed_104 : decode prog_15_method_59_code 104 = .ok (.iinc 6 1, 3) := fx_dat dk_M_feed 55 rfl
theorem d_M_feed_107 : decode prog_15_method_59_code 107 = .ok (.goto (-83), 3) := fx_dat dk_M_feed 56 rfl
theorem d_M_feed_110 : decode prog_15_method_59_code 110 = .ok (.aload_n 0, 1) := fx_dat dk_M_feed 57 rfl
theorem d_M_feed_111 : decode prog_15_method_59_code 111 = .ok (.dup, 1) := fx_dat dk_M_feed 58 rfl
theorem d_M_feed_112 : decode prog_15_method_59_code 112 = .ok (.getfield 328, 3) := fx_dat dk_M_feed 59 rfl
theorem d_M_feed_115 : decode prog_15_method_59_code 115 = .ok (.bipush 20, 2) := fx_dat dk_M_feed 60 rfl
theorem d_M_feed_117 : decode prog_15_method_59_code 117 = .ok (.iadd, 1) := fx_dat dk_M_feed 61 rfl
theorem d_M_feed_118 : decode prog_15_method_59_code 118 = .ok (.putfield 328, 3) := fx_dat dk_M_feed 62 rfl
theorem d_M_feed_121 : decode prog_15_method_59_code 121 = .ok (.aload_n 0, 1) := fx_dat dk_M_feed 63 rfl
theorem d_M_feed_122 : decode prog_15_method_59_code 122 = .ok (.getfield 328, 3) := fx_dat dk_M_feed 64 rfl
theorem d_M_feed_125 : decode prog_15_method_59_code 125 = .ok (.ireturn, 1) := fx_dat dk_M_feed 65 rfl
def m_M_feed_77 (Q : Int32 → AH → Prop) (X24 : Int32 × AH → Prop) (r0 : Nat) (x1 : Int32) (x2 : Int32) (x3 : Int32) (x4 : Int32) (x5 : Int32) (x6 : Int32) (sx0 : Int32) (h : AH) : Prop := hp_k h r0 = 13 ∧ ∃ b1, hp_R h r0 1 = some b1 ∧ hp_k h b1 = 101 ∧ vp_in ((hp_I h r0 4) + x6) (hp_n h b1) ∧ ∀ h1 : AH, h1 = up_I h b1 (((hp_I h r0 4) + x6)).toNatClampNeg ((((sx0 >>> (((8 : Int32) * ((3 : Int32) - (x6 - x6 / (4 : Int32) * (4 : Int32)))) &&& 31))).toInt8.toInt32)).toInt8.toInt32 → ∀ v1 : Int32, v1 = (x6 + (1 : Int32)) → X24 (v1, h1)
def m_M_feed_24_b (Q : Int32 → AH → Prop) (X24 : Int32 × AH → Prop) (r0 : Nat) (x1 : Int32) (x2 : Int32) (x3 : Int32) (x4 : Int32) (x5 : Int32) (x6 : Int32) (h : AH) : Prop := ((20 : Int32) ≤ x6 → hp_k h r0 = 13 ∧ ∀ h1 : AH, h1 = up_I h r0 4 ((hp_I h r0 4) + (20 : Int32)) → Q (hp_I h1 r0 4) h1) ∧ (¬ (20 : Int32) ≤ x6 → ((4 : Int32) ≤ x6 → ((8 : Int32) ≤ x6 → ((12 : Int32) ≤ x6 → ((16 : Int32) ≤ x6 → m_M_feed_77 Q X24 r0 x1 x2 x3 x4 x5 x6 x5 h) ∧ (¬ (16 : Int32) ≤ x6 → m_M_feed_77 Q X24 r0 x1 x2 x3 x4 x5 x6 x4 h)) ∧ (¬ (12 : Int32) ≤ x6 → m_M_feed_77 Q X24 r0 x1 x2 x3 x4 x5 x6 x3 h)) ∧ (¬ (8 : Int32) ≤ x6 → m_M_feed_77 Q X24 r0 x1 x2 x3 x4 x5 x6 x2 h)) ∧ (¬ (4 : Int32) ≤ x6 → m_M_feed_77 Q X24 r0 x1 x2 x3 x4 x5 x6 x1 h))
def m_M_feed_24 (Q : Int32 → AH → Prop) (r0 : Nat) (x1 : Int32) (x2 : Int32) (x3 : Int32) (x4 : Int32) (x5 : Int32) (x6 : Int32) (h : AH) : Prop := fx_loop (fun (X24 : Int32 × AH → Prop) (st : Int32 × AH) => m_M_feed_24_b Q X24 r0 x1 x2 x3 x4 x5 st.1 st.2) (x6, h)
def m_M_feed (Q : Int32 → AH → Prop) (r0 : Nat) (x1 : Int32) (x2 : Int32) (x3 : Int32) (x4 : Int32) (x5 : Int32) (h : AH) : Prop := hp_k h r0 = 13 ∧ ∀ h1 : AH, h1 = up_I h r0 0 (0 : Int32) → ((hp_I h1 r0 4) ≤ (65516 : Int32) → m_M_feed_24 Q r0 x1 x2 x3 x4 x5 (0 : Int32) h1) ∧ (¬ (hp_I h1 r0 4) ≤ (65516 : Int32) → m_M_fail (fun v1 h2 => fx_ext h1 h2 → Q v1 h2) r0 (1 : Int32) h1)
theorem b_M_feed_77 {p : Program} {l : Launch} {e : Env} {R : Room} {s : State} {m : MethodId} {args : Array Value} {below : List Frame} {meth : Method} {c : Code} {D : DD} {h0 : AH} {Q : Int32 → AH → Prop} {X24 : Int32 × AH → Prop} (C : fx_CX D y_M_feed prog_15_method_59_code 8 1 13 (Option.some FieldType.int) [] h0 p R s m meth c) (hl : l.flags = flags0) (r0 : Nat) (x1 : Int32) (x2 : Int32) (x3 : Int32) (x4 : Int32) (x5 : Int32) (x6 : Int32) (sx0 : Int32) (h : AH) (hX24 : ∀ st, X24 st → ∀ (ls : Array Slot) (H : Heap) (locs : List Loc) (cells slots : Nat), lv_has ls 8 [(0, .ref r0), (1, .int x1), (2, .int x2), (3, .int x3), (4, .int x4), (5, .int x5), (6, .int st.1)] → fx_F D h0 st.2 H locs cells slots → W p l e R s m args below meth c H locs cells slots (fx_Z D below s h0 (fx_oI Q fx_no)) (F0 m 24 ls [])) (hw : m_M_feed_77 Q X24 r0 x1 x2 x3 x4 x5 x6 sx0 h) : ∀ (ls : Array Slot) (H : Heap) (locs : List Loc) (cells slots : Nat), lv_has ls 8 [(0, .ref r0), (1, .int x1), (2, .int x2), (3, .int x3), (4, .int x4), (5, .int x5), (6, .int x6)] → fx_F D h0 h H locs cells slots → W p l e R s m args below meth c H locs cells slots (fx_Z D below s h0 (fx_oI Q fx_no)) (F0 m 77 ls [.int sx0]) := by
  unfold m_M_feed_77 at hw
  intro ls H locs cells slots hv F
  refine lv_istore (lv' := [(7, .int sx0), (0, .ref r0), (1, .int x1), (2, .int x2), (3, .int x3), (4, .int x4), (5, .int x5), (6, .int x6)]) C.ex C.by d_M_feed_77 hv (by decide) rfl (fun ls hv => ?_)
  refine lv_aload_n C.ex C.by d_M_feed_79 rfl (lv_at hv 1 rfl) ?_
  obtain ⟨hk1, hw⟩ := hw
  obtain ⟨b1, hb1, hw⟩ := hw
  refine fx_getR C F lf_M_8 hk1 rfl hb1 d_M_feed_80 ?_
  refine lv_aload_n C.ex C.by d_M_feed_83 rfl (lv_at hv 1 rfl) ?_
  refine fx_getI C F lf_M_328 hk1 rfl d_M_feed_84 ?_
  refine lv_iload C.ex C.by d_M_feed_87 (lv_at hv 7 rfl) ?_
  refine lv_iadd C.ex C.by d_M_feed_89 ?_
  refine lv_iload C.ex C.by d_M_feed_90 (lv_at hv 0 rfl) ?_
  refine lv_bipush (v := (8 : Int32)) C.ex C.by d_M_feed_92 (by decide) ?_
  refine lv_iconst (v := (3 : Int32)) C.ex C.by d_M_feed_94 (by decide) ?_
  refine lv_iload C.ex C.by d_M_feed_95 (lv_at hv 7 rfl) ?_
  refine lv_iconst (v := (4 : Int32)) C.ex C.by d_M_feed_97 (by decide) ?_
  refine lv_irem C.ex C.by d_M_feed_98 (by decide) ?_
  refine lv_isub C.ex C.by d_M_feed_99 ?_
  refine lv_imul C.ex C.by d_M_feed_100 ?_
  refine lv_ishr C.ex C.by d_M_feed_101 ?_
  refine lv_i2b (v := (((sx0 >>> (((8 : Int32) * ((3 : Int32) - (x6 - x6 / (4 : Int32) * (4 : Int32)))) &&& 31))).toInt8.toInt32)) C.ex C.by d_M_feed_102 rfl ?_
  obtain ⟨hk2, hw⟩ := hw
  obtain ⟨hi1, hw⟩ := hw
  let h1 : AH := up_I h b1 (((hp_I h r0 4) + x6)).toNatClampNeg ((((sx0 >>> (((8 : Int32) * ((3 : Int32) - (x6 - x6 / (4 : Int32) * (4 : Int32)))) &&& 31))).toInt8.toInt32)).toInt8.toInt32
  replace hw := hw h1 rfl
  refine fx_bast C F hk2 hi1 d_M_feed_103 (fun H locs (F : fx_F D h0 h1 H locs _ _) => ?_)
  let v1 : Int32 := (x6 + (1 : Int32))
  replace hw := hw v1 rfl
  refine lv_iinc (v := v1) (k := 7) (lv' := [(6, .int v1), (7, .int sx0), (0, .ref r0), (1, .int x1), (2, .int x2), (3, .int x3), (4, .int x4), (5, .int x5)]) C.ex C.by d_M_feed_104 hv rfl (congrArg (fun z => x6 + z) (by decide)) (by decide) rfl (fun ls hv => ?_)
  refine lv_goto C.ex C.by d_M_feed_107 rfl ?_
  exact hX24 _ hw _ _ _ _ _ (lv_sub hv [2, 3, 4, 5, 6, 7, 0] rfl) F
theorem b_M_feed_24 {p : Program} {l : Launch} {e : Env} {R : Room} {s : State} {m : MethodId} {args : Array Value} {below : List Frame} {meth : Method} {c : Code} {D : DD} {h0 : AH} {Q : Int32 → AH → Prop} (C : fx_CX D y_M_feed prog_15_method_59_code 8 1 13 (Option.some FieldType.int) [] h0 p R s m meth c) (hl : l.flags = flags0) (r0 : Nat) (x1 : Int32) (x2 : Int32) (x3 : Int32) (x4 : Int32) (x5 : Int32) (x6 : Int32) (h : AH) (hw : m_M_feed_24 Q r0 x1 x2 x3 x4 x5 x6 h) : ∀ (ls : Array Slot) (H : Heap) (locs : List Loc) (cells slots : Nat), lv_has ls 8 [(0, .ref r0), (1, .int x1), (2, .int x2), (3, .int x3), (4, .int x4), (5, .int x5), (6, .int x6)] → fx_F D h0 h H locs cells slots → W p l e R s m args below meth c H locs cells slots (fx_Z D below s h0 (fx_oI Q fx_no)) (F0 m 24 ls []) := by
  refine fx_loop.use hw (fun st => ∀ (ls : Array Slot) (H : Heap) (locs : List Loc) (cells slots : Nat), lv_has ls 8 [(0, .ref r0), (1, .int x1), (2, .int x2), (3, .int x3), (4, .int x4), (5, .int x5), (6, .int st.1)] → fx_F D h0 st.2 H locs cells slots → W p l e R s m args below meth c H locs cells slots (fx_Z D below s h0 (fx_oI Q fx_no)) (F0 m 24 ls [])) (fun X24 st hX24 hw => ?_)
  obtain ⟨x6, h⟩ := st
  replace hw : m_M_feed_24_b Q X24 r0 x1 x2 x3 x4 x5 x6 h := hw
  unfold m_M_feed_24_b at hw
  intro ls H locs cells slots hv F
  refine lv_iload C.ex C.by d_M_feed_24 (lv_at hv 6 rfl) ?_
  refine lv_bipush (v := (20 : Int32)) C.ex C.by d_M_feed_26 (by decide) ?_
  refine lv_icmp_ge C.ex C.by d_M_feed_28 rfl (fun hc => ?_) (fun hc => ?_)
  · replace hw := hw.1 hc
    refine lv_aload_n C.ex C.by d_M_feed_110 rfl (lv_at hv 0 rfl) ?_
    refine lv_dup C.ex C.by d_M_feed_111 rfl ?_
    obtain ⟨hk1, hw⟩ := hw
    refine fx_getI C F lf_M_328 hk1 rfl d_M_feed_112 ?_
    refine lv_bipush (v := (20 : Int32)) C.ex C.by d_M_feed_115 (by decide) ?_
    refine lv_iadd C.ex C.by d_M_feed_117 ?_
    let h1 : AH := up_I h r0 4 ((hp_I h r0 4) + (20 : Int32))
    replace hw := hw h1 rfl
    refine fx_putI C F lf_M_328 hk1 rfl rfl (fx_mayF.no rfl rfl) d_M_feed_118 (fun H locs (F : fx_F D h0 h1 H locs _ _) => ?_)
    refine lv_aload_n C.ex C.by d_M_feed_121 rfl (lv_at hv 0 rfl) ?_
    refine fx_getI C F lf_M_328 hk1 rfl d_M_feed_122 ?_
    exact fx_iret C F d_M_feed_125 (Or.inl ⟨_, rfl, hw⟩)
  · replace hw := hw.2 hc
    refine lv_iload C.ex C.by d_M_feed_31 (lv_at hv 6 rfl) ?_
    refine lv_iconst (v := (4 : Int32)) C.ex C.by d_M_feed_33 (by decide) ?_
    refine lv_icmp_ge C.ex C.by d_M_feed_34 rfl (fun hc => ?_) (fun hc => ?_)
    · replace hw := hw.1 hc
      refine lv_iload C.ex C.by d_M_feed_41 (lv_at hv 6 rfl) ?_
      refine lv_bipush (v := (8 : Int32)) C.ex C.by d_M_feed_43 (by decide) ?_
      refine lv_icmp_ge C.ex C.by d_M_feed_45 rfl (fun hc => ?_) (fun hc => ?_)
      · replace hw := hw.1 hc
        refine lv_iload C.ex C.by d_M_feed_52 (lv_at hv 6 rfl) ?_
        refine lv_bipush (v := (12 : Int32)) C.ex C.by d_M_feed_54 (by decide) ?_
        refine lv_icmp_ge C.ex C.by d_M_feed_56 rfl (fun hc => ?_) (fun hc => ?_)
        · replace hw := hw.1 hc
          refine lv_iload C.ex C.by d_M_feed_63 (lv_at hv 6 rfl) ?_
          refine lv_bipush (v := (16 : Int32)) C.ex C.by d_M_feed_65 (by decide) ?_
          refine lv_icmp_ge C.ex C.by d_M_feed_67 rfl (fun hc => ?_) (fun hc => ?_)
          · replace hw := hw.1 hc
            refine lv_iload C.ex C.by d_M_feed_75 (lv_at hv 5 rfl) ?_
            exact b_M_feed_77 C hl _ _ _ _ _ _ _ _ _ hX24 hw _ _ _ _ _ hv F
          · replace hw := hw.2 hc
            refine lv_iload C.ex C.by d_M_feed_70 (lv_at hv 4 rfl) ?_
            refine lv_goto C.ex C.by d_M_feed_72 rfl ?_
            exact b_M_feed_77 C hl _ _ _ _ _ _ _ _ _ hX24 hw _ _ _ _ _ hv F
        · replace hw := hw.2 hc
          refine lv_iload_n C.ex C.by d_M_feed_59 rfl (lv_at hv 3 rfl) ?_
          refine lv_goto C.ex C.by d_M_feed_60 rfl ?_
          exact b_M_feed_77 C hl _ _ _ _ _ _ _ _ _ hX24 hw _ _ _ _ _ hv F
      · replace hw := hw.2 hc
        refine lv_iload_n C.ex C.by d_M_feed_48 rfl (lv_at hv 2 rfl) ?_
        refine lv_goto C.ex C.by d_M_feed_49 rfl ?_
        exact b_M_feed_77 C hl _ _ _ _ _ _ _ _ _ hX24 hw _ _ _ _ _ hv F
    · replace hw := hw.2 hc
      refine lv_iload_n C.ex C.by d_M_feed_37 rfl (lv_at hv 1 rfl) ?_
      refine lv_goto C.ex C.by d_M_feed_38 rfl ?_
      exact b_M_feed_77 C hl _ _ _ _ _ _ _ _ _ hX24 hw _ _ _ _ _ hv F
theorem b_M_feed_0 {p : Program} {l : Launch} {e : Env} {R : Room} {s : State} {m : MethodId} {args : Array Value} {below : List Frame} {meth : Method} {c : Code} {D : DD} {h0 : AH} {Q : Int32 → AH → Prop} (C : fx_CX D y_M_feed prog_15_method_59_code 8 1 13 (Option.some FieldType.int) [] h0 p R s m meth c) (hl : l.flags = flags0) (r0 : Nat) (x1 : Int32) (x2 : Int32) (x3 : Int32) (x4 : Int32) (x5 : Int32) (h : AH) (hw : m_M_feed Q r0 x1 x2 x3 x4 x5 h) : ∀ (ls : Array Slot) (H : Heap) (locs : List Loc) (cells slots : Nat), lv_has ls 8 [(0, .ref r0), (1, .int x1), (2, .int x2), (3, .int x3), (4, .int x4), (5, .int x5)] → fx_F D h0 h H locs cells slots → W p l e R s m args below meth c H locs cells slots (fx_Z D below s h0 (fx_oI Q fx_no)) (F0 m 0 ls []) := by
  unfold m_M_feed at hw
  intro ls H locs cells slots hv F
  refine lv_aload_n C.ex C.by d_M_feed_0 rfl (lv_at hv 0 rfl) ?_
  refine lv_iconst (v := (0 : Int32)) C.ex C.by d_M_feed_1 (by decide) ?_
  obtain ⟨hk1, hw⟩ := hw
  let h1 : AH := up_I h r0 0 (0 : Int32)
  replace hw := hw h1 rfl
  refine fx_putI C F lf_M_83 hk1 rfl rfl (fx_mayF.no rfl rfl) d_M_feed_2 (fun H locs (F : fx_F D h0 h1 H locs _ _) => ?_)
  refine lv_aload_n C.ex C.by d_M_feed_5 rfl (lv_at hv 0 rfl) ?_
  refine fx_getI C F lf_M_328 hk1 rfl d_M_feed_6 ?_
  refine lv_ldcw (v := (65516 : Int32)) C.ex C.by C.ow (C.tw.at (fx_m7 (List.mem_of_getElem? (i := 173) rfl)) rfl rfl) d_M_feed_9 ?_
  refine lv_icmp_le C.ex C.by d_M_feed_12 rfl (fun hc => ?_) (fun hc => ?_)
  · replace hw := hw.1 hc
    refine lv_iconst (v := (0 : Int32)) C.ex C.by d_M_feed_21 (by decide) ?_
    refine lv_istore (lv' := [(6, .int (0 : Int32)), (0, .ref r0), (1, .int x1), (2, .int x2), (3, .int x3), (4, .int x4), (5, .int x5)]) C.ex C.by d_M_feed_22 hv (by decide) rfl (fun ls hv => ?_)
    exact b_M_feed_24 C hl _ _ _ _ _ _ _ _ hw _ _ _ _ _ (lv_sub hv [1, 2, 3, 4, 5, 6, 0] rfl) F
  · replace hw := hw.2 hc
    refine lv_aload_n C.ex C.by d_M_feed_15 rfl (lv_at hv 0 rfl) ?_
    refine lv_iconst (v := (1 : Int32)) C.ex C.by d_M_feed_16 (by decide) ?_
    refine fx_callI C F (c_M_fail hl hw) hm_M_fail hi_M_fail hv.1 (by decide) (Nat.le_of_ble_eq_true rfl) (iv_M_fail C F lm_M_362 hk1 d_M_feed_17) (fx_out0 _) fx_eno (fun v1 h2 H locs cells slots hw hx1 F => ?_)
    replace hw := hw hx1
    have hk1 := (hx1).k hk1
    exact fx_iret C F d_M_feed_20 (Or.inl ⟨_, rfl, hw⟩)
theorem hm_M_feed : fx_hd y_M_feed prog_15_method_59_code 8 (Option.some FieldType.int) [] ∈ tables_1 := (fx_m7 (List.mem_of_getElem? (i := 172) rfl))
theorem hi_M_feed : Cond.initialized y_M_feed.cls ∈ tables_1 := (fx_m1 (List.mem_of_getElem? (i := 15) rfl))
theorem c_M_feed {l : Launch} (hl : l.flags = flags0) {D : DD} {Q : Int32 → AH → Prop} {r0 : Nat} {x1 : Int32} {x2 : Int32} {x3 : Int32} {x4 : Int32} {x5 : Int32} {h : AH} (hw : m_M_feed Q r0 x1 x2 x3 x4 x5 h) : fx_Mt l D y_M_feed (fx_hd y_M_feed prog_15_method_59_code 8 (Option.some FieldType.int) []) 1 13 [.ref r0, .int x1, .int x2, .int x3, .int x4, .int x5] h (fx_oI Q fx_no) := by
  refine fx_ofW (plainFor_of_name (by decide)) (fun p e s m below meth c C F => ?_)
  have hv := lv_entry ([.ref r0, .int x1, .int x2, .int x3, .int x4, .int x5]) (n := 8) (Nat.le_of_ble_eq_true rfl)
  rw [lg_entry_eq]
  generalize (lg_sl ([.ref r0, .int x1, .int x2, .int x3, .int x4, .int x5]) ++ List.replicate (8 - (lg_sl ([.ref r0, .int x1, .int x2, .int x3, .int x4, .int x5])).length) Slot.unset).toArray = ls at hv ⊢
  have hv : lv_has ls 8 [(0, .ref r0), (1, .int x1), (2, .int x2), (3, .int x3), (4, .int x4), (5, .int x5)] := hv
  exact b_M_feed_0 C hl _ _ _ _ _ _ _ hw _ _ _ _ _ hv F
/-! ChainJudgeModel.end(I)I: frames 1, words 13 -/
abbrev y_M_end : MethodName := ⟨"ChainJudgeModel", "end", "(I)I"⟩
def dl_M_end : List (Nat × Instr × Nat) := [(0, .aload_n 0, 1), (1, .iconst 0, 1), (2, .putfield 83, 3), (5, .iload_n 1, 1), (6, .ifCond .lt 11, 3), (9, .iload_n 1, 1), (10, .aload_n 0, 1), (11, .getfield 328, 3), (14, .if_icmp .le 9, 3), (17, .aload_n 0, 1), (18, .iconst 1, 1), (19, .invokevirtual 362, 3), (22, .ireturn, 1), (23, .aload_n 0, 1), (24, .iload_n 1, 1), (25, .putfield 328, 3), (28, .iload_n 1, 1), (29, .ireturn, 1)]
theorem dk_M_end : fx_dec prog_15_method_60_code dl_M_end = true := by decide +kernel
theorem d_M_end_0 : decode prog_15_method_60_code 0 = .ok (.aload_n 0, 1) := fx_dat dk_M_end 0 rfl
theorem d_M_end_1 : decode prog_15_method_60_code 1 = .ok (.iconst 0, 1) := fx_dat dk_M_end 1 rfl
theorem d_M_end_2 : decode prog_15_method_60_code 2 = .ok (.putfield 83, 3) := fx_dat dk_M_end 2 rfl
theorem d_M_end_5 : decode prog_15_method_60_code 5 = .ok (.iload_n 1, 1) := fx_dat dk_M_end 3 rfl
theorem d_M_end_6 : decode prog_15_method_60_code 6 = .ok (.ifCond .lt 11, 3) := fx_dat dk_M_end 4 rfl
theorem d_M_end_9 : decode prog_15_method_60_code 9 = .ok (.iload_n 1, 1) := fx_dat dk_M_end 5 rfl
theorem d_M_end_10 : decode prog_15_method_60_code 10 = .ok (.aload_n 0, 1) := fx_dat dk_M_end 6 rfl
theorem d_M_end_11 : decode prog_15_method_60_code 11 = .ok (.getfield 328, 3) := fx_dat dk_M_end 7 rfl
theorem d_M_end_14 : decode prog_15_method_60_code 14 = .ok (.if_icmp .le 9, 3) := fx_dat dk_M_end 8 rfl
theorem d_M_end_17 : decode prog_15_method_60_code 17 = .ok (.aload_n 0, 1) := fx_dat dk_M_end 9 rfl
theorem d_M_end_18 : decode prog_15_method_60_code 18 = .ok (.iconst 1, 1) := fx_dat dk_M_end 10 rfl
theorem d_M_end_19 : decode prog_15_method_60_code 19 = .ok (.invokevirtual 362, 3) := fx_dat dk_M_end 11 rfl
theorem d_M_end_22 : decode prog_15_method_60_code 22 = .ok (.ireturn, 1) := fx_dat dk_M_end 12 rfl
theorem d_M_end_23 : decode prog_15_method_60_code 23 = .ok (.aload_n 0, 1) := fx_dat dk_M_end 13 rfl
theorem d_M_end_24 : decode prog_15_method_60_code 24 = .ok (.iload_n 1, 1) := fx_dat dk_M_end 14 rfl
theorem d_M_end_25 : decode prog_15_method_60_code 25 = .ok (.putfield 328, 3) := fx_dat dk_M_end 15 rfl
theorem d_M_end_28 : decode prog_15_method_60_code 28 = .ok (.iload_n 1, 1) := fx_dat dk_M_end 16 rfl
theorem d_M_end_29 : decode prog_15_method_60_code 29 = .ok (.ireturn, 1) := fx_dat dk_M_end 17 rfl
def m_M_end_17 (Q : Int32 → AH → Prop) (r0 : Nat) (h : AH) : Prop := hp_k h r0 = 13 ∧ m_M_fail (fun v1 h1 => fx_ext h h1 → Q v1 h1) r0 (1 : Int32) h
def m_M_end (Q : Int32 → AH → Prop) (r0 : Nat) (x1 : Int32) (h : AH) : Prop := hp_k h r0 = 13 ∧ ∀ h1 : AH, h1 = up_I h r0 0 (0 : Int32) → (x1 < 0 → m_M_end_17 Q r0 h1) ∧ (¬ x1 < 0 → (x1 ≤ (hp_I h1 r0 4) → ∀ h2 : AH, h2 = up_I h1 r0 4 x1 → Q x1 h2) ∧ (¬ x1 ≤ (hp_I h1 r0 4) → m_M_end_17 Q r0 h1))
theorem b_M_end_17 {p : Program} {l : Launch} {e : Env} {R : Room} {s : State} {m : MethodId} {args : Array Value} {below : List Frame} {meth : Method} {c : Code} {D : DD} {h0 : AH} {Q : Int32 → AH → Prop} (C : fx_CX D y_M_end prog_15_method_60_code 2 1 13 (Option.some FieldType.int) [] h0 p R s m meth c) (hl : l.flags = flags0) (r0 : Nat) (h : AH) (hw : m_M_end_17 Q r0 h) : ∀ (ls : Array Slot) (H : Heap) (locs : List Loc) (cells slots : Nat), lv_has ls 2 [(0, .ref r0)] → fx_F D h0 h H locs cells slots → W p l e R s m args below meth c H locs cells slots (fx_Z D below s h0 (fx_oI Q fx_no)) (F0 m 17 ls []) := by
  unfold m_M_end_17 at hw
  intro ls H locs cells slots hv F
  refine lv_aload_n C.ex C.by d_M_end_17 rfl (lv_at hv 0 rfl) ?_
  refine lv_iconst (v := (1 : Int32)) C.ex C.by d_M_end_18 (by decide) ?_
  obtain ⟨hk1, hw⟩ := hw
  refine fx_callI C F (c_M_fail hl hw) hm_M_fail hi_M_fail hv.1 (by decide) (Nat.le_of_ble_eq_true rfl) (iv_M_fail C F lm_M_362 hk1 d_M_end_19) (fx_out0 _) fx_eno (fun v1 h1 H locs cells slots hw hx1 F => ?_)
  replace hw := hw hx1
  have hk1 := (hx1).k hk1
  exact fx_iret C F d_M_end_22 (Or.inl ⟨_, rfl, hw⟩)
theorem b_M_end_0 {p : Program} {l : Launch} {e : Env} {R : Room} {s : State} {m : MethodId} {args : Array Value} {below : List Frame} {meth : Method} {c : Code} {D : DD} {h0 : AH} {Q : Int32 → AH → Prop} (C : fx_CX D y_M_end prog_15_method_60_code 2 1 13 (Option.some FieldType.int) [] h0 p R s m meth c) (hl : l.flags = flags0) (r0 : Nat) (x1 : Int32) (h : AH) (hw : m_M_end Q r0 x1 h) : ∀ (ls : Array Slot) (H : Heap) (locs : List Loc) (cells slots : Nat), lv_has ls 2 [(0, .ref r0), (1, .int x1)] → fx_F D h0 h H locs cells slots → W p l e R s m args below meth c H locs cells slots (fx_Z D below s h0 (fx_oI Q fx_no)) (F0 m 0 ls []) := by
  unfold m_M_end at hw
  intro ls H locs cells slots hv F
  refine lv_aload_n C.ex C.by d_M_end_0 rfl (lv_at hv 0 rfl) ?_
  refine lv_iconst (v := (0 : Int32)) C.ex C.by d_M_end_1 (by decide) ?_
  obtain ⟨hk1, hw⟩ := hw
  let h1 : AH := up_I h r0 0 (0 : Int32)
  replace hw := hw h1 rfl
  refine fx_putI C F lf_M_83 hk1 rfl rfl (fx_mayF.no rfl rfl) d_M_end_2 (fun H locs (F : fx_F D h0 h1 H locs _ _) => ?_)
  refine lv_iload_n C.ex C.by d_M_end_5 rfl (lv_at hv 1 rfl) ?_
  refine lv_if_lt C.ex C.by d_M_end_6 rfl (fun hc => ?_) (fun hc => ?_)
  · replace hw := hw.1 hc
    exact b_M_end_17 C hl _ _ hw _ _ _ _ _ (lv_sub hv [0] rfl) F
  · replace hw := hw.2 hc
    refine lv_iload_n C.ex C.by d_M_end_9 rfl (lv_at hv 1 rfl) ?_
    refine lv_aload_n C.ex C.by d_M_end_10 rfl (lv_at hv 0 rfl) ?_
    refine fx_getI C F lf_M_328 hk1 rfl d_M_end_11 ?_
    refine lv_icmp_le C.ex C.by d_M_end_14 rfl (fun hc => ?_) (fun hc => ?_)
    · replace hw := hw.1 hc
      refine lv_aload_n C.ex C.by d_M_end_23 rfl (lv_at hv 0 rfl) ?_
      refine lv_iload_n C.ex C.by d_M_end_24 rfl (lv_at hv 1 rfl) ?_
      let h2 : AH := up_I h1 r0 4 x1
      replace hw := hw h2 rfl
      refine fx_putI C F lf_M_328 hk1 rfl rfl (fx_mayF.no rfl rfl) d_M_end_25 (fun H locs (F : fx_F D h0 h2 H locs _ _) => ?_)
      refine lv_iload_n C.ex C.by d_M_end_28 rfl (lv_at hv 1 rfl) ?_
      exact fx_iret C F d_M_end_29 (Or.inl ⟨_, rfl, hw⟩)
    · replace hw := hw.2 hc
      exact b_M_end_17 C hl _ _ hw _ _ _ _ _ (lv_sub hv [0] rfl) F
theorem hm_M_end : fx_hd y_M_end prog_15_method_60_code 2 (Option.some FieldType.int) [] ∈ tables_1 := (fx_m7 (List.mem_of_getElem? (i := 177) rfl))
theorem hi_M_end : Cond.initialized y_M_end.cls ∈ tables_1 := (fx_m1 (List.mem_of_getElem? (i := 15) rfl))
theorem c_M_end {l : Launch} (hl : l.flags = flags0) {D : DD} {Q : Int32 → AH → Prop} {r0 : Nat} {x1 : Int32} {h : AH} (hw : m_M_end Q r0 x1 h) : fx_Mt l D y_M_end (fx_hd y_M_end prog_15_method_60_code 2 (Option.some FieldType.int) []) 1 13 [.ref r0, .int x1] h (fx_oI Q fx_no) := by
  refine fx_ofW (plainFor_of_name (by decide)) (fun p e s m below meth c C F => ?_)
  have hv := lv_entry ([.ref r0, .int x1]) (n := 2) (Nat.le_of_ble_eq_true rfl)
  rw [lg_entry_eq]
  generalize (lg_sl ([.ref r0, .int x1]) ++ List.replicate (2 - (lg_sl ([.ref r0, .int x1])).length) Slot.unset).toArray = ls at hv ⊢
  have hv : lv_has ls 2 [(0, .ref r0), (1, .int x1)] := hv
  exact b_M_end_0 C hl _ _ _ hw _ _ _ _ _ hv F
/-! ChainJudgeModel.key()I: frames 1, words 13 -/
abbrev y_M_key_ : MethodName := ⟨"ChainJudgeModel", "key", "()I"⟩
def dl_M_key_ : List (Nat × Instr × Nat) := [(0, .aload_n 0, 1), (1, .iconst 0, 1), (2, .putfield 83, 3), (5, .aload_n 0, 1), (6, .getfield 353, 3), (9, .bipush 100, 2), (11, .if_icmp .ne 9, 3), (14, .aload_n 0, 1), (15, .iconst 1, 1), (16, .invokevirtual 362, 3), (19, .ireturn, 1), (20, .iconst 0, 1), (21, .istore_n 1, 1), (22, .iload_n 1, 1), (23, .bipush 32, 2), (25, .if_icmp .ge 41, 3), (28, .aload_n 0, 1), (29, .getfield 14, 3), (32, .bipush 32, 2), (34, .aload_n 0, 1), (35, .getfield 353, 3), (38, .imul, 1), (39, .iload_n 1, 1), (40, .iadd, 1), (41, .iload_n 1, 1), (42, .aload_n 0, 1), (43, .getfield 328, 3), (46, .if_icmp .ge 12, 3), (49, .aload_n 0, 1), (50, .getfield 8, 3), (53, .iload_n 1, 1), (54, .baload, 1), (55, .goto 4, 3), (58, .iconst 0, 1), (59, .bastore, 1), (60, .iinc 1 1, 3), (63, .goto (-41), 3), (66, .aload_n 0, 1), (67, .iconst 0, 1), (68, .putfield 328, 3), (71, .aload_n 0, 1), (72, .dup, 1), (73, .getfield 353, 3), (76, .iconst 1, 1), (77, .iadd, 1), (78, .putfield 353, 3), (81, .aload_n 0, 1), (82, .getfield 353, 3), (85, .iconst 1, 1), (86, .isub, 1), (87, .ireturn, 1)]
theorem dk_M_key_ : fx_dec prog_15_method_61_code dl_M_key_ = true := by decide +kernel
theorem d_M_key__0 : decode prog_15_method_61_code 0 = .ok (.aload_n 0, 1) := fx_dat dk_M_key_ 0 rfl
theorem d_M_key__1 : decode prog_15_method_61_code 1 = .ok (.iconst 0, 1) := fx_dat dk_M_key_ 1 rfl
theorem d_M_key__2 : decode prog_15_method_61_code 2 = .ok (.putfield 83, 3) := fx_dat dk_M_key_ 2 rfl
theorem d_M_key__5 : decode prog_15_method_61_code 5 = .ok (.aload_n 0, 1) := fx_dat dk_M_key_ 3 rfl
theorem d_M_key__6 : decode prog_15_method_61_code 6 = .ok (.getfield 353, 3) := fx_dat dk_M_key_ 4 rfl
theorem d_M_key__9 : decode prog_15_method_61_code 9 = .ok (.bipush 100, 2) := fx_dat dk_M_key_ 5 rfl
theorem d_M_key__11 : decode prog_15_method_61_code 11 = .ok (.if_icmp .ne 9, 3) := fx_dat dk_M_key_ 6 rfl
theorem d_M_key__14 : decode prog_15_method_61_code 14 = .ok (.aload_n 0, 1) := fx_dat dk_M_key_ 7 rfl
theorem d_M_key__15 : decode prog_15_method_61_code 15 = .ok (.iconst 1, 1) := fx_dat dk_M_key_ 8 rfl
theorem d_M_key__16 : decode prog_15_method_61_code 16 = .ok (.invokevirtual 362, 3) := fx_dat dk_M_key_ 9 rfl
theorem d_M_key__19 : decode prog_15_method_61_code 19 = .ok (.ireturn, 1) := fx_dat dk_M_key_ 10 rfl
theorem d_M_key__20 : decode prog_15_method_61_code 20 = .ok (.iconst 0, 1) := fx_dat dk_M_key_ 11 rfl
theorem d_M_key__21 : decode prog_15_method_61_code 21 = .ok (.istore_n 1, 1) := fx_dat dk_M_key_ 12 rfl
theorem d_M_key__22 : decode prog_15_method_61_code 22 = .ok (.iload_n 1, 1) := fx_dat dk_M_key_ 13 rfl
theorem d_M_key__23 : decode prog_15_method_61_code 23 = .ok (.bipush 32, 2) := fx_dat dk_M_key_ 14 rfl
theorem d_M_key__25 : decode prog_15_method_61_code 25 = .ok (.if_icmp .ge 41, 3) := fx_dat dk_M_key_ 15 rfl
theorem d_M_key__28 : decode prog_15_method_61_code 28 = .ok (.aload_n 0, 1) := fx_dat dk_M_key_ 16 rfl
theorem d_M_key__29 : decode prog_15_method_61_code 29 = .ok (.getfield 14, 3) := fx_dat dk_M_key_ 17 rfl
theorem d_M_key__32 : decode prog_15_method_61_code 32 = .ok (.bipush 32, 2) := fx_dat dk_M_key_ 18 rfl
theorem d_M_key__34 : decode prog_15_method_61_code 34 = .ok (.aload_n 0, 1) := fx_dat dk_M_key_ 19 rfl
theorem d_M_key__35 : decode prog_15_method_61_code 35 = .ok (.getfield 353, 3) := fx_dat dk_M_key_ 20 rfl
theorem d_M_key__38 : decode prog_15_method_61_code 38 = .ok (.imul, 1) := fx_dat dk_M_key_ 21 rfl
theorem d_M_key__39 : decode prog_15_method_61_code 39 = .ok (.iload_n 1, 1) := fx_dat dk_M_key_ 22 rfl
theorem d_M_key__40 : decode prog_15_method_61_code 40 = .ok (.iadd, 1) := fx_dat dk_M_key_ 23 rfl
theorem d_M_key__41 : decode prog_15_method_61_code 41 = .ok (.iload_n 1, 1) := fx_dat dk_M_key_ 24 rfl
theorem d_M_key__42 : decode prog_15_method_61_code 42 = .ok (.aload_n 0, 1) := fx_dat dk_M_key_ 25 rfl
theorem d_M_key__43 : decode prog_15_method_61_code 43 = .ok (.getfield 328, 3) := fx_dat dk_M_key_ 26 rfl
theorem d_M_key__46 : decode prog_15_method_61_code 46 = .ok (.if_icmp .ge 12, 3) := fx_dat dk_M_key_ 27 rfl
theorem d_M_key__49 : decode prog_15_method_61_code 49 = .ok (.aload_n 0, 1) := fx_dat dk_M_key_ 28 rfl
theorem d_M_key__50 : decode prog_15_method_61_code 50 = .ok (.getfield 8, 3) := fx_dat dk_M_key_ 29 rfl
theorem d_M_key__53 : decode prog_15_method_61_code 53 = .ok (.iload_n 1, 1) := fx_dat dk_M_key_ 30 rfl
theorem d_M_key__54 : decode prog_15_method_61_code 54 = .ok (.baload, 1) := fx_dat dk_M_key_ 31 rfl
theorem d_M_key__55 : decode prog_15_method_61_code 55 = .ok (.goto 4, 3) := fx_dat dk_M_key_ 32 rfl
theorem d_M_key__58 : decode prog_15_method_61_code 58 = .ok (.iconst 0, 1) := fx_dat dk_M_key_ 33 rfl
theorem d_M_key__59 : decode prog_15_method_61_code 59 = .ok (.bastore, 1) := fx_dat dk_M_key_ 34 rfl
theorem d_M_key__60 : decode prog_15_method_61_code 60 = .ok (.iinc 1 1, 3) := fx_dat dk_M_key_ 35 rfl
theorem d_M_key__63 : decode prog_15_method_61_code 63 = .ok (.goto (-41), 3) := fx_dat dk_M_key_ 36 rfl
theorem d_M_key__66 : decode prog_15_method_61_code 66 = .ok (.aload_n 0, 1) := fx_dat dk_M_key_ 37 rfl
theorem d_M_key__67 : decode prog_15_method_61_code 67 = .ok (.iconst 0, 1) := fx_dat dk_M_key_ 38 rfl
theorem d_M_key__68 : decode prog_15_method_61_code 68 = .ok (.putfield 328, 3) := fx_dat dk_M_key_ 39 rfl
theorem d_M_key__71 : decode prog_15_method_61_code 71 = .ok (.aload_n 0, 1) := fx_dat dk_M_key_ 40 rfl
theorem d_M_key__72 : decode prog_15_method_61_code 72 = .ok (.dup, 1) := fx_dat dk_M_key_ 41 rfl
theorem d_M_key__73 : decode prog_15_method_61_code 73 = .ok (.getfield 353, 3) := fx_dat dk_M_key_ 42 rfl
theorem d_M_key__76 : decode prog_15_method_61_code 76 = .ok (.iconst 1, 1) := fx_dat dk_M_key_ 43 rfl
theorem d_M_key__77 : decode prog_15_method_61_code 77 = .ok (.iadd, 1) := fx_dat dk_M_key_ 44 rfl
theorem d_M_key__78 : decode prog_15_method_61_code 78 = .ok (.putfield 353, 3) := fx_dat dk_M_key_ 45 rfl
theorem d_M_key__81 : decode prog_15_method_61_code 81 = .ok (.aload_n 0, 1) := fx_dat dk_M_key_ 46 rfl
theorem d_M_key__82 : decode prog_15_method_61_code 82 = .ok (.getfield 353, 3) := fx_dat dk_M_key_ 47 rfl
theorem d_M_key__85 : decode prog_15_method_61_code 85 = .ok (.iconst 1, 1) := fx_dat dk_M_key_ 48 rfl
theorem d_M_key__86 : decode prog_15_method_61_code 86 = .ok (.isub, 1) := fx_dat dk_M_key_ 49 rfl
theorem d_M_key__87 : decode prog_15_method_61_code 87 = .ok (.ireturn, 1) := fx_dat dk_M_key_ 50 rfl
def m_M_key__59 (Q : Int32 → AH → Prop) (X22 : Int32 × AH → Prop) (r0 : Nat) (x1 : Int32) (sr0 : Nat) (sx1 : Int32) (sx2 : Int32) (h : AH) : Prop := hp_k h sr0 = 101 ∧ vp_in sx1 (hp_n h sr0) ∧ ∀ h1 : AH, h1 = up_I h sr0 (sx1).toNatClampNeg (sx2).toInt8.toInt32 → ∀ v1 : Int32, v1 = (x1 + (1 : Int32)) → X22 (v1, h1)
def m_M_key__22_b (Q : Int32 → AH → Prop) (X22 : Int32 × AH → Prop) (r0 : Nat) (x1 : Int32) (h : AH) : Prop := ((32 : Int32) ≤ x1 → hp_k h r0 = 13 ∧ ∀ h1 : AH, h1 = up_I h r0 4 (0 : Int32) → ∀ h2 : AH, h2 = up_I h1 r0 5 ((hp_I h1 r0 5) + (1 : Int32)) → Q ((hp_I h2 r0 5) - (1 : Int32)) h2) ∧ (¬ (32 : Int32) ≤ x1 → hp_k h r0 = 13 ∧ ∃ b1, hp_R h r0 2 = some b1 ∧ ((hp_I h r0 4) ≤ x1 → m_M_key__59 Q X22 r0 x1 b1 (((32 : Int32) * (hp_I h r0 5)) + x1) (0 : Int32) h) ∧ (¬ (hp_I h r0 4) ≤ x1 → ∃ b2, hp_R h r0 1 = some b2 ∧ bk (hp_k h b2) ∧ vp_in x1 (hp_n h b2) ∧ (by8 (hp_I h b2 x1.toNatClampNeg) → m_M_key__59 Q X22 r0 x1 b1 (((32 : Int32) * (hp_I h r0 5)) + x1) (hp_I h b2 x1.toNatClampNeg) h)))
def m_M_key__22 (Q : Int32 → AH → Prop) (r0 : Nat) (x1 : Int32) (h : AH) : Prop := fx_loop (fun (X22 : Int32 × AH → Prop) (st : Int32 × AH) => m_M_key__22_b Q X22 r0 st.1 st.2) (x1, h)
def m_M_key_ (Q : Int32 → AH → Prop) (r0 : Nat) (h : AH) : Prop := hp_k h r0 = 13 ∧ ∀ h1 : AH, h1 = up_I h r0 0 (0 : Int32) → (¬ (hp_I h1 r0 5) = (100 : Int32) → m_M_key__22 Q r0 (0 : Int32) h1) ∧ ((hp_I h1 r0 5) = (100 : Int32) → m_M_fail (fun v1 h2 => fx_ext h1 h2 → Q v1 h2) r0 (1 : Int32) h1)
theorem b_M_key__59 {p : Program} {l : Launch} {e : Env} {R : Room} {s : State} {m : MethodId} {args : Array Value} {below : List Frame} {meth : Method} {c : Code} {D : DD} {h0 : AH} {Q : Int32 → AH → Prop} {X22 : Int32 × AH → Prop} (C : fx_CX D y_M_key_ prog_15_method_61_code 2 1 13 (Option.some FieldType.int) [] h0 p R s m meth c) (hl : l.flags = flags0) (r0 : Nat) (x1 : Int32) (sr0 : Nat) (sx1 : Int32) (sx2 : Int32) (h : AH) (hX22 : ∀ st, X22 st → ∀ (ls : Array Slot) (H : Heap) (locs : List Loc) (cells slots : Nat), lv_has ls 2 [(0, .ref r0), (1, .int st.1)] → fx_F D h0 st.2 H locs cells slots → W p l e R s m args below meth c H locs cells slots (fx_Z D below s h0 (fx_oI Q fx_no)) (F0 m 22 ls [])) (hw : m_M_key__59 Q X22 r0 x1 sr0 sx1 sx2 h) : ∀ (ls : Array Slot) (H : Heap) (locs : List Loc) (cells slots : Nat), lv_has ls 2 [(0, .ref r0), (1, .int x1)] → fx_F D h0 h H locs cells slots → W p l e R s m args below meth c H locs cells slots (fx_Z D below s h0 (fx_oI Q fx_no)) (F0 m 59 ls [.int sx2, .int sx1, .ref sr0]) := by
  unfold m_M_key__59 at hw
  intro ls H locs cells slots hv F
  obtain ⟨hk1, hw⟩ := hw
  obtain ⟨hi1, hw⟩ := hw
  let h1 : AH := up_I h sr0 (sx1).toNatClampNeg (sx2).toInt8.toInt32
  replace hw := hw h1 rfl
  refine fx_bast C F hk1 hi1 d_M_key__59 (fun H locs (F : fx_F D h0 h1 H locs _ _) => ?_)
  let v1 : Int32 := (x1 + (1 : Int32))
  replace hw := hw v1 rfl
  refine lv_iinc (v := v1) (k := 1) (lv' := [(1, .int v1), (0, .ref r0)]) C.ex C.by d_M_key__60 hv rfl (congrArg (fun z => x1 + z) (by decide)) (by decide) rfl (fun ls hv => ?_)
  refine lv_goto C.ex C.by d_M_key__63 rfl ?_
  exact hX22 _ hw _ _ _ _ _ (lv_sub hv [1, 0] rfl) F
theorem b_M_key__22 {p : Program} {l : Launch} {e : Env} {R : Room} {s : State} {m : MethodId} {args : Array Value} {below : List Frame} {meth : Method} {c : Code} {D : DD} {h0 : AH} {Q : Int32 → AH → Prop} (C : fx_CX D y_M_key_ prog_15_method_61_code 2 1 13 (Option.some FieldType.int) [] h0 p R s m meth c) (hl : l.flags = flags0) (r0 : Nat) (x1 : Int32) (h : AH) (hw : m_M_key__22 Q r0 x1 h) : ∀ (ls : Array Slot) (H : Heap) (locs : List Loc) (cells slots : Nat), lv_has ls 2 [(0, .ref r0), (1, .int x1)] → fx_F D h0 h H locs cells slots → W p l e R s m args below meth c H locs cells slots (fx_Z D below s h0 (fx_oI Q fx_no)) (F0 m 22 ls []) := by
  refine fx_loop.use hw (fun st => ∀ (ls : Array Slot) (H : Heap) (locs : List Loc) (cells slots : Nat), lv_has ls 2 [(0, .ref r0), (1, .int st.1)] → fx_F D h0 st.2 H locs cells slots → W p l e R s m args below meth c H locs cells slots (fx_Z D below s h0 (fx_oI Q fx_no)) (F0 m 22 ls [])) (fun X22 st hX22 hw => ?_)
  obtain ⟨x1, h⟩ := st
  replace hw : m_M_key__22_b Q X22 r0 x1 h := hw
  unfold m_M_key__22_b at hw
  intro ls H locs cells slots hv F
  refine lv_iload_n C.ex C.by d_M_key__22 rfl (lv_at hv 1 rfl) ?_
  refine lv_bipush (v := (32 : Int32)) C.ex C.by d_M_key__23 (by decide) ?_
  refine lv_icmp_ge C.ex C.by d_M_key__25 rfl (fun hc => ?_) (fun hc => ?_)
  · replace hw := hw.1 hc
    refine lv_aload_n C.ex C.by d_M_key__66 rfl (lv_at hv 0 rfl) ?_
    refine lv_iconst (v := (0 : Int32)) C.ex C.by d_M_key__67 (by decide) ?_
    obtain ⟨hk1, hw⟩ := hw
    let h1 : AH := up_I h r0 4 (0 : Int32)
    replace hw := hw h1 rfl
    refine fx_putI C F lf_M_328 hk1 rfl rfl (fx_mayF.no rfl rfl) d_M_key__68 (fun H locs (F : fx_F D h0 h1 H locs _ _) => ?_)
    refine lv_aload_n C.ex C.by d_M_key__71 rfl (lv_at hv 0 rfl) ?_
    refine lv_dup C.ex C.by d_M_key__72 rfl ?_
    refine fx_getI C F lf_M_353 hk1 rfl d_M_key__73 ?_
    refine lv_iconst (v := (1 : Int32)) C.ex C.by d_M_key__76 (by decide) ?_
    refine lv_iadd C.ex C.by d_M_key__77 ?_
    let h2 : AH := up_I h1 r0 5 ((hp_I h1 r0 5) + (1 : Int32))
    replace hw := hw h2 rfl
    refine fx_putI C F lf_M_353 hk1 rfl rfl (fx_mayF.no rfl rfl) d_M_key__78 (fun H locs (F : fx_F D h0 h2 H locs _ _) => ?_)
    refine lv_aload_n C.ex C.by d_M_key__81 rfl (lv_at hv 0 rfl) ?_
    refine fx_getI C F lf_M_353 hk1 rfl d_M_key__82 ?_
    refine lv_iconst (v := (1 : Int32)) C.ex C.by d_M_key__85 (by decide) ?_
    refine lv_isub C.ex C.by d_M_key__86 ?_
    exact fx_iret C F d_M_key__87 (Or.inl ⟨_, rfl, hw⟩)
  · replace hw := hw.2 hc
    refine lv_aload_n C.ex C.by d_M_key__28 rfl (lv_at hv 0 rfl) ?_
    obtain ⟨hk2, hw⟩ := hw
    obtain ⟨b1, hb1, hw⟩ := hw
    refine fx_getR C F lf_M_14 hk2 rfl hb1 d_M_key__29 ?_
    refine lv_bipush (v := (32 : Int32)) C.ex C.by d_M_key__32 (by decide) ?_
    refine lv_aload_n C.ex C.by d_M_key__34 rfl (lv_at hv 0 rfl) ?_
    refine fx_getI C F lf_M_353 hk2 rfl d_M_key__35 ?_
    refine lv_imul C.ex C.by d_M_key__38 ?_
    refine lv_iload_n C.ex C.by d_M_key__39 rfl (lv_at hv 1 rfl) ?_
    refine lv_iadd C.ex C.by d_M_key__40 ?_
    refine lv_iload_n C.ex C.by d_M_key__41 rfl (lv_at hv 1 rfl) ?_
    refine lv_aload_n C.ex C.by d_M_key__42 rfl (lv_at hv 0 rfl) ?_
    refine fx_getI C F lf_M_328 hk2 rfl d_M_key__43 ?_
    refine lv_icmp_ge C.ex C.by d_M_key__46 rfl (fun hc => ?_) (fun hc => ?_)
    · replace hw := hw.1 hc
      refine lv_iconst (v := (0 : Int32)) C.ex C.by d_M_key__58 (by decide) ?_
      exact b_M_key__59 C hl _ _ _ _ _ _ hX22 hw _ _ _ _ _ hv F
    · replace hw := hw.2 hc
      refine lv_aload_n C.ex C.by d_M_key__49 rfl (lv_at hv 0 rfl) ?_
      obtain ⟨b2, hb2, hw⟩ := hw
      refine fx_getR C F lf_M_8 hk2 rfl hb2 d_M_key__50 ?_
      refine lv_iload_n C.ex C.by d_M_key__53 rfl (lv_at hv 1 rfl) ?_
      obtain ⟨hk3, hw⟩ := hw
      obtain ⟨hi1, hw⟩ := hw
      refine fx_bald C F hk3 hi1 d_M_key__54 (fun h8 => ?_)
      replace hw := hw h8
      refine lv_goto C.ex C.by d_M_key__55 rfl ?_
      exact b_M_key__59 C hl _ _ _ _ _ _ hX22 hw _ _ _ _ _ hv F
theorem b_M_key__0 {p : Program} {l : Launch} {e : Env} {R : Room} {s : State} {m : MethodId} {args : Array Value} {below : List Frame} {meth : Method} {c : Code} {D : DD} {h0 : AH} {Q : Int32 → AH → Prop} (C : fx_CX D y_M_key_ prog_15_method_61_code 2 1 13 (Option.some FieldType.int) [] h0 p R s m meth c) (hl : l.flags = flags0) (r0 : Nat) (h : AH) (hw : m_M_key_ Q r0 h) : ∀ (ls : Array Slot) (H : Heap) (locs : List Loc) (cells slots : Nat), lv_has ls 2 [(0, .ref r0)] → fx_F D h0 h H locs cells slots → W p l e R s m args below meth c H locs cells slots (fx_Z D below s h0 (fx_oI Q fx_no)) (F0 m 0 ls []) := by
  unfold m_M_key_ at hw
  intro ls H locs cells slots hv F
  refine lv_aload_n C.ex C.by d_M_key__0 rfl (lv_at hv 0 rfl) ?_
  refine lv_iconst (v := (0 : Int32)) C.ex C.by d_M_key__1 (by decide) ?_
  obtain ⟨hk1, hw⟩ := hw
  let h1 : AH := up_I h r0 0 (0 : Int32)
  replace hw := hw h1 rfl
  refine fx_putI C F lf_M_83 hk1 rfl rfl (fx_mayF.no rfl rfl) d_M_key__2 (fun H locs (F : fx_F D h0 h1 H locs _ _) => ?_)
  refine lv_aload_n C.ex C.by d_M_key__5 rfl (lv_at hv 0 rfl) ?_
  refine fx_getI C F lf_M_353 hk1 rfl d_M_key__6 ?_
  refine lv_bipush (v := (100 : Int32)) C.ex C.by d_M_key__9 (by decide) ?_
  refine lv_icmp_ne C.ex C.by d_M_key__11 rfl (fun hc => ?_) (fun hc => ?_)
  · replace hw := hw.1 hc
    refine lv_iconst (v := (0 : Int32)) C.ex C.by d_M_key__20 (by decide) ?_
    refine lv_istore_n (lv' := [(1, .int (0 : Int32)), (0, .ref r0)]) C.ex C.by d_M_key__21 rfl hv (by decide) rfl (fun ls hv => ?_)
    exact b_M_key__22 C hl _ _ _ hw _ _ _ _ _ (lv_sub hv [1, 0] rfl) F
  · replace hw := hw.2 hc
    refine lv_aload_n C.ex C.by d_M_key__14 rfl (lv_at hv 0 rfl) ?_
    refine lv_iconst (v := (1 : Int32)) C.ex C.by d_M_key__15 (by decide) ?_
    refine fx_callI C F (c_M_fail hl hw) hm_M_fail hi_M_fail hv.1 (by decide) (Nat.le_of_ble_eq_true rfl) (iv_M_fail C F lm_M_362 hk1 d_M_key__16) (fx_out0 _) fx_eno (fun v1 h2 H locs cells slots hw hx1 F => ?_)
    replace hw := hw hx1
    have hk1 := (hx1).k hk1
    exact fx_iret C F d_M_key__19 (Or.inl ⟨_, rfl, hw⟩)
theorem hm_M_key_ : fx_hd y_M_key_ prog_15_method_61_code 2 (Option.some FieldType.int) [] ∈ tables_1 := (fx_m7 (List.mem_of_getElem? (i := 181) rfl))
theorem hi_M_key_ : Cond.initialized y_M_key_.cls ∈ tables_1 := (fx_m1 (List.mem_of_getElem? (i := 15) rfl))
theorem c_M_key_ {l : Launch} (hl : l.flags = flags0) {D : DD} {Q : Int32 → AH → Prop} {r0 : Nat} {h : AH} (hw : m_M_key_ Q r0 h) : fx_Mt l D y_M_key_ (fx_hd y_M_key_ prog_15_method_61_code 2 (Option.some FieldType.int) []) 1 13 [.ref r0] h (fx_oI Q fx_no) := by
  refine fx_ofW (plainFor_of_name (by decide)) (fun p e s m below meth c C F => ?_)
  have hv := lv_entry ([.ref r0]) (n := 2) (Nat.le_of_ble_eq_true rfl)
  rw [lg_entry_eq]
  generalize (lg_sl ([.ref r0]) ++ List.replicate (2 - (lg_sl ([.ref r0])).length) Slot.unset).toArray = ls at hv ⊢
  have hv : lv_has ls 2 [(0, .ref r0)] := hv
  exact b_M_key__0 C hl _ _ hw _ _ _ _ _ hv F
/-! ChainJudgeModel.add(I)I: frames 1, words 13 -/
abbrev y_M_add : MethodName := ⟨"ChainJudgeModel", "add", "(I)I"⟩
theorem lf_M_396 : fx_Lk "ChainJudgeModel" 396 12 14 := fx_Lk.mk (C := "ChainJudgeModel") (T := fx_T12) (N := 57) rfl (by decide) (by decide) (fx_m6 (List.mem_of_getElem? (i := 20) rfl))
def dl_M_add : List (Nat × Instr × Nat) := [(0, .aload_n 0, 1), (1, .iconst 0, 1), (2, .putfield 83, 3), (5, .aload_n 0, 1), (6, .iload_n 1, 1), (7, .invokevirtual 359, 3), (10, .ifCond .eq 9, 3), (13, .aload_n 0, 1), (14, .iconst 1, 1), (15, .invokevirtual 362, 3), (18, .ireturn, 1), (19, .aload_n 0, 1), (20, .getfield 396, 3), (23, .bipush 16, 2), (25, .if_icmp .ne 9, 3), (28, .aload_n 0, 1), (29, .iconst 2, 1), (30, .invokevirtual 362, 3), (33, .ireturn, 1), (34, .aload_n 0, 1), (35, .getfield 31, 3), (38, .aload_n 0, 1), (39, .getfield 396, 3), (42, .iload_n 1, 1), (43, .iastore, 1), (44, .aload_n 0, 1), (45, .dup, 1), (46, .getfield 396, 3), (49, .iconst 1, 1), (50, .iadd, 1), (51, .putfield 396, 3), (54, .aload_n 0, 1), (55, .getfield 396, 3), (58, .ireturn, 1)]
theorem dk_M_add : fx_dec prog_15_method_62_code dl_M_add = true := by decide +kernel
theorem d_M_add_0 : decode prog_15_method_62_code 0 = .ok (.aload_n 0, 1) := fx_dat dk_M_add 0 rfl
theorem d_M_add_1 : decode prog_15_method_62_code 1 = .ok (.iconst 0, 1) := fx_dat dk_M_add 1 rfl
theorem d_M_add_2 : decode prog_15_method_62_code 2 = .ok (.putfield 83, 3) := fx_dat dk_M_add 2 rfl
theorem d_M_add_5 : decode prog_15_method_62_code 5 = .ok (.aload_n 0, 1) := fx_dat dk_M_add 3 rfl
theorem d_M_add_6 : decode prog_15_method_62_code 6 = .ok (.iload_n 1, 1) := fx_dat dk_M_add 4 rfl
theorem d_M_add_7 : decode prog_15_method_62_code 7 = .ok (.invokevirtual 359, 3) := fx_dat dk_M_add 5 rfl
theorem d_M_add_10 : decode prog_15_method_62_code 10 = .ok (.ifCond .eq 9, 3) := fx_dat dk_M_add 6 rfl
theorem d_M_add_13 : decode prog_15_method_62_code 13 = .ok (.aload_n 0, 1) := fx_dat dk_M_add 7 rfl
theorem d_M_add_14 : decode prog_15_method_62_code 14 = .ok (.iconst 1, 1) := fx_dat dk_M_add 8 rfl
theorem d_M_add_15 : decode prog_15_method_62_code 15 = .ok (.invokevirtual 362, 3) := fx_dat dk_M_add 9 rfl
theorem d_M_add_18 : decode prog_15_method_62_code 18 = .ok (.ireturn, 1) := fx_dat dk_M_add 10 rfl
theorem d_M_add_19 : decode prog_15_method_62_code 19 = .ok (.aload_n 0, 1) := fx_dat dk_M_add 11 rfl
theorem d_M_add_20 : decode prog_15_method_62_code 20 = .ok (.getfield 396, 3) := fx_dat dk_M_add 12 rfl
theorem d_M_add_23 : decode prog_15_method_62_code 23 = .ok (.bipush 16, 2) := fx_dat dk_M_add 13 rfl
theorem d_M_add_25 : decode prog_15_method_62_code 25 = .ok (.if_icmp .ne 9, 3) := fx_dat dk_M_add 14 rfl
theorem d_M_add_28 : decode prog_15_method_62_code 28 = .ok (.aload_n 0, 1) := fx_dat dk_M_add 15 rfl
theorem d_M_add_29 : decode prog_15_method_62_code 29 = .ok (.iconst 2, 1) := fx_dat dk_M_add 16 rfl
theorem d_M_add_30 : decode prog_15_method_62_code 30 = .ok (.invokevirtual 362, 3) := fx_dat dk_M_add 17 rfl
theorem d_M_add_33 : decode prog_15_method_62_code 33 = .ok (.ireturn, 1) := fx_dat dk_M_add 18 rfl
theorem d_M_add_34 : decode prog_15_method_62_code 34 = .ok (.aload_n 0, 1) := fx_dat dk_M_add 19 rfl
theorem d_M_add_35 : decode prog_15_method_62_code 35 = .ok (.getfield 31, 3) := fx_dat dk_M_add 20 rfl
theorem d_M_add_38 : decode prog_15_method_62_code 38 = .ok (.aload_n 0, 1) := fx_dat dk_M_add 21 rfl
theorem d_M_add_39 : decode prog_15_method_62_code 39 = .ok (.getfield 396, 3) := fx_dat dk_M_add 22 rfl
theorem d_M_add_42 : decode prog_15_method_62_code 42 = .ok (.iload_n 1, 1) := fx_dat dk_M_add 23 rfl
theorem d_M_add_43 : decode prog_15_method_62_code 43 = .ok (.iastore, 1) := fx_dat dk_M_add 24 rfl
theorem d_M_add_44 : decode prog_15_method_62_code 44 = .ok (.aload_n 0, 1) := fx_dat dk_M_add 25 rfl
theorem d_M_add_45 : decode prog_15_method_62_code 45 = .ok (.dup, 1) := fx_dat dk_M_add 26 rfl
theorem d_M_add_46 : decode prog_15_method_62_code 46 = .ok (.getfield 396, 3) := fx_dat dk_M_add 27 rfl
theorem d_M_add_49 : decode prog_15_method_62_code 49 = .ok (.iconst 1, 1) := fx_dat dk_M_add 28 rfl
theorem d_M_add_50 : decode prog_15_method_62_code 50 = .ok (.iadd, 1) := fx_dat dk_M_add 29 rfl
theorem d_M_add_51 : decode prog_15_method_62_code 51 = .ok (.putfield 396, 3) := fx_dat dk_M_add 30 rfl
theorem d_M_add_54 : decode prog_15_method_62_code 54 = .ok (.aload_n 0, 1) := fx_dat dk_M_add 31 rfl
theorem d_M_add_55 : decode prog_15_method_62_code 55 = .ok (.getfield 396, 3) := fx_dat dk_M_add 32 rfl
theorem d_M_add_58 : decode prog_15_method_62_code 58 = .ok (.ireturn, 1) := fx_dat dk_M_add 33 rfl
def m_M_add (Q : Int32 → AH → Prop) (r0 : Nat) (x1 : Int32) (h : AH) : Prop := hp_k h r0 = 13 ∧ ∀ h1 : AH, h1 = up_I h r0 0 (0 : Int32) → m_M_none (fun v1 h2 => fx_ext h1 h2 → zb v1 → (v1 = 0 → (¬ (hp_I h2 r0 14) = (16 : Int32) → ∃ b1, hp_R h2 r0 11 = some b1 ∧ hp_k h2 b1 = 102 ∧ vp_in (hp_I h2 r0 14) (hp_n h2 b1) ∧ ∀ h3 : AH, h3 = up_I h2 b1 ((hp_I h2 r0 14)).toNatClampNeg x1 → ∀ h4 : AH, h4 = up_I h3 r0 14 ((hp_I h3 r0 14) + (1 : Int32)) → Q (hp_I h4 r0 14) h4) ∧ ((hp_I h2 r0 14) = (16 : Int32) → m_M_fail (fun v2 h5 => fx_ext h2 h5 → Q v2 h5) r0 (2 : Int32) h2)) ∧ (¬ v1 = 0 → m_M_fail (fun v3 h6 => fx_ext h2 h6 → Q v3 h6) r0 (1 : Int32) h2)) r0 x1 h1
theorem b_M_add_0 {p : Program} {l : Launch} {e : Env} {R : Room} {s : State} {m : MethodId} {args : Array Value} {below : List Frame} {meth : Method} {c : Code} {D : DD} {h0 : AH} {Q : Int32 → AH → Prop} (C : fx_CX D y_M_add prog_15_method_62_code 2 1 13 (Option.some FieldType.int) [] h0 p R s m meth c) (hl : l.flags = flags0) (r0 : Nat) (x1 : Int32) (h : AH) (hw : m_M_add Q r0 x1 h) : ∀ (ls : Array Slot) (H : Heap) (locs : List Loc) (cells slots : Nat), lv_has ls 2 [(0, .ref r0), (1, .int x1)] → fx_F D h0 h H locs cells slots → W p l e R s m args below meth c H locs cells slots (fx_Z D below s h0 (fx_oI Q fx_no)) (F0 m 0 ls []) := by
  unfold m_M_add at hw
  intro ls H locs cells slots hv F
  refine lv_aload_n C.ex C.by d_M_add_0 rfl (lv_at hv 0 rfl) ?_
  refine lv_iconst (v := (0 : Int32)) C.ex C.by d_M_add_1 (by decide) ?_
  obtain ⟨hk1, hw⟩ := hw
  let h1 : AH := up_I h r0 0 (0 : Int32)
  replace hw := hw h1 rfl
  refine fx_putI C F lf_M_83 hk1 rfl rfl (fx_mayF.no rfl rfl) d_M_add_2 (fun H locs (F : fx_F D h0 h1 H locs _ _) => ?_)
  refine lv_aload_n C.ex C.by d_M_add_5 rfl (lv_at hv 0 rfl) ?_
  refine lv_iload_n C.ex C.by d_M_add_6 rfl (lv_at hv 1 rfl) ?_
  refine fx_callZ C F (c_M_none hl hw) hm_M_none hi_M_none hv.1 (by decide) (Nat.le_of_ble_eq_true rfl) (iv_M_none C F lm_M_359 hk1 d_M_add_7) (fx_out0 _) fx_eno (fun v1 h2 H locs cells slots hw hx1 hzb F => ?_)
  replace hw := hw hx1 hzb
  have hk1 := (hx1).k hk1
  refine lv_if_eq C.ex C.by d_M_add_10 rfl (fun hc => ?_) (fun hc => ?_)
  · replace hw := hw.1 hc
    refine lv_aload_n C.ex C.by d_M_add_19 rfl (lv_at hv 0 rfl) ?_
    refine fx_getI C F lf_M_396 hk1 rfl d_M_add_20 ?_
    refine lv_bipush (v := (16 : Int32)) C.ex C.by d_M_add_23 (by decide) ?_
    refine lv_icmp_ne C.ex C.by d_M_add_25 rfl (fun hc => ?_) (fun hc => ?_)
    · replace hw := hw.1 hc
      refine lv_aload_n C.ex C.by d_M_add_34 rfl (lv_at hv 0 rfl) ?_
      obtain ⟨b1, hb1, hw⟩ := hw
      refine fx_getR C F lf_M_31 hk1 rfl hb1 d_M_add_35 ?_
      refine lv_aload_n C.ex C.by d_M_add_38 rfl (lv_at hv 0 rfl) ?_
      refine fx_getI C F lf_M_396 hk1 rfl d_M_add_39 ?_
      refine lv_iload_n C.ex C.by d_M_add_42 rfl (lv_at hv 1 rfl) ?_
      obtain ⟨hk2, hw⟩ := hw
      obtain ⟨hi1, hw⟩ := hw
      let h3 : AH := up_I h2 b1 ((hp_I h2 r0 14)).toNatClampNeg x1
      replace hw := hw h3 rfl
      refine fx_iast C F hk2 hi1 d_M_add_43 (fun H locs (F : fx_F D h0 h3 H locs _ _) => ?_)
      refine lv_aload_n C.ex C.by d_M_add_44 rfl (lv_at hv 0 rfl) ?_
      refine lv_dup C.ex C.by d_M_add_45 rfl ?_
      refine fx_getI C F lf_M_396 hk1 rfl d_M_add_46 ?_
      refine lv_iconst (v := (1 : Int32)) C.ex C.by d_M_add_49 (by decide) ?_
      refine lv_iadd C.ex C.by d_M_add_50 ?_
      let h4 : AH := up_I h3 r0 14 ((hp_I h3 r0 14) + (1 : Int32))
      replace hw := hw h4 rfl
      refine fx_putI C F lf_M_396 hk1 rfl rfl (fx_mayF.no rfl rfl) d_M_add_51 (fun H locs (F : fx_F D h0 h4 H locs _ _) => ?_)
      refine lv_aload_n C.ex C.by d_M_add_54 rfl (lv_at hv 0 rfl) ?_
      refine fx_getI C F lf_M_396 hk1 rfl d_M_add_55 ?_
      exact fx_iret C F d_M_add_58 (Or.inl ⟨_, rfl, hw⟩)
    · replace hw := hw.2 hc
      refine lv_aload_n C.ex C.by d_M_add_28 rfl (lv_at hv 0 rfl) ?_
      refine lv_iconst (v := (2 : Int32)) C.ex C.by d_M_add_29 (by decide) ?_
      refine fx_callI C F (c_M_fail hl hw) hm_M_fail hi_M_fail hv.1 (by decide) (Nat.le_of_ble_eq_true rfl) (iv_M_fail C F lm_M_362 hk1 d_M_add_30) (fx_out0 _) fx_eno (fun v2 h5 H locs cells slots hw hx2 F => ?_)
      replace hw := hw hx2
      have hk1 := (hx2).k hk1
      exact fx_iret C F d_M_add_33 (Or.inl ⟨_, rfl, hw⟩)
  · replace hw := hw.2 hc
    refine lv_aload_n C.ex C.by d_M_add_13 rfl (lv_at hv 0 rfl) ?_
    refine lv_iconst (v := (1 : Int32)) C.ex C.by d_M_add_14 (by decide) ?_
    refine fx_callI C F (c_M_fail hl hw) hm_M_fail hi_M_fail hv.1 (by decide) (Nat.le_of_ble_eq_true rfl) (iv_M_fail C F lm_M_362 hk1 d_M_add_15) (fx_out0 _) fx_eno (fun v3 h6 H locs cells slots hw hx3 F => ?_)
    replace hw := hw hx3
    have hk1 := (hx3).k hk1
    exact fx_iret C F d_M_add_18 (Or.inl ⟨_, rfl, hw⟩)
theorem hm_M_add : fx_hd y_M_add prog_15_method_62_code 2 (Option.some FieldType.int) [] ∈ tables_1 := (fx_m7 (List.mem_of_getElem? (i := 185) rfl))
theorem hi_M_add : Cond.initialized y_M_add.cls ∈ tables_1 := (fx_m1 (List.mem_of_getElem? (i := 15) rfl))
theorem c_M_add {l : Launch} (hl : l.flags = flags0) {D : DD} {Q : Int32 → AH → Prop} {r0 : Nat} {x1 : Int32} {h : AH} (hw : m_M_add Q r0 x1 h) : fx_Mt l D y_M_add (fx_hd y_M_add prog_15_method_62_code 2 (Option.some FieldType.int) []) 1 13 [.ref r0, .int x1] h (fx_oI Q fx_no) := by
  refine fx_ofW (plainFor_of_name (by decide)) (fun p e s m below meth c C F => ?_)
  have hv := lv_entry ([.ref r0, .int x1]) (n := 2) (Nat.le_of_ble_eq_true rfl)
  rw [lg_entry_eq]
  generalize (lg_sl ([.ref r0, .int x1]) ++ List.replicate (2 - (lg_sl ([.ref r0, .int x1])).length) Slot.unset).toArray = ls at hv ⊢
  have hv : lv_has ls 2 [(0, .ref r0), (1, .int x1)] := hv
  exact b_M_add_0 C hl _ _ _ hw _ _ _ _ _ hv F
/-! ChainJudgeModel.clear()V: frames 0, words 0 -/
abbrev y_M_clear : MethodName := ⟨"ChainJudgeModel", "clear", "()V"⟩
def dl_M_clear : List (Nat × Instr × Nat) := [(0, .aload_n 0, 1), (1, .iconst 0, 1), (2, .putfield 83, 3), (5, .aload_n 0, 1), (6, .iconst 0, 1), (7, .putfield 396, 3), (10, .return_, 1)]
theorem dk_M_clear : fx_dec prog_15_method_63_code dl_M_clear = true := by decide +kernel
theorem d_M_clear_0 : decode prog_15_method_63_code 0 = .ok (.aload_n 0, 1) := fx_dat dk_M_clear 0 rfl
theorem d_M_clear_1 : decode prog_15_method_63_code 1 = .ok (.iconst 0, 1) := fx_dat dk_M_clear 1 rfl
theorem d_M_clear_2 : decode prog_15_method_63_code 2 = .ok (.putfield 83, 3) := fx_dat dk_M_clear 2 rfl
theorem d_M_clear_5 : decode prog_15_method_63_code 5 = .ok (.aload_n 0, 1) := fx_dat dk_M_clear 3 rfl
theorem d_M_clear_6 : decode prog_15_method_63_code 6 = .ok (.iconst 0, 1) := fx_dat dk_M_clear 4 rfl
theorem d_M_clear_7 : decode prog_15_method_63_code 7 = .ok (.putfield 396, 3) := fx_dat dk_M_clear 5 rfl
theorem d_M_clear_10 : decode prog_15_method_63_code 10 = .ok (.return_, 1) := fx_dat dk_M_clear 6 rfl
def m_M_clear (Q : AH → Prop) (r0 : Nat) (h : AH) : Prop := hp_k h r0 = 13 ∧ ∀ h1 : AH, h1 = up_I h r0 0 (0 : Int32) → ∀ h2 : AH, h2 = up_I h1 r0 14 (0 : Int32) → Q h2
theorem b_M_clear_0 {p : Program} {l : Launch} {e : Env} {R : Room} {s : State} {m : MethodId} {args : Array Value} {below : List Frame} {meth : Method} {c : Code} {D : DD} {h0 : AH} {Q : AH → Prop} (C : fx_CX D y_M_clear prog_15_method_63_code 1 0 0 (none) [] h0 p R s m meth c) (hl : l.flags = flags0) (r0 : Nat) (h : AH) (hw : m_M_clear Q r0 h) : ∀ (ls : Array Slot) (H : Heap) (locs : List Loc) (cells slots : Nat), lv_has ls 1 [(0, .ref r0)] → fx_F D h0 h H locs cells slots → W p l e R s m args below meth c H locs cells slots (fx_Z D below s h0 (fx_oV Q fx_no)) (F0 m 0 ls []) := by
  unfold m_M_clear at hw
  intro ls H locs cells slots hv F
  refine lv_aload_n C.ex C.by d_M_clear_0 rfl (lv_at hv 0 rfl) ?_
  refine lv_iconst (v := (0 : Int32)) C.ex C.by d_M_clear_1 (by decide) ?_
  obtain ⟨hk1, hw⟩ := hw
  let h1 : AH := up_I h r0 0 (0 : Int32)
  replace hw := hw h1 rfl
  refine fx_putI C F lf_M_83 hk1 rfl rfl (fx_mayF.no rfl rfl) d_M_clear_2 (fun H locs (F : fx_F D h0 h1 H locs _ _) => ?_)
  refine lv_aload_n C.ex C.by d_M_clear_5 rfl (lv_at hv 0 rfl) ?_
  refine lv_iconst (v := (0 : Int32)) C.ex C.by d_M_clear_6 (by decide) ?_
  let h2 : AH := up_I h1 r0 14 (0 : Int32)
  replace hw := hw h2 rfl
  refine fx_putI C F lf_M_396 hk1 rfl rfl (fx_mayF.no rfl rfl) d_M_clear_7 (fun H locs (F : fx_F D h0 h2 H locs _ _) => ?_)
  exact fx_vret C F d_M_clear_10 (Or.inl ⟨rfl, hw⟩)
theorem hm_M_clear : fx_hd y_M_clear prog_15_method_63_code 1 (none) [] ∈ tables_1 := (fx_m7 (List.mem_of_getElem? (i := 189) rfl))
theorem hi_M_clear : Cond.initialized y_M_clear.cls ∈ tables_1 := (fx_m1 (List.mem_of_getElem? (i := 15) rfl))
theorem c_M_clear {l : Launch} (hl : l.flags = flags0) {D : DD} {Q : AH → Prop} {r0 : Nat} {h : AH} (hw : m_M_clear Q r0 h) : fx_Mt l D y_M_clear (fx_hd y_M_clear prog_15_method_63_code 1 (none) []) 0 0 [.ref r0] h (fx_oV Q fx_no) := by
  refine fx_ofW (plainFor_of_name (by decide)) (fun p e s m below meth c C F => ?_)
  have hv := lv_entry ([.ref r0]) (n := 1) (Nat.le_of_ble_eq_true rfl)
  rw [lg_entry_eq]
  generalize (lg_sl ([.ref r0]) ++ List.replicate (1 - (lg_sl ([.ref r0])).length) Slot.unset).toArray = ls at hv ⊢
  have hv : lv_has ls 1 [(0, .ref r0)] := hv
  exact b_M_clear_0 C hl _ _ hw _ _ _ _ _ hv F
/-! ChainJudgeModel.trust(I)I: frames 7, words 115 -/
abbrev y_M_trust : MethodName := ⟨"ChainJudgeModel", "trust", "(I)I"⟩
theorem lf_M_399 : fx_Lk "ChainJudgeModel" 399 12 15 := fx_Lk.mk (C := "ChainJudgeModel") (T := fx_T12) (N := 57) rfl (by decide) (by decide) (fx_m6 (List.mem_of_getElem? (i := 21) rfl))
def dl_M_trust : List (Nat × Instr × Nat) := [(0, .aload_n 0, 1), (1, .iconst 0, 1), (2, .putfield 83, 3), (5, .aload_n 0, 1), (6, .iload_n 1, 1), (7, .invokevirtual 359, 3), (10, .ifCond .eq 9, 3), (13, .aload_n 0, 1), (14, .iconst 1, 1), (15, .invokevirtual 362, 3), (18, .ireturn, 1), (19, .aload_n 0, 1), (20, .iload_n 1, 1), (21, .invokevirtual 368, 3), (24, .ifCond .ne 9, 3), (27, .aload_n 0, 1), (28, .iconst 2, 1), (29, .invokevirtual 362, 3), (32, .ireturn, 1), (33, .aload_n 0, 1), (34, .getfield 399, 3), (37, .bipush 16, 2), (39, .if_icmp .ne 9, 3), (42, .aload_n 0, 1), (43, .iconst 3, 1), (44, .invokevirtual 362, 3), (47, .ireturn, 1), (48, .aload_n 0, 1), (49, .getfield 34, 3), (52, .aload_n 0, 1), (53, .getfield 399, 3), (56, .iload_n 1, 1), (57, .iastore, 1), (58, .aload_n 0, 1), (59, .dup, 1), (60, .getfield 399, 3), (63, .iconst 1, 1), (64, .iadd, 1), (65, .putfield 399, 3), (68, .aload_n 0, 1), (69, .getfield 399, 3), (72, .ireturn, 1)]
theorem dk_M_trust : fx_dec prog_15_method_64_code dl_M_trust = true := by decide +kernel
theorem d_M_trust_0 : decode prog_15_method_64_code 0 = .ok (.aload_n 0, 1) := fx_dat dk_M_trust 0 rfl
theorem d_M_trust_1 : decode prog_15_method_64_code 1 = .ok (.iconst 0, 1) := fx_dat dk_M_trust 1 rfl
theorem d_M_trust_2 : decode prog_15_method_64_code 2 = .ok (.putfield 83, 3) := fx_dat dk_M_trust 2 rfl
theorem d_M_trust_5 : decode prog_15_method_64_code 5 = .ok (.aload_n 0, 1) := fx_dat dk_M_trust 3 rfl
theorem d_M_trust_6 : decode prog_15_method_64_code 6 = .ok (.iload_n 1, 1) := fx_dat dk_M_trust 4 rfl
theorem d_M_trust_7 : decode prog_15_method_64_code 7 = .ok (.invokevirtual 359, 3) := fx_dat dk_M_trust 5 rfl
theorem d_M_trust_10 : decode prog_15_method_64_code 10 = .ok (.ifCond .eq 9, 3) := fx_dat dk_M_trust 6 rfl
theorem d_M_trust_13 : decode prog_15_method_64_code 13 = .ok (.aload_n 0, 1) := fx_dat dk_M_trust 7 rfl
theorem d_M_trust_14 : decode prog_15_method_64_code 14 = .ok (.iconst 1, 1) := fx_dat dk_M_trust 8 rfl
theorem d_M_trust_15 : decode prog_15_method_64_code 15 = .ok (.invokevirtual 362, 3) := fx_dat dk_M_trust 9 rfl
theorem d_M_trust_18 : decode prog_15_method_64_code 18 = .ok (.ireturn, 1) := fx_dat dk_M_trust 10 rfl
theorem d_M_trust_19 : decode prog_15_method_64_code 19 = .ok (.aload_n 0, 1) := fx_dat dk_M_trust 11 rfl
theorem d_M_trust_20 : decode prog_15_method_64_code 20 = .ok (.iload_n 1, 1) := fx_dat dk_M_trust 12 rfl
theorem d_M_trust_21 : decode prog_15_method_64_code 21 = .ok (.invokevirtual 368, 3) := fx_dat dk_M_trust 13 rfl
theorem d_M_trust_24 : decode prog_15_method_64_code 24 = .ok (.ifCond .ne 9, 3) := fx_dat dk_M_trust 14 rfl
theorem d_M_trust_27 : decode prog_15_method_64_code 27 = .ok (.aload_n 0, 1) := fx_dat dk_M_trust 15 rfl
theorem d_M_trust_28 : decode prog_15_method_64_code 28 = .ok (.iconst 2, 1) := fx_dat dk_M_trust 16 rfl
theorem d_M_trust_29 : decode prog_15_method_64_code 29 = .ok (.invokevirtual 362, 3) := fx_dat dk_M_trust 17 rfl
theorem d_M_trust_32 : decode prog_15_method_64_code 32 = .ok (.ireturn, 1) := fx_dat dk_M_trust 18 rfl
theorem d_M_trust_33 : decode prog_15_method_64_code 33 = .ok (.aload_n 0, 1) := fx_dat dk_M_trust 19 rfl
theorem d_M_trust_34 : decode prog_15_method_64_code 34 = .ok (.getfield 399, 3) := fx_dat dk_M_trust 20 rfl
theorem d_M_trust_37 : decode prog_15_method_64_code 37 = .ok (.bipush 16, 2) := fx_dat dk_M_trust 21 rfl
theorem d_M_trust_39 : decode prog_15_method_64_code 39 = .ok (.if_icmp .ne 9, 3) := fx_dat dk_M_trust 22 rfl
theorem d_M_trust_42 : decode prog_15_method_64_code 42 = .ok (.aload_n 0, 1) := fx_dat dk_M_trust 23 rfl
theorem d_M_trust_43 : decode prog_15_method_64_code 43 = .ok (.iconst 3, 1) := fx_dat dk_M_trust 24 rfl
theorem d_M_trust_44 : decode prog_15_method_64_code 44 = .ok (.invokevirtual 362, 3) := fx_dat dk_M_trust 25 rfl
theorem d_M_trust_47 : decode prog_15_method_64_code 47 = .ok (.ireturn, 1) := fx_dat dk_M_trust 26 rfl
theorem d_M_trust_48 : decode prog_15_method_64_code 48 = .ok (.aload_n 0, 1) := fx_dat dk_M_trust 27 rfl
theorem d_M_trust_49 : decode prog_15_method_64_code 49 = .ok (.getfield 34, 3) := fx_dat dk_M_trust 28 rfl
theorem d_M_trust_52 : decode prog_15_method_64_code 52 = .ok (.aload_n 0, 1) := fx_dat dk_M_trust 29 rfl
theorem d_M_trust_53 : decode prog_15_method_64_code 53 = .ok (.getfield 399, 3) := fx_dat dk_M_trust 30 rfl
theorem d_M_trust_56 : decode prog_15_method_64_code 56 = .ok (.iload_n 1, 1) := fx_dat dk_M_trust 31 rfl
theorem d_M_trust_57 : decode prog_15_method_64_code 57 = .ok (.iastore, 1) := fx_dat dk_M_trust 32 rfl
theorem d_M_trust_58 : decode prog_15_method_64_code 58 = .ok (.aload_n 0, 1) := fx_dat dk_M_trust 33 rfl
theorem d_M_trust_59 : decode prog_15_method_64_code 59 = .ok (.dup, 1) := fx_dat dk_M_trust 34 rfl
theorem d_M_trust_60 : decode prog_15_method_64_code 60 = .ok (.getfield 399, 3) := fx_dat dk_M_trust 35 rfl
theorem d_M_trust_63 : decode prog_15_method_64_code 63 = .ok (.iconst 1, 1) := fx_dat dk_M_trust 36 rfl
theorem d_M_trust_64 : decode prog_15_method_64_code 64 = .ok (.iadd, 1) := fx_dat dk_M_trust 37 rfl
theorem d_M_trust_65 : decode prog_15_method_64_code 65 = .ok (.putfield 399, 3) := fx_dat dk_M_trust 38 rfl
theorem d_M_trust_68 : decode prog_15_method_64_code 68 = .ok (.aload_n 0, 1) := fx_dat dk_M_trust 39 rfl
theorem d_M_trust_69 : decode prog_15_method_64_code 69 = .ok (.getfield 399, 3) := fx_dat dk_M_trust 40 rfl
theorem d_M_trust_72 : decode prog_15_method_64_code 72 = .ok (.ireturn, 1) := fx_dat dk_M_trust 41 rfl
def m_M_trust (Q : Int32 → AH → Prop) (r0 : Nat) (x1 : Int32) (h : AH) : Prop := hp_k h r0 = 13 ∧ ∀ h1 : AH, h1 = up_I h r0 0 (0 : Int32) → m_M_none (fun v1 h2 => fx_ext h1 h2 → zb v1 → (v1 = 0 → m_M_parses (fun v2 h3 => fx_ext h2 h3 → zb v2 → (¬ v2 = 0 → (¬ (hp_I h3 r0 15) = (16 : Int32) → ∃ b1, hp_R h3 r0 12 = some b1 ∧ hp_k h3 b1 = 102 ∧ vp_in (hp_I h3 r0 15) (hp_n h3 b1) ∧ ∀ h4 : AH, h4 = up_I h3 b1 ((hp_I h3 r0 15)).toNatClampNeg x1 → ∀ h5 : AH, h5 = up_I h4 r0 15 ((hp_I h4 r0 15) + (1 : Int32)) → Q (hp_I h5 r0 15) h5) ∧ ((hp_I h3 r0 15) = (16 : Int32) → m_M_fail (fun v3 h6 => fx_ext h3 h6 → Q v3 h6) r0 (3 : Int32) h3)) ∧ (v2 = 0 → m_M_fail (fun v4 h7 => fx_ext h3 h7 → Q v4 h7) r0 (2 : Int32) h3)) r0 x1 h2) ∧ (¬ v1 = 0 → m_M_fail (fun v5 h8 => fx_ext h2 h8 → Q v5 h8) r0 (1 : Int32) h2)) r0 x1 h1
theorem b_M_trust_0 {p : Program} {l : Launch} {e : Env} {R : Room} {s : State} {m : MethodId} {args : Array Value} {below : List Frame} {meth : Method} {c : Code} {D : DD} {h0 : AH} {Q : Int32 → AH → Prop} (C : fx_CX D y_M_trust prog_15_method_64_code 2 7 115 (Option.some FieldType.int) [] h0 p R s m meth c) (hl : l.flags = flags0) (r0 : Nat) (x1 : Int32) (h : AH) (hw : m_M_trust Q r0 x1 h) : ∀ (ls : Array Slot) (H : Heap) (locs : List Loc) (cells slots : Nat), lv_has ls 2 [(0, .ref r0), (1, .int x1)] → fx_F D h0 h H locs cells slots → W p l e R s m args below meth c H locs cells slots (fx_Z D below s h0 (fx_oI Q fx_no)) (F0 m 0 ls []) := by
  unfold m_M_trust at hw
  intro ls H locs cells slots hv F
  refine lv_aload_n C.ex C.by d_M_trust_0 rfl (lv_at hv 0 rfl) ?_
  refine lv_iconst (v := (0 : Int32)) C.ex C.by d_M_trust_1 (by decide) ?_
  obtain ⟨hk1, hw⟩ := hw
  let h1 : AH := up_I h r0 0 (0 : Int32)
  replace hw := hw h1 rfl
  refine fx_putI C F lf_M_83 hk1 rfl rfl (fx_mayF.no rfl rfl) d_M_trust_2 (fun H locs (F : fx_F D h0 h1 H locs _ _) => ?_)
  refine lv_aload_n C.ex C.by d_M_trust_5 rfl (lv_at hv 0 rfl) ?_
  refine lv_iload_n C.ex C.by d_M_trust_6 rfl (lv_at hv 1 rfl) ?_
  refine fx_callZ C F (c_M_none hl hw) hm_M_none hi_M_none hv.1 (by decide) (Nat.le_of_ble_eq_true rfl) (iv_M_none C F lm_M_359 hk1 d_M_trust_7) (fx_out0 _) fx_eno (fun v1 h2 H locs cells slots hw hx1 hzb F => ?_)
  replace hw := hw hx1 hzb
  have hk1 := (hx1).k hk1
  refine lv_if_eq C.ex C.by d_M_trust_10 rfl (fun hc => ?_) (fun hc => ?_)
  · replace hw := hw.1 hc
    refine lv_aload_n C.ex C.by d_M_trust_19 rfl (lv_at hv 0 rfl) ?_
    refine lv_iload_n C.ex C.by d_M_trust_20 rfl (lv_at hv 1 rfl) ?_
    refine fx_callZ C F (c_M_parses hl hw) hm_M_parses hi_M_parses hv.1 (by decide) (Nat.le_of_ble_eq_true rfl) (iv_M_parses C F lm_M_368 hk1 d_M_trust_21) (fx_out0 _) fx_eno (fun v2 h3 H locs cells slots hw hx2 hzb F => ?_)
    replace hw := hw hx2 hzb
    have hk1 := (hx2).k hk1
    refine lv_if_ne C.ex C.by d_M_trust_24 rfl (fun hc => ?_) (fun hc => ?_)
    · replace hw := hw.1 hc
      refine lv_aload_n C.ex C.by d_M_trust_33 rfl (lv_at hv 0 rfl) ?_
      refine fx_getI C F lf_M_399 hk1 rfl d_M_trust_34 ?_
      refine lv_bipush (v := (16 : Int32)) C.ex C.by d_M_trust_37 (by decide) ?_
      refine lv_icmp_ne C.ex C.by d_M_trust_39 rfl (fun hc => ?_) (fun hc => ?_)
      · replace hw := hw.1 hc
        refine lv_aload_n C.ex C.by d_M_trust_48 rfl (lv_at hv 0 rfl) ?_
        obtain ⟨b1, hb1, hw⟩ := hw
        refine fx_getR C F lf_M_34 hk1 rfl hb1 d_M_trust_49 ?_
        refine lv_aload_n C.ex C.by d_M_trust_52 rfl (lv_at hv 0 rfl) ?_
        refine fx_getI C F lf_M_399 hk1 rfl d_M_trust_53 ?_
        refine lv_iload_n C.ex C.by d_M_trust_56 rfl (lv_at hv 1 rfl) ?_
        obtain ⟨hk2, hw⟩ := hw
        obtain ⟨hi1, hw⟩ := hw
        let h4 : AH := up_I h3 b1 ((hp_I h3 r0 15)).toNatClampNeg x1
        replace hw := hw h4 rfl
        refine fx_iast C F hk2 hi1 d_M_trust_57 (fun H locs (F : fx_F D h0 h4 H locs _ _) => ?_)
        refine lv_aload_n C.ex C.by d_M_trust_58 rfl (lv_at hv 0 rfl) ?_
        refine lv_dup C.ex C.by d_M_trust_59 rfl ?_
        refine fx_getI C F lf_M_399 hk1 rfl d_M_trust_60 ?_
        refine lv_iconst (v := (1 : Int32)) C.ex C.by d_M_trust_63 (by decide) ?_
        refine lv_iadd C.ex C.by d_M_trust_64 ?_
        let h5 : AH := up_I h4 r0 15 ((hp_I h4 r0 15) + (1 : Int32))
        replace hw := hw h5 rfl
        refine fx_putI C F lf_M_399 hk1 rfl rfl (fx_mayF.no rfl rfl) d_M_trust_65 (fun H locs (F : fx_F D h0 h5 H locs _ _) => ?_)
        refine lv_aload_n C.ex C.by d_M_trust_68 rfl (lv_at hv 0 rfl) ?_
        refine fx_getI C F lf_M_399 hk1 rfl d_M_trust_69 ?_
        exact fx_iret C F d_M_trust_72 (Or.inl ⟨_, rfl, hw⟩)
      · replace hw := hw.2 hc
        refine lv_aload_n C.ex C.by d_M_trust_42 rfl (lv_at hv 0 rfl) ?_
        refine lv_iconst (v := (3 : Int32)) C.ex C.by d_M_trust_43 (by decide) ?_
        refine fx_callI C F (c_M_fail hl hw) hm_M_fail hi_M_fail hv.1 (by decide) (Nat.le_of_ble_eq_true rfl) (iv_M_fail C F lm_M_362 hk1 d_M_trust_44) (fx_out0 _) fx_eno (fun v3 h6 H locs cells slots hw hx3 F => ?_)
        replace hw := hw hx3
        have hk1 := (hx3).k hk1
        exact fx_iret C F d_M_trust_47 (Or.inl ⟨_, rfl, hw⟩)
    · replace hw := hw.2 hc
      refine lv_aload_n C.ex C.by d_M_trust_27 rfl (lv_at hv 0 rfl) ?_
      refine lv_iconst (v := (2 : Int32)) C.ex C.by d_M_trust_28 (by decide) ?_
      refine fx_callI C F (c_M_fail hl hw) hm_M_fail hi_M_fail hv.1 (by decide) (Nat.le_of_ble_eq_true rfl) (iv_M_fail C F lm_M_362 hk1 d_M_trust_29) (fx_out0 _) fx_eno (fun v4 h7 H locs cells slots hw hx4 F => ?_)
      replace hw := hw hx4
      have hk1 := (hx4).k hk1
      exact fx_iret C F d_M_trust_32 (Or.inl ⟨_, rfl, hw⟩)
  · replace hw := hw.2 hc
    refine lv_aload_n C.ex C.by d_M_trust_13 rfl (lv_at hv 0 rfl) ?_
    refine lv_iconst (v := (1 : Int32)) C.ex C.by d_M_trust_14 (by decide) ?_
    refine fx_callI C F (c_M_fail hl hw) hm_M_fail hi_M_fail hv.1 (by decide) (Nat.le_of_ble_eq_true rfl) (iv_M_fail C F lm_M_362 hk1 d_M_trust_15) (fx_out0 _) fx_eno (fun v5 h8 H locs cells slots hw hx5 F => ?_)
    replace hw := hw hx5
    have hk1 := (hx5).k hk1
    exact fx_iret C F d_M_trust_18 (Or.inl ⟨_, rfl, hw⟩)
theorem hm_M_trust : fx_hd y_M_trust prog_15_method_64_code 2 (Option.some FieldType.int) [] ∈ tables_1 := (fx_m7 (List.mem_of_getElem? (i := 193) rfl))
theorem hi_M_trust : Cond.initialized y_M_trust.cls ∈ tables_1 := (fx_m1 (List.mem_of_getElem? (i := 15) rfl))
theorem c_M_trust {l : Launch} (hl : l.flags = flags0) {D : DD} {Q : Int32 → AH → Prop} {r0 : Nat} {x1 : Int32} {h : AH} (hw : m_M_trust Q r0 x1 h) : fx_Mt l D y_M_trust (fx_hd y_M_trust prog_15_method_64_code 2 (Option.some FieldType.int) []) 7 115 [.ref r0, .int x1] h (fx_oI Q fx_no) := by
  refine fx_ofW (plainFor_of_name (by decide)) (fun p e s m below meth c C F => ?_)
  have hv := lv_entry ([.ref r0, .int x1]) (n := 2) (Nat.le_of_ble_eq_true rfl)
  rw [lg_entry_eq]
  generalize (lg_sl ([.ref r0, .int x1]) ++ List.replicate (2 - (lg_sl ([.ref r0, .int x1])).length) Slot.unset).toArray = ls at hv ⊢
  have hv : lv_has ls 2 [(0, .ref r0), (1, .int x1)] := hv
  exact b_M_trust_0 C hl _ _ _ hw _ _ _ _ _ hv F
/-! ChainJudgeModel.host()I: frames 1, words 13 -/
abbrev y_M_host : MethodName := ⟨"ChainJudgeModel", "host", "()I"⟩
theorem lf_M_402 : fx_Lk "ChainJudgeModel" 402 12 6 := fx_Lk.mk (C := "ChainJudgeModel") (T := fx_T12) (N := 57) rfl (by decide) (by decide) (fx_m6 (List.mem_of_getElem? (i := 12) rfl))
def dl_M_host : List (Nat × Instr × Nat) := [(0, .aload_n 0, 1), (1, .iconst 0, 1), (2, .putfield 83, 3), (5, .aload_n 0, 1), (6, .getfield 328, 3), (9, .sipush 255, 3), (12, .if_icmp .le 9, 3), (15, .aload_n 0, 1), (16, .iconst 1, 1), (17, .invokevirtual 362, 3), (20, .ireturn, 1), (21, .iconst 0, 1), (22, .istore_n 1, 1), (23, .iload_n 1, 1), (24, .aload_n 0, 1), (25, .getfield 328, 3), (28, .if_icmp .ge 37, 3), (31, .aload_n 0, 1), (32, .getfield 8, 3), (35, .iload_n 1, 1), (36, .baload, 1), (37, .bipush 33, 2), (39, .if_icmp .lt 14, 3), (42, .aload_n 0, 1), (43, .getfield 8, 3), (46, .iload_n 1, 1), (47, .baload, 1), (48, .bipush 126, 2), (50, .if_icmp .le 9, 3), (53, .aload_n 0, 1), (54, .iconst 1, 1), (55, .invokevirtual 362, 3), (58, .ireturn, 1), (59, .iinc 1 1, 3), (62, .goto (-39), 3), (65, .iconst 0, 1), (66, .istore_n 1, 1), (67, .iload_n 1, 1), (68, .aload_n 0, 1), (69, .getfield 328, 3), (72, .if_icmp .ge 21, 3), (75, .aload_n 0, 1), (76, .getfield 17, 3), (79, .iload_n 1, 1), (80, .aload_n 0, 1), (81, .getfield 8, 3), (84, .iload_n 1, 1), (85, .baload, 1), (86, .bastore, 1), (87, .iinc 1 1, 3), (90, .goto (-23), 3), (93, .aload_n 0, 1), (94, .aload_n 0, 1), (95, .getfield 328, 3), (98, .putfield 402, 3), (101, .aload_n 0, 1), (102, .iconst 0, 1), (103, .putfield 328, 3), (106, .aload_n 0, 1), (107, .getfield 402, 3), (110, .ireturn, 1)]
theorem dk_M_host : fx_dec prog_15_method_65_code dl_M_host = true := by decide +kernel
theorem d_M_host_0 : decode prog_15_method_65_code 0 = .ok (.aload_n 0, 1) := fx_dat dk_M_host 0 rfl
theorem d_M_host_1 : decode prog_15_method_65_code 1 = .ok (.iconst 0, 1) := fx_dat dk_M_host 1 rfl
theorem d_M_host_2 : decode prog_15_method_65_code 2 = .ok (.putfield 83, 3) := fx_dat dk_M_host 2 rfl
theorem d_M_host_5 : decode prog_15_method_65_code 5 = .ok (.aload_n 0, 1) := fx_dat dk_M_host 3 rfl
theorem d_M_host_6 : decode prog_15_method_65_code 6 = .ok (.getfield 328, 3) := fx_dat dk_M_host 4 rfl
theorem d_M_host_9 : decode prog_15_method_65_code 9 = .ok (.sipush 255, 3) := fx_dat dk_M_host 5 rfl
theorem d_M_host_12 : decode prog_15_method_65_code 12 = .ok (.if_icmp .le 9, 3) := fx_dat dk_M_host 6 rfl
theorem d_M_host_15 : decode prog_15_method_65_code 15 = .ok (.aload_n 0, 1) := fx_dat dk_M_host 7 rfl
theorem d_M_host_16 : decode prog_15_method_65_code 16 = .ok (.iconst 1, 1) := fx_dat dk_M_host 8 rfl
theorem d_M_host_17 : decode prog_15_method_65_code 17 = .ok (.invokevirtual 362, 3) := fx_dat dk_M_host 9 rfl
theorem d_M_host_20 : decode prog_15_method_65_code 20 = .ok (.ireturn, 1) := fx_dat dk_M_host 10 rfl
theorem d_M_host_21 : decode prog_15_method_65_code 21 = .ok (.iconst 0, 1) := fx_dat dk_M_host 11 rfl
theorem d_M_host_22 : decode prog_15_method_65_code 22 = .ok (.istore_n 1, 1) := fx_dat dk_M_host 12 rfl
theorem d_M_host_23 : decode prog_15_method_65_code 23 = .ok (.iload_n 1, 1) := fx_dat dk_M_host 13 rfl
theorem d_M_host_24 : decode prog_15_method_65_code 24 = .ok (.aload_n 0, 1) := fx_dat dk_M_host 14 rfl
theorem d_M_host_25 : decode prog_15_method_65_code 25 = .ok (.getfield 328, 3) := fx_dat dk_M_host 15 rfl
theorem d_M_host_28 : decode prog_15_method_65_code 28 = .ok (.if_icmp .ge 37, 3) := fx_dat dk_M_host 16 rfl
theorem d_M_host_31 : decode prog_15_method_65_code 31 = .ok (.aload_n 0, 1) := fx_dat dk_M_host 17 rfl
theorem d_M_host_32 : decode prog_15_method_65_code 32 = .ok (.getfield 8, 3) := fx_dat dk_M_host 18 rfl
theorem d_M_host_35 : decode prog_15_method_65_code 35 = .ok (.iload_n 1, 1) := fx_dat dk_M_host 19 rfl
theorem d_M_host_36 : decode prog_15_method_65_code 36 = .ok (.baload, 1) := fx_dat dk_M_host 20 rfl
theorem d_M_host_37 : decode prog_15_method_65_code 37 = .ok (.bipush 33, 2) := fx_dat dk_M_host 21 rfl
theorem d_M_host_39 : decode prog_15_method_65_code 39 = .ok (.if_icmp .lt 14, 3) := fx_dat dk_M_host 22 rfl
theorem d_M_host_42 : decode prog_15_method_65_code 42 = .ok (.aload_n 0, 1) := fx_dat dk_M_host 23 rfl
theorem d_M_host_43 : decode prog_15_method_65_code 43 = .ok (.getfield 8, 3) := fx_dat dk_M_host 24 rfl
theorem d_M_host_46 : decode prog_15_method_65_code 46 = .ok (.iload_n 1, 1) := fx_dat dk_M_host 25 rfl
theorem d_M_host_47 : decode prog_15_method_65_code 47 = .ok (.baload, 1) := fx_dat dk_M_host 26 rfl
theorem d_M_host_48 : decode prog_15_method_65_code 48 = .ok (.bipush 126, 2) := fx_dat dk_M_host 27 rfl
theorem d_M_host_50 : decode prog_15_method_65_code 50 = .ok (.if_icmp .le 9, 3) := fx_dat dk_M_host 28 rfl
theorem d_M_host_53 : decode prog_15_method_65_code 53 = .ok (.aload_n 0, 1) := fx_dat dk_M_host 29 rfl
theorem d_M_host_54 : decode prog_15_method_65_code 54 = .ok (.iconst 1, 1) := fx_dat dk_M_host 30 rfl
theorem d_M_host_55 : decode prog_15_method_65_code 55 = .ok (.invokevirtual 362, 3) := fx_dat dk_M_host 31 rfl
theorem d_M_host_58 : decode prog_15_method_65_code 58 = .ok (.ireturn, 1) := fx_dat dk_M_host 32 rfl
theorem d_M_host_59 : decode prog_15_method_65_code 59 = .ok (.iinc 1 1, 3) := fx_dat dk_M_host 33 rfl
theorem d_M_host_62 : decode prog_15_method_65_code 62 = .ok (.goto (-39), 3) := fx_dat dk_M_host 34 rfl
theorem d_M_host_65 : decode prog_15_method_65_code 65 = .ok (.iconst 0, 1) := fx_dat dk_M_host 35 rfl
theorem d_M_host_66 : decode prog_15_method_65_code 66 = .ok (.istore_n 1, 1) := fx_dat dk_M_host 36 rfl
theorem d_M_host_67 : decode prog_15_method_65_code 67 = .ok (.iload_n 1, 1) := fx_dat dk_M_host 37 rfl
theorem d_M_host_68 : decode prog_15_method_65_code 68 = .ok (.aload_n 0, 1) := fx_dat dk_M_host 38 rfl
theorem d_M_host_69 : decode prog_15_method_65_code 69 = .ok (.getfield 328, 3) := fx_dat dk_M_host 39 rfl
theorem d_M_host_72 : decode prog_15_method_65_code 72 = .ok (.if_icmp .ge 21, 3) := fx_dat dk_M_host 40 rfl
theorem d_M_host_75 : decode prog_15_method_65_code 75 = .ok (.aload_n 0, 1) := fx_dat dk_M_host 41 rfl
theorem d_M_host_76 : decode prog_15_method_65_code 76 = .ok (.getfield 17, 3) := fx_dat dk_M_host 42 rfl
theorem d_M_host_79 : decode prog_15_method_65_code 79 = .ok (.iload_n 1, 1) := fx_dat dk_M_host 43 rfl
theorem d_M_host_80 : decode prog_15_method_65_code 80 = .ok (.aload_n 0, 1) := fx_dat dk_M_host 44 rfl
theorem d_M_host_81 : decode prog_15_method_65_code 81 = .ok (.getfield 8, 3) := fx_dat dk_M_host 45 rfl
theorem d_M_host_84 : decode prog_15_method_65_code 84 = .ok (.iload_n 1, 1) := fx_dat dk_M_host 46 rfl
theorem d_M_host_85 : decode prog_15_method_65_code 85 = .ok (.baload, 1) := fx_dat dk_M_host 47 rfl
theorem d_M_host_86 : decode prog_15_method_65_code 86 = .ok (.bastore, 1) := fx_dat dk_M_host 48 rfl
theorem d_M_host_87 : decode prog_15_method_65_code 87 = .ok (.iinc 1 1, 3) := fx_dat dk_M_host 49 rfl
theorem d_M_host_90 : decode prog_15_method_65_code 90 = .ok (.goto (-23), 3) := fx_dat dk_M_host 50 rfl
theorem d_M_host_93 : decode prog_15_method_65_code 93 = .ok (.aload_n 0, 1) := fx_dat dk_M_host 51 rfl
theorem d_M_host_94 : decode prog_15_method_65_code 94 = .ok (.aload_n 0, 1) := fx_dat dk_M_host 52 rfl
theorem d_M_host_95 : decode prog_15_method_65_code 95 = .ok (.getfield 328, 3) := fx_dat dk_M_host 53 rfl
theorem d_M_host_98 : decode prog_15_method_65_code 98 = .ok (.putfield 402, 3) := fx_dat dk_M_host 54 rfl
theorem d_M_host_101 : decode prog_15_method_65_code 101 = .ok (.aload_n 0, 1) := fx_dat dk_M_host 55 rfl
theorem d_M_host_102 : decode prog_15_method_65_code 102 = .ok (.iconst 0, 1) := fx_dat dk_M_host 56 rfl
theorem d_M_host_103 : decode prog_15_method_65_code 103 = .ok (.putfield 328, 3) := fx_dat dk_M_host 57 rfl
theorem d_M_host_106 : decode prog_15_method_65_code 106 = .ok (.aload_n 0, 1) := fx_dat dk_M_host 58 rfl
theorem d_M_host_107 : decode prog_15_method_65_code 107 = .ok (.getfield 402, 3) := fx_dat dk_M_host 59 rfl
theorem d_M_host_110 : decode prog_15_method_65_code 110 = .ok (.ireturn, 1) := fx_dat dk_M_host 60 rfl
def m_M_host_67_b (Q : Int32 → AH → Prop) (X67 : Int32 × AH → Prop) (r0 : Nat) (x1 : Int32) (h : AH) : Prop := hp_k h r0 = 13 ∧ ((hp_I h r0 4) ≤ x1 → ∀ h1 : AH, h1 = up_I h r0 6 (hp_I h r0 4) → ∀ h2 : AH, h2 = up_I h1 r0 4 (0 : Int32) → Q (hp_I h2 r0 6) h2) ∧ (¬ (hp_I h r0 4) ≤ x1 → ∃ b1, hp_R h r0 3 = some b1 ∧ ∃ b2, hp_R h r0 1 = some b2 ∧ bk (hp_k h b2) ∧ vp_in x1 (hp_n h b2) ∧ (by8 (hp_I h b2 x1.toNatClampNeg) → hp_k h b1 = 101 ∧ vp_in x1 (hp_n h b1) ∧ ∀ h3 : AH, h3 = up_I h b1 (x1).toNatClampNeg ((hp_I h b2 x1.toNatClampNeg)).toInt8.toInt32 → ∀ v1 : Int32, v1 = (x1 + (1 : Int32)) → X67 (v1, h3)))
def m_M_host_67 (Q : Int32 → AH → Prop) (r0 : Nat) (x1 : Int32) (h : AH) : Prop := fx_loop (fun (X67 : Int32 × AH → Prop) (st : Int32 × AH) => m_M_host_67_b Q X67 r0 st.1 st.2) (x1, h)
def m_M_host_53 (Q : Int32 → AH → Prop) (r0 : Nat) (h : AH) : Prop := hp_k h r0 = 13 ∧ m_M_fail (fun v1 h1 => fx_ext h h1 → Q v1 h1) r0 (1 : Int32) h
def m_M_host_23_b (Q : Int32 → AH → Prop) (X23 : Int32 × AH → Prop) (r0 : Nat) (x1 : Int32) (h : AH) : Prop := hp_k h r0 = 13 ∧ ((hp_I h r0 4) ≤ x1 → m_M_host_67 Q r0 (0 : Int32) h) ∧ (¬ (hp_I h r0 4) ≤ x1 → ∃ b1, hp_R h r0 1 = some b1 ∧ bk (hp_k h b1) ∧ vp_in x1 (hp_n h b1) ∧ (by8 (hp_I h b1 x1.toNatClampNeg) → ((hp_I h b1 x1.toNatClampNeg) < (33 : Int32) → m_M_host_53 Q r0 h) ∧ (¬ (hp_I h b1 x1.toNatClampNeg) < (33 : Int32) → vp_in x1 (hp_n h b1) ∧ (by8 (hp_I h b1 x1.toNatClampNeg) → ((hp_I h b1 x1.toNatClampNeg) ≤ (126 : Int32) → ∀ v1 : Int32, v1 = (x1 + (1 : Int32)) → X23 (v1, h)) ∧ (¬ (hp_I h b1 x1.toNatClampNeg) ≤ (126 : Int32) → m_M_host_53 Q r0 h)))))
def m_M_host_23 (Q : Int32 → AH → Prop) (r0 : Nat) (x1 : Int32) (h : AH) : Prop := fx_loop (fun (X23 : Int32 × AH → Prop) (st : Int32 × AH) => m_M_host_23_b Q X23 r0 st.1 st.2) (x1, h)
def m_M_host (Q : Int32 → AH → Prop) (r0 : Nat) (h : AH) : Prop := hp_k h r0 = 13 ∧ ∀ h1 : AH, h1 = up_I h r0 0 (0 : Int32) → ((hp_I h1 r0 4) ≤ (255 : Int32) → m_M_host_23 Q r0 (0 : Int32) h1) ∧ (¬ (hp_I h1 r0 4) ≤ (255 : Int32) → m_M_fail (fun v1 h2 => fx_ext h1 h2 → Q v1 h2) r0 (1 : Int32) h1)
theorem b_M_host_67 {p : Program} {l : Launch} {e : Env} {R : Room} {s : State} {m : MethodId} {args : Array Value} {below : List Frame} {meth : Method} {c : Code} {D : DD} {h0 : AH} {Q : Int32 → AH → Prop} (C : fx_CX D y_M_host prog_15_method_65_code 2 1 13 (Option.some FieldType.int) [] h0 p R s m meth c) (hl : l.flags = flags0) (r0 : Nat) (x1 : Int32) (h : AH) (hw : m_M_host_67 Q r0 x1 h) : ∀ (ls : Array Slot) (H : Heap) (locs : List Loc) (cells slots : Nat), lv_has ls 2 [(0, .ref r0), (1, .int x1)] → fx_F D h0 h H locs cells slots → W p l e R s m args below meth c H locs cells slots (fx_Z D below s h0 (fx_oI Q fx_no)) (F0 m 67 ls []) := by
  refine fx_loop.use hw (fun st => ∀ (ls : Array Slot) (H : Heap) (locs : List Loc) (cells slots : Nat), lv_has ls 2 [(0, .ref r0), (1, .int st.1)] → fx_F D h0 st.2 H locs cells slots → W p l e R s m args below meth c H locs cells slots (fx_Z D below s h0 (fx_oI Q fx_no)) (F0 m 67 ls [])) (fun X67 st hX67 hw => ?_)
  obtain ⟨x1, h⟩ := st
  replace hw : m_M_host_67_b Q X67 r0 x1 h := hw
  unfold m_M_host_67_b at hw
  intro ls H locs cells slots hv F
  refine lv_iload_n C.ex C.by d_M_host_67 rfl (lv_at hv 1 rfl) ?_
  refine lv_aload_n C.ex C.by d_M_host_68 rfl (lv_at hv 0 rfl) ?_
  obtain ⟨hk1, hw⟩ := hw
  refine fx_getI C F lf_M_328 hk1 rfl d_M_host_69 ?_
  refine lv_icmp_ge C.ex C.by d_M_host_72 rfl (fun hc => ?_) (fun hc => ?_)
  · replace hw := hw.1 hc
    refine lv_aload_n C.ex C.by d_M_host_93 rfl (lv_at hv 0 rfl) ?_
    refine lv_aload_n C.ex C.by d_M_host_94 rfl (lv_at hv 0 rfl) ?_
    refine fx_getI C F lf_M_328 hk1 rfl d_M_host_95 ?_
    let h1 : AH := up_I h r0 6 (hp_I h r0 4)
    replace hw := hw h1 rfl
    refine fx_putI C F lf_M_402 hk1 rfl rfl (fx_mayF.no rfl rfl) d_M_host_98 (fun H locs (F : fx_F D h0 h1 H locs _ _) => ?_)
    refine lv_aload_n C.ex C.by d_M_host_101 rfl (lv_at hv 0 rfl) ?_
    refine lv_iconst (v := (0 : Int32)) C.ex C.by d_M_host_102 (by decide) ?_
    let h2 : AH := up_I h1 r0 4 (0 : Int32)
    replace hw := hw h2 rfl
    refine fx_putI C F lf_M_328 hk1 rfl rfl (fx_mayF.no rfl rfl) d_M_host_103 (fun H locs (F : fx_F D h0 h2 H locs _ _) => ?_)
    refine lv_aload_n C.ex C.by d_M_host_106 rfl (lv_at hv 0 rfl) ?_
    refine fx_getI C F lf_M_402 hk1 rfl d_M_host_107 ?_
    exact fx_iret C F d_M_host_110 (Or.inl ⟨_, rfl, hw⟩)
  · replace hw := hw.2 hc
    refine lv_aload_n C.ex C.by d_M_host_75 rfl (lv_at hv 0 rfl) ?_
    obtain ⟨b1, hb1, hw⟩ := hw
    refine fx_getR C F lf_M_17 hk1 rfl hb1 d_M_host_76 ?_
    refine lv_iload_n C.ex C.by d_M_host_79 rfl (lv_at hv 1 rfl) ?_
    refine lv_aload_n C.ex C.by d_M_host_80 rfl (lv_at hv 0 rfl) ?_
    obtain ⟨b2, hb2, hw⟩ := hw
    refine fx_getR C F lf_M_8 hk1 rfl hb2 d_M_host_81 ?_
    refine lv_iload_n C.ex C.by d_M_host_84 rfl (lv_at hv 1 rfl) ?_
    obtain ⟨hk2, hw⟩ := hw
    obtain ⟨hi1, hw⟩ := hw
    refine fx_bald C F hk2 hi1 d_M_host_85 (fun h8 => ?_)
    replace hw := hw h8
    obtain ⟨hk3, hw⟩ := hw
    obtain ⟨hi2, hw⟩ := hw
    let h3 : AH := up_I h b1 (x1).toNatClampNeg ((hp_I h b2 x1.toNatClampNeg)).toInt8.toInt32
    replace hw := hw h3 rfl
    refine fx_bast C F hk3 hi2 d_M_host_86 (fun H locs (F : fx_F D h0 h3 H locs _ _) => ?_)
    let v1 : Int32 := (x1 + (1 : Int32))
    replace hw := hw v1 rfl
    refine lv_iinc (v := v1) (k := 1) (lv' := [(1, .int v1), (0, .ref r0)]) C.ex C.by d_M_host_87 hv rfl (congrArg (fun z => x1 + z) (by decide)) (by decide) rfl (fun ls hv => ?_)
    refine lv_goto C.ex C.by d_M_host_90 rfl ?_
    exact hX67 _ hw _ _ _ _ _ (lv_sub hv [1, 0] rfl) F
theorem b_M_host_53 {p : Program} {l : Launch} {e : Env} {R : Room} {s : State} {m : MethodId} {args : Array Value} {below : List Frame} {meth : Method} {c : Code} {D : DD} {h0 : AH} {Q : Int32 → AH → Prop} (C : fx_CX D y_M_host prog_15_method_65_code 2 1 13 (Option.some FieldType.int) [] h0 p R s m meth c) (hl : l.flags = flags0) (r0 : Nat) (h : AH) (hw : m_M_host_53 Q r0 h) : ∀ (ls : Array Slot) (H : Heap) (locs : List Loc) (cells slots : Nat), lv_has ls 2 [(0, .ref r0)] → fx_F D h0 h H locs cells slots → W p l e R s m args below meth c H locs cells slots (fx_Z D below s h0 (fx_oI Q fx_no)) (F0 m 53 ls []) := by
  unfold m_M_host_53 at hw
  intro ls H locs cells slots hv F
  refine lv_aload_n C.ex C.by d_M_host_53 rfl (lv_at hv 0 rfl) ?_
  refine lv_iconst (v := (1 : Int32)) C.ex C.by d_M_host_54 (by decide) ?_
  obtain ⟨hk1, hw⟩ := hw
  refine fx_callI C F (c_M_fail hl hw) hm_M_fail hi_M_fail hv.1 (by decide) (Nat.le_of_ble_eq_true rfl) (iv_M_fail C F lm_M_362 hk1 d_M_host_55) (fx_out0 _) fx_eno (fun v1 h1 H locs cells slots hw hx1 F => ?_)
  replace hw := hw hx1
  have hk1 := (hx1).k hk1
  exact fx_iret C F d_M_host_58 (Or.inl ⟨_, rfl, hw⟩)
theorem b_M_host_23 {p : Program} {l : Launch} {e : Env} {R : Room} {s : State} {m : MethodId} {args : Array Value} {below : List Frame} {meth : Method} {c : Code} {D : DD} {h0 : AH} {Q : Int32 → AH → Prop} (C : fx_CX D y_M_host prog_15_method_65_code 2 1 13 (Option.some FieldType.int) [] h0 p R s m meth c) (hl : l.flags = flags0) (r0 : Nat) (x1 : Int32) (h : AH) (hw : m_M_host_23 Q r0 x1 h) : ∀ (ls : Array Slot) (H : Heap) (locs : List Loc) (cells slots : Nat), lv_has ls 2 [(0, .ref r0), (1, .int x1)] → fx_F D h0 h H locs cells slots → W p l e R s m args below meth c H locs cells slots (fx_Z D below s h0 (fx_oI Q fx_no)) (F0 m 23 ls []) := by
  refine fx_loop.use hw (fun st => ∀ (ls : Array Slot) (H : Heap) (locs : List Loc) (cells slots : Nat), lv_has ls 2 [(0, .ref r0), (1, .int st.1)] → fx_F D h0 st.2 H locs cells slots → W p l e R s m args below meth c H locs cells slots (fx_Z D below s h0 (fx_oI Q fx_no)) (F0 m 23 ls [])) (fun X23 st hX23 hw => ?_)
  obtain ⟨x1, h⟩ := st
  replace hw : m_M_host_23_b Q X23 r0 x1 h := hw
  unfold m_M_host_23_b at hw
  intro ls H locs cells slots hv F
  refine lv_iload_n C.ex C.by d_M_host_23 rfl (lv_at hv 1 rfl) ?_
  refine lv_aload_n C.ex C.by d_M_host_24 rfl (lv_at hv 0 rfl) ?_
  obtain ⟨hk1, hw⟩ := hw
  refine fx_getI C F lf_M_328 hk1 rfl d_M_host_25 ?_
  refine lv_icmp_ge C.ex C.by d_M_host_28 rfl (fun hc => ?_) (fun hc => ?_)
  · replace hw := hw.1 hc
    refine lv_iconst (v := (0 : Int32)) C.ex C.by d_M_host_65 (by decide) ?_
    refine lv_istore_n (lv' := [(1, .int (0 : Int32)), (0, .ref r0)]) C.ex C.by d_M_host_66 rfl hv (by decide) rfl (fun ls hv => ?_)
    exact b_M_host_67 C hl _ _ _ hw _ _ _ _ _ (lv_sub hv [1, 0] rfl) F
  · replace hw := hw.2 hc
    refine lv_aload_n C.ex C.by d_M_host_31 rfl (lv_at hv 0 rfl) ?_
    obtain ⟨b1, hb1, hw⟩ := hw
    refine fx_getR C F lf_M_8 hk1 rfl hb1 d_M_host_32 ?_
    refine lv_iload_n C.ex C.by d_M_host_35 rfl (lv_at hv 1 rfl) ?_
    obtain ⟨hk2, hw⟩ := hw
    obtain ⟨hi1, hw⟩ := hw
    refine fx_bald C F hk2 hi1 d_M_host_36 (fun h8 => ?_)
    replace hw := hw h8
    refine lv_bipush (v := (33 : Int32)) C.ex C.by d_M_host_37 (by decide) ?_
    refine lv_icmp_lt C.ex C.by d_M_host_39 rfl (fun hc => ?_) (fun hc => ?_)
    · replace hw := hw.1 hc
      exact b_M_host_53 C hl _ _ hw _ _ _ _ _ (lv_sub hv [0] rfl) F
    · replace hw := hw.2 hc
      refine lv_aload_n C.ex C.by d_M_host_42 rfl (lv_at hv 0 rfl) ?_
      refine fx_getR C F lf_M_8 hk1 rfl hb1 d_M_host_43 ?_
      refine lv_iload_n C.ex C.by d_M_host_46 rfl (lv_at hv 1 rfl) ?_
      obtain ⟨hi2, hw⟩ := hw
      refine fx_bald C F hk2 hi2 d_M_host_47 (fun h8 => ?_)
      replace hw := hw h8
      refine lv_bipush (v := (126 : Int32)) C.ex C.by d_M_host_48 (by decide) ?_
      refine lv_icmp_le C.ex C.by d_M_host_50 rfl (fun hc => ?_) (fun hc => ?_)
      · replace hw := hw.1 hc
        let v1 : Int32 := (x1 + (1 : Int32))
        replace hw := hw v1 rfl
        refine lv_iinc (v := v1) (k := 1) (lv' := [(1, .int v1), (0, .ref r0)]) C.ex C.by d_M_host_59 hv rfl (congrArg (fun z => x1 + z) (by decide)) (by decide) rfl (fun ls hv => ?_)
        refine lv_goto C.ex C.by d_M_host_62 rfl ?_
        exact hX23 _ hw _ _ _ _ _ (lv_sub hv [1, 0] rfl) F
      · replace hw := hw.2 hc
        exact b_M_host_53 C hl _ _ hw _ _ _ _ _ (lv_sub hv [0] rfl) F
theorem b_M_host_0 {p : Program} {l : Launch} {e : Env} {R : Room} {s : State} {m : MethodId} {args : Array Value} {below : List Frame} {meth : Method} {c : Code} {D : DD} {h0 : AH} {Q : Int32 → AH → Prop} (C : fx_CX D y_M_host prog_15_method_65_code 2 1 13 (Option.some FieldType.int) [] h0 p R s m meth c) (hl : l.flags = flags0) (r0 : Nat) (h : AH) (hw : m_M_host Q r0 h) : ∀ (ls : Array Slot) (H : Heap) (locs : List Loc) (cells slots : Nat), lv_has ls 2 [(0, .ref r0)] → fx_F D h0 h H locs cells slots → W p l e R s m args below meth c H locs cells slots (fx_Z D below s h0 (fx_oI Q fx_no)) (F0 m 0 ls []) := by
  unfold m_M_host at hw
  intro ls H locs cells slots hv F
  refine lv_aload_n C.ex C.by d_M_host_0 rfl (lv_at hv 0 rfl) ?_
  refine lv_iconst (v := (0 : Int32)) C.ex C.by d_M_host_1 (by decide) ?_
  obtain ⟨hk1, hw⟩ := hw
  let h1 : AH := up_I h r0 0 (0 : Int32)
  replace hw := hw h1 rfl
  refine fx_putI C F lf_M_83 hk1 rfl rfl (fx_mayF.no rfl rfl) d_M_host_2 (fun H locs (F : fx_F D h0 h1 H locs _ _) => ?_)
  refine lv_aload_n C.ex C.by d_M_host_5 rfl (lv_at hv 0 rfl) ?_
  refine fx_getI C F lf_M_328 hk1 rfl d_M_host_6 ?_
  refine lv_sipush (v := (255 : Int32)) C.ex C.by d_M_host_9 (by decide) ?_
  refine lv_icmp_le C.ex C.by d_M_host_12 rfl (fun hc => ?_) (fun hc => ?_)
  · replace hw := hw.1 hc
    refine lv_iconst (v := (0 : Int32)) C.ex C.by d_M_host_21 (by decide) ?_
    refine lv_istore_n (lv' := [(1, .int (0 : Int32)), (0, .ref r0)]) C.ex C.by d_M_host_22 rfl hv (by decide) rfl (fun ls hv => ?_)
    exact b_M_host_23 C hl _ _ _ hw _ _ _ _ _ (lv_sub hv [1, 0] rfl) F
  · replace hw := hw.2 hc
    refine lv_aload_n C.ex C.by d_M_host_15 rfl (lv_at hv 0 rfl) ?_
    refine lv_iconst (v := (1 : Int32)) C.ex C.by d_M_host_16 (by decide) ?_
    refine fx_callI C F (c_M_fail hl hw) hm_M_fail hi_M_fail hv.1 (by decide) (Nat.le_of_ble_eq_true rfl) (iv_M_fail C F lm_M_362 hk1 d_M_host_17) (fx_out0 _) fx_eno (fun v1 h2 H locs cells slots hw hx1 F => ?_)
    replace hw := hw hx1
    have hk1 := (hx1).k hk1
    exact fx_iret C F d_M_host_20 (Or.inl ⟨_, rfl, hw⟩)
theorem hm_M_host : fx_hd y_M_host prog_15_method_65_code 2 (Option.some FieldType.int) [] ∈ tables_1 := (fx_m7 (List.mem_of_getElem? (i := 197) rfl))
theorem hi_M_host : Cond.initialized y_M_host.cls ∈ tables_1 := (fx_m1 (List.mem_of_getElem? (i := 15) rfl))
theorem c_M_host {l : Launch} (hl : l.flags = flags0) {D : DD} {Q : Int32 → AH → Prop} {r0 : Nat} {h : AH} (hw : m_M_host Q r0 h) : fx_Mt l D y_M_host (fx_hd y_M_host prog_15_method_65_code 2 (Option.some FieldType.int) []) 1 13 [.ref r0] h (fx_oI Q fx_no) := by
  refine fx_ofW (plainFor_of_name (by decide)) (fun p e s m below meth c C F => ?_)
  have hv := lv_entry ([.ref r0]) (n := 2) (Nat.le_of_ble_eq_true rfl)
  rw [lg_entry_eq]
  generalize (lg_sl ([.ref r0]) ++ List.replicate (2 - (lg_sl ([.ref r0])).length) Slot.unset).toArray = ls at hv ⊢
  have hv : lv_has ls 2 [(0, .ref r0)] := hv
  exact b_M_host_0 C hl _ _ hw _ _ _ _ _ hv F
/-! ChainJudgeModel.issued(II)Z: frames 7, words 115 -/
abbrev y_M_issued : MethodName := ⟨"ChainJudgeModel", "issued", "(II)Z"⟩
def dl_M_issued : List (Nat × Instr × Nat) := [(0, .aload_n 0, 1), (1, .iload_n 2, 1), (2, .invokevirtual 368, 3), (5, .pop, 1), (6, .aload_n 0, 1), (7, .getfield 121, 3), (10, .aload_n 0, 1), (11, .getfield 243, 3), (14, .iadd, 1), (15, .istore_n 3, 1), (16, .aload_n 0, 1), (17, .getfield 249, 3), (20, .aload_n 0, 1), (21, .getfield 243, 3), (24, .isub, 1), (25, .istore 4, 2), (27, .aload_n 0, 1), (28, .iload_n 1, 1), (29, .invokevirtual 368, 3), (32, .pop, 1), (33, .aload_n 0, 1), (34, .getfield 268, 3), (37, .aload_n 0, 1), (38, .getfield 262, 3), (41, .isub, 1), (42, .iload 4, 2), (44, .if_icmp .eq 5, 3), (47, .iconst 0, 1), (48, .ireturn, 1), (49, .iconst 0, 1), (50, .istore 5, 2), (52, .iload 5, 2), (54, .iload 4, 2), (56, .if_icmp .ge 38, 3), (59, .aload_n 0, 1), (60, .aload_n 0, 1), (61, .getfield 262, 3), (64, .iload 5, 2), (66, .iadd, 1), (67, .invokevirtual 131, 3), (70, .aload_n 0, 1), (71, .getfield 21, 3), (74, .iload_n 3, 1), (75, .iload 5, 2), (77, .iadd, 1), (78, .baload, 1), (79, .sipush 255, 3), (82, .iand, 1), (83, .if_icmp .eq 5, 3), (86, .iconst 0, 1), (87, .ireturn, 1), (88, .iinc 5 1, 3), (91, .goto (-39), 3), (94, .iconst 1, 1), (95, .ireturn, 1)]
theorem dk_M_issued : fx_dec prog_15_method_66_code dl_M_issued = true := by decide +kernel
theorem d_M_issued_0 : decode prog_15_method_66_code 0 = .ok (.aload_n 0, 1) := fx_dat dk_M_issued 0 rfl
theorem d_M_issued_1 : decode prog_15_method_66_code 1 = .ok (.iload_n 2, 1) := fx_dat dk_M_issued 1 rfl
theorem d_M_issued_2 : decode prog_15_method_66_code 2 = .ok (.invokevirtual 368, 3) := fx_dat dk_M_issued 2 rfl
theorem d_M_issued_5 : decode prog_15_method_66_code 5 = .ok (.pop, 1) := fx_dat dk_M_issued 3 rfl
theorem d_M_issued_6 : decode prog_15_method_66_code 6 = .ok (.aload_n 0, 1) := fx_dat dk_M_issued 4 rfl
theorem d_M_issued_7 : decode prog_15_method_66_code 7 = .ok (.getfield 121, 3) := fx_dat dk_M_issued 5 rfl
theorem d_M_issued_10 : decode prog_15_method_66_code 10 = .ok (.aload_n 0, 1) := fx_dat dk_M_issued 6 rfl
theorem d_M_issued_11 : decode prog_15_method_66_code 11 = .ok (.getfield 243, 3) := fx_dat dk_M_issued 7 rfl
theorem d_M_issued_14 : decode prog_15_method_66_code 14 = .ok (.iadd, 1) := fx_dat dk_M_issued 8 rfl
theorem d_M_issued_15 : decode prog_15_method_66_code 15 = .ok (.istore_n 3, 1) := fx_dat dk_M_issued 9 rfl
theorem d_M_issued_16 : decode prog_15_method_66_code 16 = .ok (.aload_n 0, 1) := fx_dat dk_M_issued 10 rfl
theorem d_M_issued_17 : decode prog_15_method_66_code 17 = .ok (.getfield 249, 3) := fx_dat dk_M_issued 11 rfl
theorem d_M_issued_20 : decode prog_15_method_66_code 20 = .ok (.aload_n 0, 1) := fx_dat dk_M_issued 12 rfl
theorem d_M_issued_21 : decode prog_15_method_66_code 21 = .ok (.getfield 243, 3) := fx_dat dk_M_issued 13 rfl
theorem d_M_issued_24 : decode prog_15_method_66_code 24 = .ok (.isub, 1) := fx_dat dk_M_issued 14 rfl
theorem d_M_issued_25 : decode prog_15_method_66_code 25 = .ok (.istore 4, 2) := fx_dat dk_M_issued 15 rfl
theorem d_M_issued_27 : decode prog_15_method_66_code 27 = .ok (.aload_n 0, 1) := fx_dat dk_M_issued 16 rfl
theorem d_M_issued_28 : decode prog_15_method_66_code 28 = .ok (.iload_n 1, 1) := fx_dat dk_M_issued 17 rfl
theorem d_M_issued_29 : decode prog_15_method_66_code 29 = .ok (.invokevirtual 368, 3) := fx_dat dk_M_issued 18 rfl
theorem d_M_issued_32 : decode prog_15_method_66_code 32 = .ok (.pop, 1) := fx_dat dk_M_issued 19 rfl
theorem d_M_issued_33 : decode prog_15_method_66_code 33 = .ok (.aload_n 0, 1) := fx_dat dk_M_issued 20 rfl
theorem d_M_issued_34 : decode prog_15_method_66_code 34 = .ok (.getfield 268, 3) := fx_dat dk_M_issued 21 rfl
theorem d_M_issued_37 : decode prog_15_method_66_code 37 = .ok (.aload_n 0, 1) := fx_dat dk_M_issued 22 rfl
theorem d_M_issued_38 : decode prog_15_method_66_code 38 = .ok (.getfield 262, 3) := fx_dat dk_M_issued 23 rfl
theorem d_M_issued_41 : decode prog_15_method_66_code 41 = .ok (.isub, 1) := fx_dat dk_M_issued 24 rfl
theorem d_M_issued_42 : decode prog_15_method_66_code 42 = .ok (.iload 4, 2) := fx_dat dk_M_issued 25 rfl
theorem d_M_issued_44 : decode prog_15_method_66_code 44 = .ok (.if_icmp .eq 5, 3) := fx_dat dk_M_issued 26 rfl
theorem d_M_issued_47 : decode prog_15_method_66_code 47 = .ok (.iconst 0, 1) := fx_dat dk_M_issued 27 rfl
theorem d_M_issued_48 : decode prog_15_method_66_code 48 = .ok (.ireturn, 1) := fx_dat dk_M_issued 28 rfl
theorem d_M_issued_49 : decode prog_15_method_66_code 49 = .ok (.iconst 0, 1) := fx_dat dk_M_issued 29 rfl
theorem d_M_issued_50 : decode prog_15_method_66_code 50 = .ok (.istore 5, 2) := fx_dat dk_M_issued 30 rfl
theorem d_M_issued_52 : decode prog_15_method_66_code 52 = .ok (.iload 5, 2) := fx_dat dk_M_issued 31 rfl
theorem d_M_issued_54 : decode prog_15_method_66_code 54 = .ok (.iload 4, 2) := fx_dat dk_M_issued 32 rfl
theorem d_M_issued_56 : decode prog_15_method_66_code 56 = .ok (.if_icmp .ge 38, 3) := fx_dat dk_M_issued 33 rfl
theorem d_M_issued_59 : decode prog_15_method_66_code 59 = .ok (.aload_n 0, 1) := fx_dat dk_M_issued 34 rfl
theorem d_M_issued_60 : decode prog_15_method_66_code 60 = .ok (.aload_n 0, 1) := fx_dat dk_M_issued 35 rfl
theorem d_M_issued_61 : decode prog_15_method_66_code 61 = .ok (.getfield 262, 3) := fx_dat dk_M_issued 36 rfl
theorem d_M_issued_64 : decode prog_15_method_66_code 64 = .ok (.iload 5, 2) := fx_dat dk_M_issued 37 rfl
theorem d_M_issued_66 : decode prog_15_method_66_code 66 = .ok (.iadd, 1) := fx_dat dk_M_issued 38 rfl
theorem d_M_issued_67 : decode prog_15_method_66_code 67 = .ok (.invokevirtual 131, 3) := fx_dat dk_M_issued 39 rfl
theorem d_M_issued_70 : decode prog_15_method_66_code 70 = .ok (.aload_n 0, 1) := fx_dat dk_M_issued 40 rfl
theorem d_M_issued_71 : decode prog_15_method_66_code 71 = .ok (.getfield 21, 3) := fx_dat dk_M_issued 41 rfl
theorem d_M_issued_74 : decode prog_15_method_66_code 74 = .ok (.iload_n 3, 1) := fx_dat dk_M_issued 42 rfl
theorem d_M_issued_75 : decode prog_15_method_66_code 75 = .ok (.iload 5, 2) := fx_dat dk_M_issued 43 rfl
theorem d_M_issued_77 : decode prog_15_method_66_code 77 = .ok (.iadd, 1) := fx_dat dk_M_issued 44 rfl
theorem d_M_issued_78 : decode prog_15_method_66_code 78 = .ok (.baload, 1) := fx_dat dk_M_issued 45 rfl
theorem d_M_issued_79 : decode prog_15_method_66_code 79 = .ok (.sipush 255, 3) := fx_dat dk_M_issued 46 rfl
theorem d_M_issued_82 : decode prog_15_method_66_code 82 = .ok (.iand, 1) := fx_dat dk_M_issued 47 rfl
theorem d_M_issued_83 : decode prog_15_method_66_code 83 = .ok (.if_icmp .eq 5, 3) := fx_dat dk_M_issued 48 rfl
theorem d_M_issued_86 : decode prog_15_method_66_code 86 = .ok (.iconst 0, 1) := fx_dat dk_M_issued 49 rfl
theorem d_M_issued_87 : decode prog_15_method_66_code 87 = .ok (.ireturn, 1) := fx_dat dk_M_issued 50 rfl
theorem d_M_issued_88 : decode prog_15_method_66_code 88 = .ok (.iinc 5 1, 3) := fx_dat dk_M_issued 51 rfl
theorem d_M_issued_91 : decode prog_15_method_66_code 91 = .ok (.goto (-39), 3) := fx_dat dk_M_issued 52 rfl
theorem d_M_issued_94 : decode prog_15_method_66_code 94 = .ok (.iconst 1, 1) := fx_dat dk_M_issued 53 rfl
theorem d_M_issued_95 : decode prog_15_method_66_code 95 = .ok (.ireturn, 1) := fx_dat dk_M_issued 54 rfl
def m_M_issued_52_b (Q : Int32 → AH → Prop) (X52 : Int32 × AH → Prop) (r0 : Nat) (x3 : Int32) (x4 : Int32) (x5 : Int32) (h : AH) : Prop := (x4 ≤ x5 → Q (1 : Int32) h) ∧ (¬ x4 ≤ x5 → hp_k h r0 = 13 ∧ m_M_here (fun v1 h1 => fx_ext h h1 → ∃ b1, hp_R h1 r0 7 = some b1 ∧ bk (hp_k h1 b1) ∧ vp_in (x3 + x5) (hp_n h1 b1) ∧ (by8 (hp_I h1 b1 ((x3 + x5)).toNatClampNeg) → (v1 = ((hp_I h1 b1 ((x3 + x5)).toNatClampNeg) &&& (255 : Int32)) → ∀ v2 : Int32, v2 = (x5 + (1 : Int32)) → X52 (v2, h1)) ∧ (¬ v1 = ((hp_I h1 b1 ((x3 + x5)).toNatClampNeg) &&& (255 : Int32)) → Q (0 : Int32) h1))) r0 ((hp_I h r0 39) + x5) h)
def m_M_issued_52 (Q : Int32 → AH → Prop) (r0 : Nat) (x3 : Int32) (x4 : Int32) (x5 : Int32) (h : AH) : Prop := fx_loop (fun (X52 : Int32 × AH → Prop) (st : Int32 × AH) => m_M_issued_52_b Q X52 r0 x3 x4 st.1 st.2) (x5, h)
def m_M_issued (Q : Int32 → AH → Prop) (r0 : Nat) (x1 : Int32) (x2 : Int32) (h : AH) : Prop := hp_k h r0 = 13 ∧ m_M_parses (fun v1 h1 => fx_ext h h1 → zb v1 → ∀ v2 : Int32, v2 = ((hp_I h1 r0 22) + (hp_I h1 r0 37)) → ∀ v3 : Int32, v3 = ((hp_I h1 r0 38) - (hp_I h1 r0 37)) → m_M_parses (fun v4 h2 => fx_ext h1 h2 → zb v4 → (((hp_I h2 r0 40) - (hp_I h2 r0 39)) = v3 → m_M_issued_52 Q r0 v2 v3 (0 : Int32) h2) ∧ (¬ ((hp_I h2 r0 40) - (hp_I h2 r0 39)) = v3 → Q (0 : Int32) h2)) r0 x1 h1) r0 x2 h
theorem b_M_issued_52 {p : Program} {l : Launch} {e : Env} {R : Room} {s : State} {m : MethodId} {args : Array Value} {below : List Frame} {meth : Method} {c : Code} {D : DD} {h0 : AH} {Q : Int32 → AH → Prop} (C : fx_CX D y_M_issued prog_15_method_66_code 6 7 115 (Option.some FieldType.boolean) [] h0 p R s m meth c) (hl : l.flags = flags0) (r0 : Nat) (x3 : Int32) (x4 : Int32) (x5 : Int32) (h : AH) (hw : m_M_issued_52 Q r0 x3 x4 x5 h) : ∀ (ls : Array Slot) (H : Heap) (locs : List Loc) (cells slots : Nat), lv_has ls 6 [(0, .ref r0), (3, .int x3), (4, .int x4), (5, .int x5)] → fx_F D h0 h H locs cells slots → W p l e R s m args below meth c H locs cells slots (fx_Z D below s h0 (fx_oZ Q fx_no)) (F0 m 52 ls []) := by
  refine fx_loop.use hw (fun st => ∀ (ls : Array Slot) (H : Heap) (locs : List Loc) (cells slots : Nat), lv_has ls 6 [(0, .ref r0), (3, .int x3), (4, .int x4), (5, .int st.1)] → fx_F D h0 st.2 H locs cells slots → W p l e R s m args below meth c H locs cells slots (fx_Z D below s h0 (fx_oZ Q fx_no)) (F0 m 52 ls [])) (fun X52 st hX52 hw => ?_)
  obtain ⟨x5, h⟩ := st
  replace hw : m_M_issued_52_b Q X52 r0 x3 x4 x5 h := hw
  unfold m_M_issued_52_b at hw
  intro ls H locs cells slots hv F
  refine lv_iload C.ex C.by d_M_issued_52 (lv_at hv 3 rfl) ?_
  refine lv_iload C.ex C.by d_M_issued_54 (lv_at hv 2 rfl) ?_
  refine lv_icmp_ge C.ex C.by d_M_issued_56 rfl (fun hc => ?_) (fun hc => ?_)
  · replace hw := hw.1 hc
    refine lv_iconst (v := (1 : Int32)) C.ex C.by d_M_issued_94 (by decide) ?_
    exact fx_zret C F d_M_issued_95 (Or.inr rfl) (Or.inl ⟨_, rfl, Or.inr rfl, hw⟩)
  · replace hw := hw.2 hc
    refine lv_aload_n C.ex C.by d_M_issued_59 rfl (lv_at hv 0 rfl) ?_
    refine lv_aload_n C.ex C.by d_M_issued_60 rfl (lv_at hv 0 rfl) ?_
    obtain ⟨hk1, hw⟩ := hw
    refine fx_getI C F lf_M_262 hk1 rfl d_M_issued_61 ?_
    refine lv_iload C.ex C.by d_M_issued_64 (lv_at hv 3 rfl) ?_
    refine lv_iadd C.ex C.by d_M_issued_66 ?_
    refine fx_callI C F (c_M_here hl hw) hm_M_here hi_M_here hv.1 (by decide) (Nat.le_of_ble_eq_true rfl) (iv_M_here C F lm_M_131 hk1 d_M_issued_67) (fx_out0 _) fx_eno (fun v1 h1 H locs cells slots hw hx1 F => ?_)
    replace hw := hw hx1
    have hk1 := (hx1).k hk1
    refine lv_aload_n C.ex C.by d_M_issued_70 rfl (lv_at hv 0 rfl) ?_
    obtain ⟨b1, hb1, hw⟩ := hw
    refine fx_getR C F lf_M_21 hk1 rfl hb1 d_M_issued_71 ?_
    refine lv_iload_n C.ex C.by d_M_issued_74 rfl (lv_at hv 1 rfl) ?_
    refine lv_iload C.ex C.by d_M_issued_75 (lv_at hv 3 rfl) ?_
    refine lv_iadd C.ex C.by d_M_issued_77 ?_
    obtain ⟨hk2, hw⟩ := hw
    obtain ⟨hi1, hw⟩ := hw
    refine fx_bald C F hk2 hi1 d_M_issued_78 (fun h8 => ?_)
    replace hw := hw h8
    refine lv_sipush (v := (255 : Int32)) C.ex C.by d_M_issued_79 (by decide) ?_
    refine lv_iand C.ex C.by d_M_issued_82 ?_
    refine lv_icmp_eq C.ex C.by d_M_issued_83 rfl (fun hc => ?_) (fun hc => ?_)
    · replace hw := hw.1 hc
      let v2 : Int32 := (x5 + (1 : Int32))
      replace hw := hw v2 rfl
      refine lv_iinc (v := v2) (k := 3) (lv' := [(5, .int v2), (0, .ref r0), (3, .int x3), (4, .int x4)]) C.ex C.by d_M_issued_88 hv rfl (congrArg (fun z => x5 + z) (by decide)) (by decide) rfl (fun ls hv => ?_)
      refine lv_goto C.ex C.by d_M_issued_91 rfl ?_
      exact hX52 _ hw _ _ _ _ _ (lv_sub hv [1, 2, 3, 0] rfl) F
    · replace hw := hw.2 hc
      refine lv_iconst (v := (0 : Int32)) C.ex C.by d_M_issued_86 (by decide) ?_
      exact fx_zret C F d_M_issued_87 (Or.inl rfl) (Or.inl ⟨_, rfl, Or.inl rfl, hw⟩)
theorem b_M_issued_0 {p : Program} {l : Launch} {e : Env} {R : Room} {s : State} {m : MethodId} {args : Array Value} {below : List Frame} {meth : Method} {c : Code} {D : DD} {h0 : AH} {Q : Int32 → AH → Prop} (C : fx_CX D y_M_issued prog_15_method_66_code 6 7 115 (Option.some FieldType.boolean) [] h0 p R s m meth c) (hl : l.flags = flags0) (r0 : Nat) (x1 : Int32) (x2 : Int32) (h : AH) (hw : m_M_issued Q r0 x1 x2 h) : ∀ (ls : Array Slot) (H : Heap) (locs : List Loc) (cells slots : Nat), lv_has ls 6 [(0, .ref r0), (1, .int x1), (2, .int x2)] → fx_F D h0 h H locs cells slots → W p l e R s m args below meth c H locs cells slots (fx_Z D below s h0 (fx_oZ Q fx_no)) (F0 m 0 ls []) := by
  unfold m_M_issued at hw
  intro ls H locs cells slots hv F
  refine lv_aload_n C.ex C.by d_M_issued_0 rfl (lv_at hv 0 rfl) ?_
  refine lv_iload_n C.ex C.by d_M_issued_1 rfl (lv_at hv 2 rfl) ?_
  obtain ⟨hk1, hw⟩ := hw
  refine fx_callZ C F (c_M_parses hl hw) hm_M_parses hi_M_parses hv.1 (by decide) (Nat.le_of_ble_eq_true rfl) (iv_M_parses C F lm_M_368 hk1 d_M_issued_2) (fx_out0 _) fx_eno (fun v1 h1 H locs cells slots hw hx1 hzb F => ?_)
  replace hw := hw hx1 hzb
  have hk1 := (hx1).k hk1
  refine lv_pop C.ex C.by d_M_issued_5 rfl ?_
  refine lv_aload_n C.ex C.by d_M_issued_6 rfl (lv_at hv 0 rfl) ?_
  refine fx_getI C F lf_M_121 hk1 rfl d_M_issued_7 ?_
  refine lv_aload_n C.ex C.by d_M_issued_10 rfl (lv_at hv 0 rfl) ?_
  refine fx_getI C F lf_M_243 hk1 rfl d_M_issued_11 ?_
  refine lv_iadd C.ex C.by d_M_issued_14 ?_
  let v2 : Int32 := ((hp_I h1 r0 22) + (hp_I h1 r0 37))
  replace hw := hw v2 rfl
  refine lv_istore_n (lv' := [(3, .int v2), (0, .ref r0), (1, .int x1), (2, .int x2)]) C.ex C.by d_M_issued_15 rfl hv (by decide) rfl (fun ls hv => ?_)
  refine lv_aload_n C.ex C.by d_M_issued_16 rfl (lv_at hv 1 rfl) ?_
  refine fx_getI C F lf_M_249 hk1 rfl d_M_issued_17 ?_
  refine lv_aload_n C.ex C.by d_M_issued_20 rfl (lv_at hv 1 rfl) ?_
  refine fx_getI C F lf_M_243 hk1 rfl d_M_issued_21 ?_
  refine lv_isub C.ex C.by d_M_issued_24 ?_
  let v3 : Int32 := ((hp_I h1 r0 38) - (hp_I h1 r0 37))
  replace hw := hw v3 rfl
  refine lv_istore (lv' := [(4, .int v3), (3, .int v2), (0, .ref r0), (1, .int x1), (2, .int x2)]) C.ex C.by d_M_issued_25 hv (by decide) rfl (fun ls hv => ?_)
  refine lv_aload_n C.ex C.by d_M_issued_27 rfl (lv_at hv 2 rfl) ?_
  refine lv_iload_n C.ex C.by d_M_issued_28 rfl (lv_at hv 3 rfl) ?_
  refine fx_callZ C F (c_M_parses hl hw) hm_M_parses hi_M_parses hv.1 (by decide) (Nat.le_of_ble_eq_true rfl) (iv_M_parses C F lm_M_368 hk1 d_M_issued_29) (fx_out0 _) fx_eno (fun v4 h2 H locs cells slots hw hx2 hzb F => ?_)
  replace hw := hw hx2 hzb
  have hk1 := (hx2).k hk1
  refine lv_pop C.ex C.by d_M_issued_32 rfl ?_
  refine lv_aload_n C.ex C.by d_M_issued_33 rfl (lv_at hv 2 rfl) ?_
  refine fx_getI C F lf_M_268 hk1 rfl d_M_issued_34 ?_
  refine lv_aload_n C.ex C.by d_M_issued_37 rfl (lv_at hv 2 rfl) ?_
  refine fx_getI C F lf_M_262 hk1 rfl d_M_issued_38 ?_
  refine lv_isub C.ex C.by d_M_issued_41 ?_
  refine lv_iload C.ex C.by d_M_issued_42 (lv_at hv 0 rfl) ?_
  refine lv_icmp_eq C.ex C.by d_M_issued_44 rfl (fun hc => ?_) (fun hc => ?_)
  · replace hw := hw.1 hc
    refine lv_iconst (v := (0 : Int32)) C.ex C.by d_M_issued_49 (by decide) ?_
    refine lv_istore (lv' := [(5, .int (0 : Int32)), (4, .int v3), (3, .int v2), (0, .ref r0), (1, .int x1), (2, .int x2)]) C.ex C.by d_M_issued_50 hv (by decide) rfl (fun ls hv => ?_)
    exact b_M_issued_52 C hl _ _ _ _ _ hw _ _ _ _ _ (lv_sub hv [3, 2, 1, 0] rfl) F
  · replace hw := hw.2 hc
    refine lv_iconst (v := (0 : Int32)) C.ex C.by d_M_issued_47 (by decide) ?_
    exact fx_zret C F d_M_issued_48 (Or.inl rfl) (Or.inl ⟨_, rfl, Or.inl rfl, hw⟩)
theorem hm_M_issued : fx_hd y_M_issued prog_15_method_66_code 6 (Option.some FieldType.boolean) [] ∈ tables_1 := (fx_m7 (List.mem_of_getElem? (i := 213) rfl))
theorem hi_M_issued : Cond.initialized y_M_issued.cls ∈ tables_1 := (fx_m1 (List.mem_of_getElem? (i := 15) rfl))
theorem c_M_issued {l : Launch} (hl : l.flags = flags0) {D : DD} {Q : Int32 → AH → Prop} {r0 : Nat} {x1 : Int32} {x2 : Int32} {h : AH} (hw : m_M_issued Q r0 x1 x2 h) : fx_Mt l D y_M_issued (fx_hd y_M_issued prog_15_method_66_code 6 (Option.some FieldType.boolean) []) 7 115 [.ref r0, .int x1, .int x2] h (fx_oZ Q fx_no) := by
  refine fx_ofW (plainFor_of_name (by decide)) (fun p e s m below meth c C F => ?_)
  have hv := lv_entry ([.ref r0, .int x1, .int x2]) (n := 6) (Nat.le_of_ble_eq_true rfl)
  rw [lg_entry_eq]
  generalize (lg_sl ([.ref r0, .int x1, .int x2]) ++ List.replicate (6 - (lg_sl ([.ref r0, .int x1, .int x2])).length) Slot.unset).toArray = ls at hv ⊢
  have hv : lv_has ls 6 [(0, .ref r0), (1, .int x1), (2, .int x2)] := hv
  exact b_M_issued_0 C hl _ _ _ _ hw _ _ _ _ _ hv F
