set_option maxRecDepth 10000
/-! ChainJudgeModel.marked(II)Z: frames 7, words 115 -/
abbrev y_M_marked : MethodName := ⟨"ChainJudgeModel", "marked", "(II)Z"⟩
def dl_M_marked : List (Nat × Instr × Nat) := [(0, .aload_n 0, 1), (1, .iload_n 1, 1), (2, .invokevirtual 368, 3), (5, .pop, 1), (6, .aload_n 0, 1), (7, .getfield 121, 3), (10, .aload_n 0, 1), (11, .getfield 238, 3), (14, .iadd, 1), (15, .istore_n 3, 1), (16, .aload_n 0, 1), (17, .iload_n 2, 1), (18, .invokevirtual 368, 3), (21, .pop, 1), (22, .aload_n 0, 1), (23, .getfield 289, 3), (26, .bipush 32, 2), (28, .if_icmp .eq 5, 3), (31, .iconst 0, 1), (32, .ireturn, 1), (33, .aload_n 0, 1), (34, .aload_n 0, 1), (35, .getfield 21, 3), (38, .iload_n 3, 1), (39, .aload_n 0, 1), (40, .getfield 21, 3), (43, .aload_n 0, 1), (44, .getfield 121, 3), (47, .aload_n 0, 1), (48, .getfield 277, 3), (51, .iadd, 1), (52, .aload_n 0, 1), (53, .getfield 280, 3), (56, .aload_n 0, 1), (57, .getfield 277, 3), (60, .isub, 1), (61, .invokevirtual 385, 3), (64, .iconst 0, 1), (65, .istore 4, 2), (67, .iload 4, 2), (69, .bipush 32, 2), (71, .if_icmp .ge 36, 3), (74, .aload_n 0, 1), (75, .getfield 77, 3), (78, .iload 4, 2), (80, .baload, 1), (81, .sipush 255, 3), (84, .iand, 1), (85, .aload_n 0, 1), (86, .aload_n 0, 1), (87, .getfield 286, 3), (90, .iload 4, 2), (92, .iadd, 1), (93, .invokevirtual 131, 3), (96, .if_icmp .eq 5, 3), (99, .iconst 0, 1), (100, .ireturn, 1), (101, .iinc 4 1, 3), (104, .goto (-37), 3), (107, .iconst 1, 1), (108, .ireturn, 1)]
theorem dk_M_marked : fx_dec prog_15_method_67_code dl_M_marked = true := by decide +kernel
theorem d_M_marked_0 : decode prog_15_method_67_code 0 = .ok (.aload_n 0, 1) := fx_dat dk_M_marked 0 rfl
theorem d_M_marked_1 : decode prog_15_method_67_code 1 = .ok (.iload_n 1, 1) := fx_dat dk_M_marked 1 rfl
theorem d_M_marked_2 : decode prog_15_method_67_code 2 = .ok (.invokevirtual 368, 3) := fx_dat dk_M_marked 2 rfl
theorem d_M_marked_5 : decode prog_15_method_67_code 5 = .ok (.pop, 1) := fx_dat dk_M_marked 3 rfl
theorem d_M_marked_6 : decode prog_15_method_67_code 6 = .ok (.aload_n 0, 1) := fx_dat dk_M_marked 4 rfl
theorem d_M_marked_7 : decode prog_15_method_67_code 7 = .ok (.getfield 121, 3) := fx_dat dk_M_marked 5 rfl
theorem d_M_marked_10 : decode prog_15_method_67_code 10 = .ok (.aload_n 0, 1) := fx_dat dk_M_marked 6 rfl
theorem d_M_marked_11 : decode prog_15_method_67_code 11 = .ok (.getfield 238, 3) := fx_dat dk_M_marked 7 rfl
theorem d_M_marked_14 : decode prog_15_method_67_code 14 = .ok (.iadd, 1) := fx_dat dk_M_marked 8 rfl
theorem d_M_marked_15 : decode prog_15_method_67_code 15 = .ok (.istore_n 3, 1) := fx_dat dk_M_marked 9 rfl
theorem d_M_marked_16 : decode prog_15_method_67_code 16 = .ok (.aload_n 0, 1) := fx_dat dk_M_marked 10 rfl
theorem d_M_marked_17 : decode prog_15_method_67_code 17 = .ok (.iload_n 2, 1) := fx_dat dk_M_marked 11 rfl
theorem d_M_marked_18 : decode prog_15_method_67_code 18 = .ok (.invokevirtual 368, 3) := fx_dat dk_M_marked 12 rfl
theorem d_M_marked_21 : decode prog_15_method_67_code 21 = .ok (.pop, 1) := fx_dat dk_M_marked 13 rfl
theorem d_M_marked_22 : decode prog_15_method_67_code 22 = .ok (.aload_n 0, 1) := fx_dat dk_M_marked 14 rfl
theorem d_M_marked_23 : decode prog_15_method_67_code 23 = .ok (.getfield 289, 3) := fx_dat dk_M_marked 15 rfl
theorem d_M_marked_26 : decode prog_15_method_67_code 26 = .ok (.bipush 32, 2) := fx_dat dk_M_marked 16 rfl
theorem d_M_marked_28 : decode prog_15_method_67_code 28 = .ok (.if_icmp .eq 5, 3) := fx_dat dk_M_marked 17 rfl
theorem d_M_marked_31 : decode prog_15_method_67_code 31 = .ok (.iconst 0, 1) := fx_dat dk_M_marked 18 rfl
theorem d_M_marked_32 : decode prog_15_method_67_code 32 = .ok (.ireturn, 1) := fx_dat dk_M_marked 19 rfl
theorem d_M_marked_33 : decode prog_15_method_67_code 33 = .ok (.aload_n 0, 1) := fx_dat dk_M_marked 20 rfl
theorem d_M_marked_34 : decode prog_15_method_67_code 34 = .ok (.aload_n 0, 1) := fx_dat dk_M_marked 21 rfl
theorem d_M_marked_35 : decode prog_15_method_67_code 35 = .ok (.getfield 21, 3) := fx_dat dk_M_marked 22 rfl
theorem d_M_marked_38 : decode prog_15_method_67_code 38 = .ok (.iload_n 3, 1) := fx_dat dk_M_marked 23 rfl
theorem d_M_marked_39 : decode prog_15_method_67_code 39 = .ok (.aload_n 0, 1) := fx_dat dk_M_marked 24 rfl
theorem d_M_marked_40 : decode prog_15_method_67_code 40 = .ok (.getfield 21, 3) := fx_dat dk_M_marked 25 rfl
theorem d_M_marked_43 : decode prog_15_method_67_code 43 = .ok (.aload_n 0, 1) := fx_dat dk_M_marked 26 rfl
theorem d_M_marked_44 : decode prog_15_method_67_code 44 = .ok (.getfield 121, 3) := fx_dat dk_M_marked 27 rfl
theorem d_M_marked_47 : decode prog_15_method_67_code 47 = .ok (.aload_n 0, 1) := fx_dat dk_M_marked 28 rfl
theorem d_M_marked_48 : decode prog_15_method_67_code 48 = .ok (.getfield 277, 3) := fx_dat dk_M_marked 29 rfl
theorem d_M_marked_51 : decode prog_15_method_67_code 51 = .ok (.iadd, 1) := fx_dat dk_M_marked 30 rfl
theorem d_M_marked_52 : decode prog_15_method_67_code 52 = .ok (.aload_n 0, 1) := fx_dat dk_M_marked 31 rfl
theorem d_M_marked_53 : decode prog_15_method_67_code 53 = .ok (.getfield 280, 3) := fx_dat dk_M_marked 32 rfl
theorem d_M_marked_56 : decode prog_15_method_67_code 56 = .ok (.aload_n 0, 1) := fx_dat dk_M_marked 33 rfl
theorem d_M_marked_57 : decode prog_15_method_67_code 57 = .ok (.getfield 277, 3) := fx_dat dk_M_marked 34 rfl
theorem d_M_marked_60 : decode prog_15_method_67_code 60 = .ok (.isub, 1) := fx_dat dk_M_marked 35 rfl
theorem d_M_marked_61 : decode prog_15_method_67_code 61 = .ok (.invokevirtual 385, 3) := fx_dat dk_M_marked 36 rfl
theorem d_M_marked_64 : decode prog_15_method_67_code 64 = .ok (.iconst 0, 1) := fx_dat dk_M_marked 37 rfl
theorem d_M_marked_65 : decode prog_15_method_67_code 65 = .ok (.istore 4, 2) := fx_dat dk_M_marked 38 rfl
theorem d_M_marked_67 : decode prog_15_method_67_code 67 = .ok (.iload 4, 2) := fx_dat dk_M_marked 39 rfl
theorem d_M_marked_69 : decode prog_15_method_67_code 69 = .ok (.bipush 32, 2) := fx_dat dk_M_marked 40 rfl
theorem d_M_marked_71 : decode prog_15_method_67_code 71 = .ok (.if_icmp .ge 36, 3) := fx_dat dk_M_marked 41 rfl
theorem d_M_marked_74 : decode prog_15_method_67_code 74 = .ok (.aload_n 0, 1) := fx_dat dk_M_marked 42 rfl
theorem d_M_marked_75 : decode prog_15_method_67_code 75 = .ok (.getfield 77, 3) := fx_dat dk_M_marked 43 rfl
theorem d_M_marked_78 : decode prog_15_method_67_code 78 = .ok (.iload 4, 2) := fx_dat dk_M_marked 44 rfl
theorem d_M_marked_80 : decode prog_15_method_67_code 80 = .ok (.baload, 1) := fx_dat dk_M_marked 45 rfl
theorem d_M_marked_81 : decode prog_15_method_67_code 81 = .ok (.sipush 255, 3) := fx_dat dk_M_marked 46 rfl
theorem d_M_marked_84 : decode prog_15_method_67_code 84 = .ok (.iand, 1) := fx_dat dk_M_marked 47 rfl
theorem d_M_marked_85 : decode prog_15_method_67_code 85 = .ok (.aload_n 0, 1) := fx_dat dk_M_marked 48 rfl
theorem d_M_marked_86 : decode prog_15_method_67_code 86 = .ok (.aload_n 0, 1) := fx_dat dk_M_marked 49 rfl
theorem d_M_marked_87 : decode prog_15_method_67_code 87 = .ok (.getfield 286, 3) := fx_dat dk_M_marked 50 rfl
theorem d_M_marked_90 : decode prog_15_method_67_code 90 = .ok (.iload 4, 2) := fx_dat dk_M_marked 51 rfl
theorem d_M_marked_92 : decode prog_15_method_67_code 92 = .ok (.iadd, 1) := fx_dat dk_M_marked 52 rfl
theorem d_M_marked_93 : decode prog_15_method_67_code 93 = .ok (.invokevirtual 131, 3) := fx_dat dk_M_marked 53 rfl
theorem d_M_marked_96 : decode prog_15_method_67_code 96 = .ok (.if_icmp .eq 5, 3) := fx_dat dk_M_marked 54 rfl
theorem d_M_marked_99 : decode prog_15_method_67_code 99 = .ok (.iconst 0, 1) := fx_dat dk_M_marked 55 rfl
theorem d_M_marked_100 : decode prog_15_method_67_code 100 = .ok (.ireturn, 1) := fx_dat dk_M_marked 56 rfl
theorem d_M_marked_101 : decode prog_15_method_67_code 101 = .ok (.iinc 4 1, 3) := fx_dat dk_M_marked 57 rfl
theorem d_M_marked_104 : decode prog_15_method_67_code 104 = .ok (.goto (-37), 3) := fx_dat dk_M_marked 58 rfl
theorem d_M_marked_107 : decode prog_15_method_67_code 107 = .ok (.iconst 1, 1) := fx_dat dk_M_marked 59 rfl
theorem d_M_marked_108 : decode prog_15_method_67_code 108 = .ok (.ireturn, 1) := fx_dat dk_M_marked 60 rfl
def m_M_marked_67_b (Q : Int32 → AH → Prop) (X67 : Int32 × AH → Prop) (r0 : Nat) (x4 : Int32) (h : AH) : Prop := ((32 : Int32) ≤ x4 → Q (1 : Int32) h) ∧ (¬ (32 : Int32) ≤ x4 → hp_k h r0 = 13 ∧ ∃ b1, hp_R h r0 56 = some b1 ∧ bk (hp_k h b1) ∧ vp_in x4 (hp_n h b1) ∧ (by8 (hp_I h b1 x4.toNatClampNeg) → m_M_here (fun v1 h1 => fx_ext h h1 → (((hp_I h b1 x4.toNatClampNeg) &&& (255 : Int32)) = v1 → ∀ v2 : Int32, v2 = (x4 + (1 : Int32)) → X67 (v2, h1)) ∧ (¬ ((hp_I h b1 x4.toNatClampNeg) &&& (255 : Int32)) = v1 → Q (0 : Int32) h1)) r0 ((hp_I h r0 34) + x4) h))
def m_M_marked_67 (Q : Int32 → AH → Prop) (r0 : Nat) (x4 : Int32) (h : AH) : Prop := fx_loop (fun (X67 : Int32 × AH → Prop) (st : Int32 × AH) => m_M_marked_67_b Q X67 r0 st.1 st.2) (x4, h)
def m_M_marked (Q : Int32 → AH → Prop) (r0 : Nat) (x1 : Int32) (x2 : Int32) (h : AH) : Prop := hp_k h r0 = 13 ∧ m_M_parses (fun v1 h1 => fx_ext h h1 → zb v1 → ∀ v2 : Int32, v2 = ((hp_I h1 r0 22) + (hp_I h1 r0 41)) → m_M_parses (fun v3 h2 => fx_ext h1 h2 → zb v3 → ((hp_I h2 r0 33) = (32 : Int32) → ∃ b1, hp_R h2 r0 7 = some b1 ∧ m_M_keyed (fun h3 => fx_ext h2 h3 → m_M_marked_67 Q r0 (0 : Int32) h3) r0 b1 v2 b1 ((hp_I h2 r0 22) + (hp_I h2 r0 35)) ((hp_I h2 r0 36) - (hp_I h2 r0 35)) h2) ∧ (¬ (hp_I h2 r0 33) = (32 : Int32) → Q (0 : Int32) h2)) r0 x2 h1) r0 x1 h
theorem b_M_marked_67 {p : Program} {l : Launch} {e : Env} {R : Room} {s : State} {m : MethodId} {args : Array Value} {below : List Frame} {meth : Method} {c : Code} {D : DD} {h0 : AH} {Q : Int32 → AH → Prop} (C : fx_CX D y_M_marked prog_15_method_67_code 5 7 115 (Option.some FieldType.boolean) [] h0 p R s m meth c) (hl : l.flags = flags0) (r0 : Nat) (x4 : Int32) (h : AH) (hw : m_M_marked_67 Q r0 x4 h) : ∀ (ls : Array Slot) (H : Heap) (locs : List Loc) (cells slots : Nat), lv_has ls 5 [(0, .ref r0), (4, .int x4)] → fx_F D h0 h H locs cells slots → W p l e R s m args below meth c H locs cells slots (fx_Z D below s h0 (fx_oZ Q fx_no)) (F0 m 67 ls []) := by
  refine fx_loop.use hw (fun st => ∀ (ls : Array Slot) (H : Heap) (locs : List Loc) (cells slots : Nat), lv_has ls 5 [(0, .ref r0), (4, .int st.1)] → fx_F D h0 st.2 H locs cells slots → W p l e R s m args below meth c H locs cells slots (fx_Z D below s h0 (fx_oZ Q fx_no)) (F0 m 67 ls [])) (fun X67 st hX67 hw => ?_)
  obtain ⟨x4, h⟩ := st
  replace hw : m_M_marked_67_b Q X67 r0 x4 h := hw
  unfold m_M_marked_67_b at hw
  intro ls H locs cells slots hv F
  refine lv_iload C.ex C.by d_M_marked_67 (lv_at hv 1 rfl) ?_
  refine lv_bipush (v := (32 : Int32)) C.ex C.by d_M_marked_69 (by decide) ?_
  refine lv_icmp_ge C.ex C.by d_M_marked_71 rfl (fun hc => ?_) (fun hc => ?_)
  · replace hw := hw.1 hc
    refine lv_iconst (v := (1 : Int32)) C.ex C.by d_M_marked_107 (by decide) ?_
    exact fx_zret C F d_M_marked_108 (Or.inr rfl) (Or.inl ⟨_, rfl, Or.inr rfl, hw⟩)
  · replace hw := hw.2 hc
    refine lv_aload_n C.ex C.by d_M_marked_74 rfl (lv_at hv 0 rfl) ?_
    obtain ⟨hk1, hw⟩ := hw
    obtain ⟨b1, hb1, hw⟩ := hw
    refine fx_getR C F lf_M_77 hk1 rfl hb1 d_M_marked_75 ?_
    refine lv_iload C.ex C.by d_M_marked_78 (lv_at hv 1 rfl) ?_
    obtain ⟨hk2, hw⟩ := hw
    obtain ⟨hi1, hw⟩ := hw
    refine fx_bald C F hk2 hi1 d_M_marked_80 (fun h8 => ?_)
    replace hw := hw h8
    refine lv_sipush (v := (255 : Int32)) C.ex C.by d_M_marked_81 (by decide) ?_
    refine lv_iand C.ex C.by d_M_marked_84 ?_
    refine lv_aload_n C.ex C.by d_M_marked_85 rfl (lv_at hv 0 rfl) ?_
    refine lv_aload_n C.ex C.by d_M_marked_86 rfl (lv_at hv 0 rfl) ?_
    refine fx_getI C F lf_M_286 hk1 rfl d_M_marked_87 ?_
    refine lv_iload C.ex C.by d_M_marked_90 (lv_at hv 1 rfl) ?_
    refine lv_iadd C.ex C.by d_M_marked_92 ?_
    refine fx_callI C F (c_M_here hl hw) hm_M_here hi_M_here hv.1 (by decide) (Nat.le_of_ble_eq_true rfl) (iv_M_here C F lm_M_131 hk1 d_M_marked_93) (fx_out0 _) fx_eno (fun v1 h1 H locs cells slots hw hx1 F => ?_)
    replace hw := hw hx1
    have hk2 := (hx1).gb hk2
    have hk1 := (hx1).k hk1
    refine lv_icmp_eq C.ex C.by d_M_marked_96 rfl (fun hc => ?_) (fun hc => ?_)
    · replace hw := hw.1 hc
      let v2 : Int32 := (x4 + (1 : Int32))
      replace hw := hw v2 rfl
      refine lv_iinc (v := v2) (k := 1) (lv' := [(4, .int v2), (0, .ref r0)]) C.ex C.by d_M_marked_101 hv rfl (congrArg (fun z => x4 + z) (by decide)) (by decide) rfl (fun ls hv => ?_)
      refine lv_goto C.ex C.by d_M_marked_104 rfl ?_
      exact hX67 _ hw _ _ _ _ _ (lv_sub hv [1, 0] rfl) F
    · replace hw := hw.2 hc
      refine lv_iconst (v := (0 : Int32)) C.ex C.by d_M_marked_99 (by decide) ?_
      exact fx_zret C F d_M_marked_100 (Or.inl rfl) (Or.inl ⟨_, rfl, Or.inl rfl, hw⟩)
theorem b_M_marked_0 {p : Program} {l : Launch} {e : Env} {R : Room} {s : State} {m : MethodId} {args : Array Value} {below : List Frame} {meth : Method} {c : Code} {D : DD} {h0 : AH} {Q : Int32 → AH → Prop} (C : fx_CX D y_M_marked prog_15_method_67_code 5 7 115 (Option.some FieldType.boolean) [] h0 p R s m meth c) (hl : l.flags = flags0) (r0 : Nat) (x1 : Int32) (x2 : Int32) (h : AH) (hw : m_M_marked Q r0 x1 x2 h) : ∀ (ls : Array Slot) (H : Heap) (locs : List Loc) (cells slots : Nat), lv_has ls 5 [(0, .ref r0), (1, .int x1), (2, .int x2)] → fx_F D h0 h H locs cells slots → W p l e R s m args below meth c H locs cells slots (fx_Z D below s h0 (fx_oZ Q fx_no)) (F0 m 0 ls []) := by
  unfold m_M_marked at hw
  intro ls H locs cells slots hv F
  refine lv_aload_n C.ex C.by d_M_marked_0 rfl (lv_at hv 0 rfl) ?_
  refine lv_iload_n C.ex C.by d_M_marked_1 rfl (lv_at hv 1 rfl) ?_
  obtain ⟨hk1, hw⟩ := hw
  refine fx_callZ C F (c_M_parses hl hw) hm_M_parses hi_M_parses hv.1 (by decide) (Nat.le_of_ble_eq_true rfl) (iv_M_parses C F lm_M_368 hk1 d_M_marked_2) (fx_out0 _) fx_eno (fun v1 h1 H locs cells slots hw hx1 hzb F => ?_)
  replace hw := hw hx1 hzb
  have hk1 := (hx1).k hk1
  refine lv_pop C.ex C.by d_M_marked_5 rfl ?_
  refine lv_aload_n C.ex C.by d_M_marked_6 rfl (lv_at hv 0 rfl) ?_
  refine fx_getI C F lf_M_121 hk1 rfl d_M_marked_7 ?_
  refine lv_aload_n C.ex C.by d_M_marked_10 rfl (lv_at hv 0 rfl) ?_
  refine fx_getI C F lf_M_238 hk1 rfl d_M_marked_11 ?_
  refine lv_iadd C.ex C.by d_M_marked_14 ?_
  let v2 : Int32 := ((hp_I h1 r0 22) + (hp_I h1 r0 41))
  replace hw := hw v2 rfl
  refine lv_istore_n (lv' := [(3, .int v2), (0, .ref r0), (1, .int x1), (2, .int x2)]) C.ex C.by d_M_marked_15 rfl hv (by decide) rfl (fun ls hv => ?_)
  refine lv_aload_n C.ex C.by d_M_marked_16 rfl (lv_at hv 1 rfl) ?_
  refine lv_iload_n C.ex C.by d_M_marked_17 rfl (lv_at hv 3 rfl) ?_
  refine fx_callZ C F (c_M_parses hl hw) hm_M_parses hi_M_parses hv.1 (by decide) (Nat.le_of_ble_eq_true rfl) (iv_M_parses C F lm_M_368 hk1 d_M_marked_18) (fx_out0 _) fx_eno (fun v3 h2 H locs cells slots hw hx2 hzb F => ?_)
  replace hw := hw hx2 hzb
  have hk1 := (hx2).k hk1
  refine lv_pop C.ex C.by d_M_marked_21 rfl ?_
  refine lv_aload_n C.ex C.by d_M_marked_22 rfl (lv_at hv 1 rfl) ?_
  refine fx_getI C F lf_M_289 hk1 rfl d_M_marked_23 ?_
  refine lv_bipush (v := (32 : Int32)) C.ex C.by d_M_marked_26 (by decide) ?_
  refine lv_icmp_eq C.ex C.by d_M_marked_28 rfl (fun hc => ?_) (fun hc => ?_)
  · replace hw := hw.1 hc
    refine lv_aload_n C.ex C.by d_M_marked_33 rfl (lv_at hv 1 rfl) ?_
    refine lv_aload_n C.ex C.by d_M_marked_34 rfl (lv_at hv 1 rfl) ?_
    obtain ⟨b1, hb1, hw⟩ := hw
    refine fx_getR C F lf_M_21 hk1 rfl hb1 d_M_marked_35 ?_
    refine lv_iload_n C.ex C.by d_M_marked_38 rfl (lv_at hv 0 rfl) ?_
    refine lv_aload_n C.ex C.by d_M_marked_39 rfl (lv_at hv 1 rfl) ?_
    refine fx_getR C F lf_M_21 hk1 rfl hb1 d_M_marked_40 ?_
    refine lv_aload_n C.ex C.by d_M_marked_43 rfl (lv_at hv 1 rfl) ?_
    refine fx_getI C F lf_M_121 hk1 rfl d_M_marked_44 ?_
    refine lv_aload_n C.ex C.by d_M_marked_47 rfl (lv_at hv 1 rfl) ?_
    refine fx_getI C F lf_M_277 hk1 rfl d_M_marked_48 ?_
    refine lv_iadd C.ex C.by d_M_marked_51 ?_
    refine lv_aload_n C.ex C.by d_M_marked_52 rfl (lv_at hv 1 rfl) ?_
    refine fx_getI C F lf_M_280 hk1 rfl d_M_marked_53 ?_
    refine lv_aload_n C.ex C.by d_M_marked_56 rfl (lv_at hv 1 rfl) ?_
    refine fx_getI C F lf_M_277 hk1 rfl d_M_marked_57 ?_
    refine lv_isub C.ex C.by d_M_marked_60 ?_
    refine fx_callV C F (c_M_keyed hl hw) hm_M_keyed hi_M_keyed hv.1 (by decide) (Nat.le_of_ble_eq_true rfl) (iv_M_keyed C F lm_M_385 hk1 d_M_marked_61) (fx_out0 _) fx_eno (fun h3 H locs cells slots hw hx3 F => ?_)
    replace hw := hw hx3
    have hk1 := (hx3).k hk1
    refine lv_iconst (v := (0 : Int32)) C.ex C.by d_M_marked_64 (by decide) ?_
    refine lv_istore (lv' := [(4, .int (0 : Int32)), (3, .int v2), (0, .ref r0), (1, .int x1), (2, .int x2)]) C.ex C.by d_M_marked_65 hv (by decide) rfl (fun ls hv => ?_)
    exact b_M_marked_67 C hl _ _ _ hw _ _ _ _ _ (lv_sub hv [2, 0] rfl) F
  · replace hw := hw.2 hc
    refine lv_iconst (v := (0 : Int32)) C.ex C.by d_M_marked_31 (by decide) ?_
    exact fx_zret C F d_M_marked_32 (Or.inl rfl) (Or.inl ⟨_, rfl, Or.inl rfl, hw⟩)
theorem hm_M_marked : fx_hd y_M_marked prog_15_method_67_code 5 (Option.some FieldType.boolean) [] ∈ tables_1 := (fx_m7 (List.mem_of_getElem? (i := 217) rfl))
theorem hi_M_marked : Cond.initialized y_M_marked.cls ∈ tables_1 := (fx_m1 (List.mem_of_getElem? (i := 15) rfl))
theorem c_M_marked {l : Launch} (hl : l.flags = flags0) {D : DD} {Q : Int32 → AH → Prop} {r0 : Nat} {x1 : Int32} {x2 : Int32} {h : AH} (hw : m_M_marked Q r0 x1 x2 h) : fx_Mt l D y_M_marked (fx_hd y_M_marked prog_15_method_67_code 5 (Option.some FieldType.boolean) []) 7 115 [.ref r0, .int x1, .int x2] h (fx_oZ Q fx_no) := by
  refine fx_ofW (plainFor_of_name (by decide)) (fun p e s m below meth c C F => ?_)
  have hv := lv_entry ([.ref r0, .int x1, .int x2]) (n := 5) (Nat.le_of_ble_eq_true rfl)
  rw [lg_entry_eq]
  generalize (lg_sl ([.ref r0, .int x1, .int x2]) ++ List.replicate (5 - (lg_sl ([.ref r0, .int x1, .int x2])).length) Slot.unset).toArray = ls at hv ⊢
  have hv : lv_has ls 5 [(0, .ref r0), (1, .int x1), (2, .int x2)] := hv
  exact b_M_marked_0 C hl _ _ _ _ hw _ _ _ _ _ hv F
/-! ChainJudgeModel.onWay(I)Z: frames 0, words 0 -/
abbrev y_M_onWay : MethodName := ⟨"ChainJudgeModel", "onWay", "(I)Z"⟩
theorem lf_M_405 : fx_Lk "ChainJudgeModel" 405 12 16 := fx_Lk.mk (C := "ChainJudgeModel") (T := fx_T12) (N := 57) rfl (by decide) (by decide) (fx_m6 (List.mem_of_getElem? (i := 22) rfl))
def dl_M_onWay : List (Nat × Instr × Nat) := [(0, .iconst 0, 1), (1, .istore_n 2, 1), (2, .iload_n 2, 1), (3, .aload_n 0, 1), (4, .getfield 405, 3), (7, .if_icmp .ge 21, 3), (10, .aload_n 0, 1), (11, .getfield 37, 3), (14, .iload_n 2, 1), (15, .iaload, 1), (16, .iload_n 1, 1), (17, .if_icmp .ne 5, 3), (20, .iconst 1, 1), (21, .ireturn, 1), (22, .iinc 2 1, 3), (25, .goto (-23), 3), (28, .iconst 0, 1), (29, .ireturn, 1)]
theorem dk_M_onWay : fx_dec prog_15_method_68_code dl_M_onWay = true := by decide +kernel
theorem d_M_onWay_0 : decode prog_15_method_68_code 0 = .ok (.iconst 0, 1) := fx_dat dk_M_onWay 0 rfl
theorem d_M_onWay_1 : decode prog_15_method_68_code 1 = .ok (.istore_n 2, 1) := fx_dat dk_M_onWay 1 rfl
theorem d_M_onWay_2 : decode prog_15_method_68_code 2 = .ok (.iload_n 2, 1) := fx_dat dk_M_onWay 2 rfl
theorem d_M_onWay_3 : decode prog_15_method_68_code 3 = .ok (.aload_n 0, 1) := fx_dat dk_M_onWay 3 rfl
theorem d_M_onWay_4 : decode prog_15_method_68_code 4 = .ok (.getfield 405, 3) := fx_dat dk_M_onWay 4 rfl
theorem d_M_onWay_7 : decode prog_15_method_68_code 7 = .ok (.if_icmp .ge 21, 3) := fx_dat dk_M_onWay 5 rfl
theorem d_M_onWay_10 : decode prog_15_method_68_code 10 = .ok (.aload_n 0, 1) := fx_dat dk_M_onWay 6 rfl
theorem d_M_onWay_11 : decode prog_15_method_68_code 11 = .ok (.getfield 37, 3) := fx_dat dk_M_onWay 7 rfl
theorem d_M_onWay_14 : decode prog_15_method_68_code 14 = .ok (.iload_n 2, 1) := fx_dat dk_M_onWay 8 rfl
theorem d_M_onWay_15 : decode prog_15_method_68_code 15 = .ok (.iaload, 1) := fx_dat dk_M_onWay 9 rfl
theorem d_M_onWay_16 : decode prog_15_method_68_code 16 = .ok (.iload_n 1, 1) := fx_dat dk_M_onWay 10 rfl
theorem d_M_onWay_17 : decode prog_15_method_68_code 17 = .ok (.if_icmp .ne 5, 3) := fx_dat dk_M_onWay 11 rfl
theorem d_M_onWay_20 : decode prog_15_method_68_code 20 = .ok (.iconst 1, 1) := fx_dat dk_M_onWay 12 rfl
theorem d_M_onWay_21 : decode prog_15_method_68_code 21 = .ok (.ireturn, 1) := fx_dat dk_M_onWay 13 rfl
theorem d_M_onWay_22 : decode prog_15_method_68_code 22 = .ok (.iinc 2 1, 3) := fx_dat dk_M_onWay 14 rfl
theorem d_M_onWay_25 : decode prog_15_method_68_code 25 = .ok (.goto (-23), 3) := fx_dat dk_M_onWay 15 rfl
theorem d_M_onWay_28 : decode prog_15_method_68_code 28 = .ok (.iconst 0, 1) := fx_dat dk_M_onWay 16 rfl
theorem d_M_onWay_29 : decode prog_15_method_68_code 29 = .ok (.ireturn, 1) := fx_dat dk_M_onWay 17 rfl
def m_M_onWay_2_b (Q : Int32 → AH → Prop) (X2 : Int32 × AH → Prop) (r0 : Nat) (x1 : Int32) (x2 : Int32) (h : AH) : Prop := hp_k h r0 = 13 ∧ ((hp_I h r0 16) ≤ x2 → Q (0 : Int32) h) ∧ (¬ (hp_I h r0 16) ≤ x2 → ∃ b1, hp_R h r0 13 = some b1 ∧ ik (hp_k h b1) ∧ vp_in x2 (hp_n h b1) ∧ (¬ (hp_I h b1 x2.toNatClampNeg) = x1 → ∀ v1 : Int32, v1 = (x2 + (1 : Int32)) → X2 (v1, h)) ∧ ((hp_I h b1 x2.toNatClampNeg) = x1 → Q (1 : Int32) h))
def m_M_onWay_2 (Q : Int32 → AH → Prop) (r0 : Nat) (x1 : Int32) (x2 : Int32) (h : AH) : Prop := fx_loop (fun (X2 : Int32 × AH → Prop) (st : Int32 × AH) => m_M_onWay_2_b Q X2 r0 x1 st.1 st.2) (x2, h)
def m_M_onWay (Q : Int32 → AH → Prop) (r0 : Nat) (x1 : Int32) (h : AH) : Prop := m_M_onWay_2 Q r0 x1 (0 : Int32) h
theorem b_M_onWay_2 {p : Program} {l : Launch} {e : Env} {R : Room} {s : State} {m : MethodId} {args : Array Value} {below : List Frame} {meth : Method} {c : Code} {D : DD} {h0 : AH} {Q : Int32 → AH → Prop} (C : fx_CX D y_M_onWay prog_15_method_68_code 3 0 0 (Option.some FieldType.boolean) [] h0 p R s m meth c) (hl : l.flags = flags0) (r0 : Nat) (x1 : Int32) (x2 : Int32) (h : AH) (hw : m_M_onWay_2 Q r0 x1 x2 h) : ∀ (ls : Array Slot) (H : Heap) (locs : List Loc) (cells slots : Nat), lv_has ls 3 [(0, .ref r0), (1, .int x1), (2, .int x2)] → fx_F D h0 h H locs cells slots → W p l e R s m args below meth c H locs cells slots (fx_Z D below s h0 (fx_oZ Q fx_no)) (F0 m 2 ls []) := by
  refine fx_loop.use hw (fun st => ∀ (ls : Array Slot) (H : Heap) (locs : List Loc) (cells slots : Nat), lv_has ls 3 [(0, .ref r0), (1, .int x1), (2, .int st.1)] → fx_F D h0 st.2 H locs cells slots → W p l e R s m args below meth c H locs cells slots (fx_Z D below s h0 (fx_oZ Q fx_no)) (F0 m 2 ls [])) (fun X2 st hX2 hw => ?_)
  obtain ⟨x2, h⟩ := st
  replace hw : m_M_onWay_2_b Q X2 r0 x1 x2 h := hw
  unfold m_M_onWay_2_b at hw
  intro ls H locs cells slots hv F
  refine lv_iload_n C.ex C.by d_M_onWay_2 rfl (lv_at hv 2 rfl) ?_
  refine lv_aload_n C.ex C.by d_M_onWay_3 rfl (lv_at hv 0 rfl) ?_
  obtain ⟨hk1, hw⟩ := hw
  refine fx_getI C F lf_M_405 hk1 rfl d_M_onWay_4 ?_
  refine lv_icmp_ge C.ex C.by d_M_onWay_7 rfl (fun hc => ?_) (fun hc => ?_)
  · replace hw := hw.1 hc
    refine lv_iconst (v := (0 : Int32)) C.ex C.by d_M_onWay_28 (by decide) ?_
    exact fx_zret C F d_M_onWay_29 (Or.inl rfl) (Or.inl ⟨_, rfl, Or.inl rfl, hw⟩)
  · replace hw := hw.2 hc
    refine lv_aload_n C.ex C.by d_M_onWay_10 rfl (lv_at hv 0 rfl) ?_
    obtain ⟨b1, hb1, hw⟩ := hw
    refine fx_getR C F lf_M_37 hk1 rfl hb1 d_M_onWay_11 ?_
    refine lv_iload_n C.ex C.by d_M_onWay_14 rfl (lv_at hv 2 rfl) ?_
    obtain ⟨hk2, hw⟩ := hw
    obtain ⟨hi1, hw⟩ := hw
    refine fx_iald C F hk2 hi1 d_M_onWay_15 ?_
    refine lv_iload_n C.ex C.by d_M_onWay_16 rfl (lv_at hv 1 rfl) ?_
    refine lv_icmp_ne C.ex C.by d_M_onWay_17 rfl (fun hc => ?_) (fun hc => ?_)
    · replace hw := hw.1 hc
      let v1 : Int32 := (x2 + (1 : Int32))
      replace hw := hw v1 rfl
      refine lv_iinc (v := v1) (k := 2) (lv' := [(2, .int v1), (0, .ref r0), (1, .int x1)]) C.ex C.by d_M_onWay_22 hv rfl (congrArg (fun z => x2 + z) (by decide)) (by decide) rfl (fun ls hv => ?_)
      refine lv_goto C.ex C.by d_M_onWay_25 rfl ?_
      exact hX2 _ hw _ _ _ _ _ (lv_sub hv [1, 2, 0] rfl) F
    · replace hw := hw.2 hc
      refine lv_iconst (v := (1 : Int32)) C.ex C.by d_M_onWay_20 (by decide) ?_
      exact fx_zret C F d_M_onWay_21 (Or.inr rfl) (Or.inl ⟨_, rfl, Or.inr rfl, hw⟩)
theorem b_M_onWay_0 {p : Program} {l : Launch} {e : Env} {R : Room} {s : State} {m : MethodId} {args : Array Value} {below : List Frame} {meth : Method} {c : Code} {D : DD} {h0 : AH} {Q : Int32 → AH → Prop} (C : fx_CX D y_M_onWay prog_15_method_68_code 3 0 0 (Option.some FieldType.boolean) [] h0 p R s m meth c) (hl : l.flags = flags0) (r0 : Nat) (x1 : Int32) (h : AH) (hw : m_M_onWay Q r0 x1 h) : ∀ (ls : Array Slot) (H : Heap) (locs : List Loc) (cells slots : Nat), lv_has ls 3 [(0, .ref r0), (1, .int x1)] → fx_F D h0 h H locs cells slots → W p l e R s m args below meth c H locs cells slots (fx_Z D below s h0 (fx_oZ Q fx_no)) (F0 m 0 ls []) := by
  unfold m_M_onWay at hw
  intro ls H locs cells slots hv F
  refine lv_iconst (v := (0 : Int32)) C.ex C.by d_M_onWay_0 (by decide) ?_
  refine lv_istore_n (lv' := [(2, .int (0 : Int32)), (0, .ref r0), (1, .int x1)]) C.ex C.by d_M_onWay_1 rfl hv (by decide) rfl (fun ls hv => ?_)
  exact b_M_onWay_2 C hl _ _ _ _ hw _ _ _ _ _ (lv_sub hv [1, 2, 0] rfl) F
theorem hm_M_onWay : fx_hd y_M_onWay prog_15_method_68_code 3 (Option.some FieldType.boolean) [] ∈ tables_1 := (fx_m7 (List.mem_of_getElem? (i := 221) rfl))
theorem hi_M_onWay : Cond.initialized y_M_onWay.cls ∈ tables_1 := (fx_m1 (List.mem_of_getElem? (i := 15) rfl))
theorem c_M_onWay {l : Launch} (hl : l.flags = flags0) {D : DD} {Q : Int32 → AH → Prop} {r0 : Nat} {x1 : Int32} {h : AH} (hw : m_M_onWay Q r0 x1 h) : fx_Mt l D y_M_onWay (fx_hd y_M_onWay prog_15_method_68_code 3 (Option.some FieldType.boolean) []) 0 0 [.ref r0, .int x1] h (fx_oZ Q fx_no) := by
  refine fx_ofW (plainFor_of_name (by decide)) (fun p e s m below meth c C F => ?_)
  have hv := lv_entry ([.ref r0, .int x1]) (n := 3) (Nat.le_of_ble_eq_true rfl)
  rw [lg_entry_eq]
  generalize (lg_sl ([.ref r0, .int x1]) ++ List.replicate (3 - (lg_sl ([.ref r0, .int x1])).length) Slot.unset).toArray = ls at hv ⊢
  have hv : lv_has ls 3 [(0, .ref r0), (1, .int x1)] := hv
  exact b_M_onWay_0 C hl _ _ _ hw _ _ _ _ _ hv F
/-! ChainJudgeModel.further()I: frames 8, words 132 -/
abbrev y_M_further : MethodName := ⟨"ChainJudgeModel", "further", "()I"⟩
theorem lm_M_408 : Cond.methodLink "ChainJudgeModel" 408 y_M_issued ∈ tables_1 ∨ ∃ host, Cond.methodLinkNest "ChainJudgeModel" 408 y_M_issued host ∈ tables_1 := Or.inl (fx_m7 (List.mem_of_getElem? (i := 210) rfl))
theorem lm_M_412 : Cond.methodLink "ChainJudgeModel" 412 y_M_marked ∈ tables_1 ∨ ∃ host, Cond.methodLinkNest "ChainJudgeModel" 412 y_M_marked host ∈ tables_1 := Or.inl (fx_m7 (List.mem_of_getElem? (i := 214) rfl))
theorem lm_M_415 : Cond.methodLink "ChainJudgeModel" 415 y_M_onWay ∈ tables_1 ∨ ∃ host, Cond.methodLinkNest "ChainJudgeModel" 415 y_M_onWay host ∈ tables_1 := Or.inl (fx_m7 (List.mem_of_getElem? (i := 218) rfl))
section
variable {p : Program} {l : Launch} {e : Env} {R : Room} {s : State} {m : MethodId} {args : Array Value} {below : List Frame} {meth : Method} {c : Code} {H : Heap} {locs : List Loc} {cells slots : Nat}
variable {D : DD} {y : MethodName} {cc : ByteArray} {nL kf kw : Nat} {ret : Option FieldType} {hh : List (Nat × Nat × Nat × Nat)} {h0 h : AH} {pc : Nat} {ls : Array Slot} {rest : List Value} {b idx : Nat}
theorem iv_M_issued {x1 : Int32} {x2 : Int32} (C : fx_CX D y cc nL kf kw ret hh h0 p R s m meth c) (F : fx_F D h0 h H locs cells slots) (hw1 : Cond.methodLink y.cls idx y_M_issued ∈ tables_1 ∨ ∃ host, Cond.methodLinkNest y.cls idx y_M_issued host ∈ tables_1) (hk : hp_k h b = 13) (hd : decode cc pc = .ok (.invokevirtual idx, 3)) : fx_IV p l e R s m args below meth c H locs cells slots (F0 m pc ls (.int x2 :: .int x1 :: .ref b :: rest)) rest y_M_issued [.ref b, .int x1, .int x2] 3 := fun T hT X => fx_invV (As := [.int x1, .int x2]) (Cn := "ChainJudgeModel") C X hw1 (fx_m7 (List.mem_of_getElem? (i := 212) rfl)) (fx_selP C ⟨by decide, by decide⟩ (fx_m5 (List.mem_of_getElem? (i := 217) rfl)) (fx_m7 (List.mem_of_getElem? (i := 211) rfl)) (fx_m7 (List.mem_of_getElem? (i := 212) rfl))) hm_M_issued ⟨by decide, by decide⟩ (by rw [hT]; exact fx_clsO (ci := 12) (r := ("ChainJudgeModel", fx_T12, 57)) C F rfl (by decide) hk) rfl (n := 2) (by decide +kernel) rfl rfl hd
theorem iv_M_marked {x1 : Int32} {x2 : Int32} (C : fx_CX D y cc nL kf kw ret hh h0 p R s m meth c) (F : fx_F D h0 h H locs cells slots) (hw1 : Cond.methodLink y.cls idx y_M_marked ∈ tables_1 ∨ ∃ host, Cond.methodLinkNest y.cls idx y_M_marked host ∈ tables_1) (hk : hp_k h b = 13) (hd : decode cc pc = .ok (.invokevirtual idx, 3)) : fx_IV p l e R s m args below meth c H locs cells slots (F0 m pc ls (.int x2 :: .int x1 :: .ref b :: rest)) rest y_M_marked [.ref b, .int x1, .int x2] 3 := fun T hT X => fx_invV (As := [.int x1, .int x2]) (Cn := "ChainJudgeModel") C X hw1 (fx_m7 (List.mem_of_getElem? (i := 216) rfl)) (fx_selP C ⟨by decide, by decide⟩ (fx_m5 (List.mem_of_getElem? (i := 217) rfl)) (fx_m7 (List.mem_of_getElem? (i := 215) rfl)) (fx_m7 (List.mem_of_getElem? (i := 216) rfl))) hm_M_marked ⟨by decide, by decide⟩ (by rw [hT]; exact fx_clsO (ci := 12) (r := ("ChainJudgeModel", fx_T12, 57)) C F rfl (by decide) hk) rfl (n := 2) (by decide +kernel) rfl rfl hd
theorem iv_M_onWay {x1 : Int32} (C : fx_CX D y cc nL kf kw ret hh h0 p R s m meth c) (F : fx_F D h0 h H locs cells slots) (hw1 : Cond.methodLink y.cls idx y_M_onWay ∈ tables_1 ∨ ∃ host, Cond.methodLinkNest y.cls idx y_M_onWay host ∈ tables_1) (hk : hp_k h b = 13) (hd : decode cc pc = .ok (.invokevirtual idx, 3)) : fx_IV p l e R s m args below meth c H locs cells slots (F0 m pc ls (.int x1 :: .ref b :: rest)) rest y_M_onWay [.ref b, .int x1] 3 := fun T hT X => fx_invV (As := [.int x1]) (Cn := "ChainJudgeModel") C X hw1 (fx_m7 (List.mem_of_getElem? (i := 220) rfl)) (fx_selP C ⟨by decide, by decide⟩ (fx_m5 (List.mem_of_getElem? (i := 217) rfl)) (fx_m7 (List.mem_of_getElem? (i := 219) rfl)) (fx_m7 (List.mem_of_getElem? (i := 220) rfl))) hm_M_onWay ⟨by decide, by decide⟩ (by rw [hT]; exact fx_clsO (ci := 12) (r := ("ChainJudgeModel", fx_T12, 57)) C F rfl (by decide) hk) rfl (n := 1) (by decide +kernel) rfl rfl hd
end
def dl_M_further : List (Nat × Instr × Nat) := [(0, .aload_n 0, 1), (1, .getfield 31, 3), (4, .aload_n 0, 1), (5, .getfield 37, 3), (8, .aload_n 0, 1), (9, .getfield 405, 3), (12, .iconst 1, 1), (13, .isub, 1), (14, .iaload, 1), (15, .iaload, 1), (16, .istore_n 1, 1), (17, .iconst 0, 1), (18, .istore_n 2, 1), (19, .iconst 0, 1), (20, .istore_n 3, 1), (21, .iload_n 3, 1), (22, .aload_n 0, 1), (23, .getfield 399, 3), (26, .if_icmp .ge 52, 3), (29, .aload_n 0, 1), (30, .aload_n 0, 1), (31, .getfield 34, 3), (34, .iload_n 3, 1), (35, .iaload, 1), (36, .iload_n 1, 1), (37, .invokevirtual 408, 3), (40, .ifCond .ne 6, 3), (43, .goto 29, 3), (46, .iconst 1, 1), (47, .istore_n 2, 1), (48, .aload_n 0, 1), (49, .aload_n 0, 1), (50, .getfield 34, 3), (53, .iload_n 3, 1), (54, .iaload, 1), (55, .iload_n 1, 1), (56, .invokevirtual 412, 3), (59, .ifCond .ne 6, 3), (62, .goto 10, 3), (65, .aload_n 0, 1), (66, .iload_n 3, 1), (67, .putfield 40, 3), (70, .iconst 0, 1), (71, .ireturn, 1), (72, .iinc 3 1, 3), (75, .goto (-54), 3), (78, .iconst 0, 1), (79, .istore_n 3, 1), (80, .iload_n 3, 1), (81, .aload_n 0, 1), (82, .getfield 396, 3), (85, .if_icmp .ge 87, 3), (88, .aload_n 0, 1), (89, .iload_n 3, 1), (90, .invokevirtual 415, 3), (93, .ifCond .ne 73, 3), (96, .aload_n 0, 1), (97, .aload_n 0, 1), (98, .getfield 31, 3), (101, .iload_n 3, 1), (102, .iaload, 1), (103, .iload_n 1, 1), (104, .invokevirtual 408, 3), (107, .ifCond .ne 6, 3), (110, .goto 56, 3), (113, .iconst 1, 1), (114, .istore_n 2, 1), (115, .aload_n 0, 1), (116, .aload_n 0, 1), (117, .getfield 31, 3), (120, .iload_n 3, 1), (121, .iaload, 1), (122, .iload_n 1, 1), (123, .invokevirtual 412, 3), (126, .ifCond .ne 6, 3), (129, .goto 37, 3), (132, .aload_n 0, 1), (133, .getfield 405, 3), (136, .bipush 8, 2), (138, .if_icmp .ne 6, 3), (141, .bipush 48, 2), (143, .ireturn, 1), (144, .aload_n 0, 1), (145, .getfield 37, 3), (148, .aload_n 0, 1), (149, .getfield 405, 3), (152, .iload_n 3, 1), (153, .iastore, 1), (154, .aload_n 0, 1), (155, .dup, 1), (156, .getfield 405, 3), (159, .iconst 1, 1), (160, .iadd, 1), (161, .putfield 405, 3), (164, .iconst 1, 1), (165, .ireturn, 1), (166, .iinc 3 1, 3), (169, .goto (-89), 3), (172, .iload_n 2, 1), (173, .ifCond .eq 8, 3), (176, .bipush 42, 2), (178, .goto 5, 3), (181, .bipush 48, 2), (183, .ireturn, 1)]
theorem dk_M_further : fx_dec prog_15_method_69_code dl_M_further = true := by decide +kernel
theorem d_M_further_0 : decode prog_15_method_69_code 0 = .ok (.aload_n 0, 1) := fx_dat dk_M_further 0 rfl
theorem d_M_further_1 : decode prog_15_method_69_code 1 = .ok (.getfield 31, 3) := fx_dat dk_M_further 1 rfl
theorem d_M_further_4 : decode prog_15_method_69_code 4 = .ok (.aload_n 0, 1) := fx_dat dk_M_further 2 rfl
theorem d_M_further_5 : decode prog_15_method_69_code 5 = .ok (.getfield 37, 3) := fx_dat dk_M_further 3 rfl
theorem d_M_further_8 : decode prog_15_method_69_code 8 = .ok (.aload_n 0, 1) := fx_dat dk_M_further 4 rfl
theorem d_M_further_9 : decode prog_15_method_69_code 9 = .ok (.getfield 405, 3) := fx_dat dk_M_further 5 rfl
theorem d_M_further_12 : decode prog_15_method_69_code 12 = .ok (.iconst 1, 1) := fx_dat dk_M_further 6 rfl
theorem d_M_further_13 : decode prog_15_method_69_code 13 = .ok (.isub, 1) := fx_dat dk_M_further 7 rfl
theorem d_M_further_14 : decode prog_15_method_69_code 14 = .ok (.iaload, 1) := fx_dat dk_M_further 8 rfl
theorem d_M_further_15 : decode prog_15_method_69_code 15 = .ok (.iaload, 1) := fx_dat dk_M_further 9 rfl
theorem d_M_further_16 : decode prog_15_method_69_code 16 = .ok (.istore_n 1, 1) := fx_dat dk_M_further 10 rfl
theorem d_M_further_17 : decode prog_15_method_69_code 17 = .ok (.iconst 0, 1) := fx_dat dk_M_further 11 rfl
theorem d_M_further_18 : decode prog_15_method_69_code 18 = .ok (.istore_n 2, 1) := fx_dat dk_M_further 12 rfl
theorem d_M_further_19 : decode prog_15_method_69_code 19 = .ok (.iconst 0, 1) := fx_dat dk_M_further 13 rfl
theorem d_M_further_20 : decode prog_15_method_69_code 20 = .ok (.istore_n 3, 1) := fx_dat dk_M_further 14 rfl
theorem d_M_further_21 : decode prog_15_method_69_code 21 = .ok (.iload_n 3, 1) := fx_dat dk_M_further 15 rfl
theorem d_M_further_22 : decode prog_15_method_69_code 22 = .ok (.aload_n 0, 1) := fx_dat dk_M_further 16 rfl
theorem d_M_further_23 : decode prog_15_method_69_code 23 = .ok (.getfield 399, 3) := fx_dat dk_M_further 17 rfl
theorem d_M_further_26 : decode prog_15_method_69_code 26 = .ok (.if_icmp .ge 52, 3) := fx_dat dk_M_further 18 rfl
theorem d_M_further_29 : decode prog_15_method_69_code 29 = .ok (.aload_n 0, 1) := fx_dat dk_M_further 19 rfl
theorem d_M_further_30 : decode prog_15_method_69_code 30 = .ok (.aload_n 0, 1) := fx_dat dk_M_further 20 rfl
theorem d_M_further_31 : decode prog_15_method_69_code 31 = .ok (.getfield 34, 3) := fx_dat dk_M_further 21 rfl
theorem d_M_further_34 : decode prog_15_method_69_code 34 = .ok (.iload_n 3, 1) := fx_dat dk_M_further 22 rfl
theorem d_M_further_35 : decode prog_15_method_69_code 35 = .ok (.iaload, 1) := fx_dat dk_M_further 23 rfl
theorem d_M_further_36 : decode prog_15_method_69_code 36 = .ok (.iload_n 1, 1) := fx_dat dk_M_further 24 rfl
theorem d_M_further_37 : decode prog_15_method_69_code 37 = .ok (.invokevirtual 408, 3) := fx_dat dk_M_further 25 rfl
theorem d_M_further_40 : decode prog_15_method_69_code 40 = .ok (.ifCond .ne 6, 3) := fx_dat dk_M_further 26 rfl
theorem d_M_further_43 : decode prog_15_method_69_code 43 = .ok (.goto 29, 3) := fx_dat dk_M_further 27 rfl
theorem d_M_further_46 : decode prog_15_method_69_code 46 = .ok (.iconst 1, 1) := fx_dat dk_M_further 28 rfl
theorem d_M_further_47 : decode prog_15_method_69_code 47 = .ok (.istore_n 2, 1) := fx_dat dk_M_further 29 rfl
theorem d_M_further_48 : decode prog_15_method_69_code 48 = .ok (.aload_n 0, 1) := fx_dat dk_M_further 30 rfl
theorem d_M_further_49 : decode prog_15_method_69_code 49 = .ok (.aload_n 0, 1) := fx_dat dk_M_further 31 rfl
theorem d_M_further_50 : decode prog_15_method_69_code 50 = .ok (.getfield 34, 3) := fx_dat dk_M_further 32 rfl
theorem d_M_further_53 : decode prog_15_method_69_code 53 = .ok (.iload_n 3, 1) := fx_dat dk_M_further 33 rfl
theorem d_M_further_54 : decode prog_15_method_69_code 54 = .ok (.iaload, 1) := fx_dat dk_M_further 34 rfl
theorem d_M_further_55 : decode prog_15_method_69_code 55 = .ok (.iload_n 1, 1) := fx_dat dk_M_further 35 rfl
theorem d_M_further_56 : decode prog_15_method_69_code 56 = .ok (.invokevirtual 412, 3) := fx_dat dk_M_further 36 rfl
theorem d_M_further_59 : decode prog_15_method_69_code 59 = .ok (.ifCond .ne 6, 3) := fx_dat dk_M_further 37 rfl
theorem d_M_further_62 : decode prog_15_method_69_code 62 = .ok (.goto 10, 3) := fx_dat dk_M_further 38 rfl
theorem d_M_further_65 : decode prog_15_method_69_code 65 = .ok (.aload_n 0, 1) := fx_dat dk_M_further 39 rfl
theorem d_M_further_66 : decode prog_15_method_69_code 66 = .ok (.iload_n 3, 1) := fx_dat dk_M_further 40 rfl
theorem d_M_further_67 : decode prog_15_method_69_code 67 = .ok (.putfield 40, 3) := fx_dat dk_M_further 41 rfl
theorem d_M_further_70 : decode prog_15_method_69_code 70 = .ok (.iconst 0, 1) := fx_dat dk_M_further 42 rfl
theorem d_M_further_71 : decode prog_15_method_69_code 71 = .ok (.ireturn, 1) := fx_dat dk_M_further 43 rfl
theorem d_M_further_72 : decode prog_15_method_69_code 72 = .ok (.iinc 3 1, 3) := fx_dat dk_M_further 44 rfl
theorem d_M_further_75 : decode prog_15_method_69_code 75 = .ok (.goto (-54), 3) := fx_dat dk_M_further 45 rfl
theorem d_M_further_78 : decode prog_15_method_69_code 78 = .ok (.iconst 0, 1) := fx_dat dk_M_further 46 rfl
theorem d_M_further_79 : decode prog_15_method_69_code 79 = .ok (.istore_n 3, 1) := fx_dat dk_M_further 47 rfl
theorem d_M_further_80 : decode prog_15_method_69_code 80 = .ok (.iload_n 3, 1) := fx_dat dk_M_further 48 rfl
theorem d_M_further_81 : decode prog_15_method_69_code 81 = .ok (.aload_n 0, 1) := fx_dat dk_M_further 49 rfl
theorem d_M_further_82 : decode prog_15_method_69_code 82 = .ok (.getfield 396, 3) := fx_dat dk_M_further 50 rfl
theorem d_M_further_85 : decode prog_15_method_69_code 85 = .ok (.if_icmp .ge 87, 3) := fx_dat dk_M_further 51 rfl
theorem d_M_further_88 : decode prog_15_method_69_code 88 = .ok (.aload_n 0, 1) := fx_dat dk_M_further 52 rfl
theorem d_M_further_89 : decode prog_15_method_69_code 89 = .ok (.iload_n 3, 1) := fx_dat dk_M_further 53 rfl
theorem d_M_further_90 : decode prog_15_method_69_code 90 = .ok (.invokevirtual 415, 3) := fx_dat dk_M_further 54 rfl
theorem d_M_further_93 : decode prog_15_method_69_code 93 = .ok (.ifCond .ne 73, 3) := fx_dat dk_M_further 55 rfl
theorem d_M_further_96 : decode prog_15_method_69_code 96 = .ok (.aload_n 0, 1) := fx_dat dk_M_further 56 rfl
theorem d_M_further_97 : decode prog_15_method_69_code 97 = .ok (.aload_n 0, 1) := fx_dat dk_M_further 57 rfl
theorem d_M_further_98 : decode prog_15_method_69_code 98 = .ok (.getfield 31, 3) := fx_dat dk_M_further 58 rfl
theorem d_M_further_101 : decode prog_15_method_69_code 101 = .ok (.iload_n 3, 1) := fx_dat dk_M_further 59 rfl
theorem d_M_further_102 : decode prog_15_method_69_code 102 = .ok (.iaload, 1) := fx_dat dk_M_further 60 rfl
theorem d_M_further_103 : decode prog_15_method_69_code 103 = .ok (.iload_n 1, 1) := fx_dat dk_M_further 61 rfl
theorem d_M_further_104 : decode prog_15_method_69_code 104 = .ok (.invokevirtual 408, 3) := fx_dat dk_M_further 62 rfl
theorem d_M_further_107 : decode prog_15_method_69_code 107 = .ok (.ifCond .ne 6, 3) := fx_dat dk_M_further 63 rfl
theorem d_M_further_110 : decode prog_15_method_69_code 110 = .ok (.goto 56, 3) := fx_dat dk_M_further 64 rfl
theorem d_M_further_113 : decode prog_15_method_69_code 113 = .ok (.iconst 1, 1) := fx_dat dk_M_further 65 rfl
theorem d_M_further_114 : decode prog_15_method_69_code 114 = .ok (.istore_n 2, 1) := fx_dat dk_M_further 66 rfl
theorem d_M_further_115 : decode prog_15_method_69_code 115 = .ok (.aload_n 0, 1) := fx_dat dk_M_further 67 rfl
theorem d_M_further_116 : decode prog_15_method_69_code 116 = .ok (.aload_n 0, 1) := fx_dat dk_M_further 68 rfl
theorem d_M_further_117 : decode prog_15_method_69_code 117 = .ok (.getfield 31, 3) := fx_dat dk_M_further 69 rfl
theorem d_M_further_120 : decode prog_15_method_69_code 120 = .ok (.iload_n 3, 1) := fx_dat dk_M_further 70 rfl
theorem d_M_further_121 : decode prog_15_method_69_code 121 = .ok (.iaload, 1) := fx_dat dk_M_further 71 rfl
theorem d_M_further_122 : decode prog_15_method_69_code 122 = .ok (.iload_n 1, 1) := fx_dat dk_M_further 72 rfl
theorem d_M_further_123 : decode prog_15_method_69_code 123 = .ok (.invokevirtual 412, 3) := fx_dat dk_M_further 73 rfl
theorem d_M_further_126 : decode prog_15_method_69_code 126 = .ok (.ifCond .ne 6, 3) := fx_dat dk_M_further 74 rfl
theorem d_M_further_129 : decode prog_15_method_69_code 129 = .ok (.goto 37, 3) := fx_dat dk_M_further 75 rfl
theorem d_M_further_132 : decode prog_15_method_69_code 132 = .ok (.aload_n 0, 1) := fx_dat dk_M_further 76 rfl
theorem d_M_further_133 : decode prog_15_method_69_code 133 = .ok (.getfield 405, 3) := fx_dat dk_M_further 77 rfl
theorem d_M_further_136 : decode prog_15_method_69_code 136 = .ok (.bipush 8, 2) := fx_dat dk_M_further 78 rfl
theorem d_M_further_138 : decode prog_15_method_69_code 138 = .ok (.if_icmp .ne 6, 3) := fx_dat dk_M_further 79 rfl
theorem d_M_further_141 : decode prog_15_method_69_code 141 = .ok (.bipush 48, 2) := fx_dat dk_M_further 80 rfl
theorem d_M_further_143 : decode prog_15_method_69_code 143 = .ok (.ireturn, 1) := fx_dat dk_M_further 81 rfl
theorem d_M_further_144 : decode prog_15_method_69_code 144 = .ok (.aload_n 0, 1) := fx_dat dk_M_further 82 rfl
theorem d_M_further_145 : decode prog_15_method_69_code 145 = .ok (.getfield 37, 3) := fx_dat dk_M_further 83 rfl
theorem d_M_further_148 : decode prog_15_method_69_code 148 = .ok (.aload_n 0, 1) := fx_dat dk_M_further 84 rfl
theorem d_M_further_149 : decode prog_15_method_69_code 149 = .ok (.getfield 405, 3) := fx_dat dk_M_further 85 rfl
theorem d_M_further_152 : decode prog_15_method_69_code 152 = .ok (.iload_n 3, 1) := fx_dat dk_M_further 86 rfl
theorem d_M_further_153 : decode prog_15_method_69_code 153 = .ok (.iastore, 1) := fx_dat dk_M_further 87 rfl
theorem d_M_further_154 : decode prog_15_method_69_code 154 = .ok (.aload_n 0, 1) := fx_dat dk_M_further 88 rfl
theorem d_M_further_155 : decode prog_15_method_69_code 155 = .ok (.dup, 1) := fx_dat dk_M_further 89 rfl
theorem d_M_further_156 : decode prog_15_method_69_code 156 = .ok (.getfield 405, 3) := fx_dat dk_M_further 90 rfl
theorem d_M_further_159 : decode prog_15_method_69_code 159 = .ok (.iconst 1, 1) := fx_dat dk_M_further 91 rfl
theorem d_M_further_160 : decode prog_15_method_69_code 160 = .ok (.iadd, 1) := fx_dat dk_M_further 92 rfl
theorem d_M_further_161 : decode prog_15_method_69_code 161 = .ok (.putfield 405, 3) := fx_dat dk_M_further 93 rfl
theorem d_M_further_164 : decode prog_15_method_69_code 164 = .ok (.iconst 1, 1) := fx_dat dk_M_further 94 rfl
theorem d_M_further_165 : decode prog_15_method_69_code 165 = .ok (.ireturn, 1) := fx_dat dk_M_further 95 rfl
theorem d_M_further_166 : decode prog_15_method_69_code 166 = .ok (.iinc 3 1, 3) := fx_dat dk_M_further 96 rfl
theorem d_M_further_169 : decode prog_15_method_69_code 169 = .ok (.goto (-89), 3) := fx_dat dk_M_further 97 rfl
theorem d_M_further_172 : decode prog_15_method_69_code 172 = .ok (.iload_n 2, 1) := fx_dat dk_M_further 98 rfl
theorem d_M_further_173 : decode prog_15_method_69_code 173 = .ok (.ifCond .eq 8, 3) := fx_dat dk_M_further 99 rfl
theorem d_M_further_176 : decode prog_15_method_69_code 176 = .ok (.bipush 42, 2) := fx_dat dk_M_further 100 rfl
theorem d_M_further_178 : decode prog_15_method_69_code 178 = .ok (.goto 5, 3) := fx_dat dk_M_further 101 rfl
theorem d_M_further_181 : decode prog_15_method_69_code 181 = .ok (.bipush 48, 2) := fx_dat dk_M_further 102 rfl
theorem d_M_further_183 : decode prog_15_method_69_code 183 = .ok (.ireturn, 1) := fx_dat dk_M_further 103 rfl
def m_M_further_183 (Q : Int32 → AH → Prop) (sx0 : Int32) (h : AH) : Prop := Q sx0 h
def m_M_further_166 (Q : Int32 → AH → Prop) (X80 : Int32 × Int32 × AH → Prop) (r0 : Nat) (x1 : Int32) (x2 : Int32) (x3 : Int32) (h : AH) : Prop := ∀ v1 : Int32, v1 = (x3 + (1 : Int32)) → X80 (x2, v1, h)
def m_M_further_80_b (Q : Int32 → AH → Prop) (X80 : Int32 × Int32 × AH → Prop) (r0 : Nat) (x1 : Int32) (x2 : Int32) (x3 : Int32) (h : AH) : Prop := hp_k h r0 = 13 ∧ ((hp_I h r0 14) ≤ x3 → (x2 = 0 → m_M_further_183 Q (48 : Int32) h) ∧ (¬ x2 = 0 → m_M_further_183 Q (42 : Int32) h)) ∧ (¬ (hp_I h r0 14) ≤ x3 → m_M_onWay (fun v1 h1 => fx_ext h h1 → zb v1 → (¬ v1 = 0 → m_M_further_166 Q X80 r0 x1 x2 x3 h1) ∧ (v1 = 0 → ∃ b1, hp_R h1 r0 11 = some b1 ∧ ik (hp_k h1 b1) ∧ vp_in x3 (hp_n h1 b1) ∧ m_M_issued (fun v2 h2 => fx_ext h1 h2 → zb v2 → (¬ v2 = 0 → ∃ b2, hp_R h2 r0 11 = some b2 ∧ ik (hp_k h2 b2) ∧ vp_in x3 (hp_n h2 b2) ∧ m_M_marked (fun v3 h3 => fx_ext h2 h3 → zb v3 → (¬ v3 = 0 → (¬ (hp_I h3 r0 16) = (8 : Int32) → ∃ b3, hp_R h3 r0 13 = some b3 ∧ hp_k h3 b3 = 102 ∧ vp_in (hp_I h3 r0 16) (hp_n h3 b3) ∧ ∀ h4 : AH, h4 = up_I h3 b3 ((hp_I h3 r0 16)).toNatClampNeg x3 → ∀ h5 : AH, h5 = up_I h4 r0 16 ((hp_I h4 r0 16) + (1 : Int32)) → Q (1 : Int32) h5) ∧ ((hp_I h3 r0 16) = (8 : Int32) → Q (48 : Int32) h3)) ∧ (v3 = 0 → m_M_further_166 Q X80 r0 x1 (1 : Int32) x3 h3)) r0 (hp_I h2 b2 x3.toNatClampNeg) x1 h2) ∧ (v2 = 0 → m_M_further_166 Q X80 r0 x1 x2 x3 h2)) r0 (hp_I h1 b1 x3.toNatClampNeg) x1 h1)) r0 x3 h)
def m_M_further_80 (Q : Int32 → AH → Prop) (r0 : Nat) (x1 : Int32) (x2 : Int32) (x3 : Int32) (h : AH) : Prop := fx_loop (fun (X80 : Int32 × Int32 × AH → Prop) (st : Int32 × Int32 × AH) => m_M_further_80_b Q X80 r0 x1 st.1 st.2.1 st.2.2) (x2, x3, h)
def m_M_further_72 (Q : Int32 → AH → Prop) (X21 : Int32 × Int32 × AH → Prop) (r0 : Nat) (x1 : Int32) (x2 : Int32) (x3 : Int32) (h : AH) : Prop := ∀ v1 : Int32, v1 = (x3 + (1 : Int32)) → X21 (x2, v1, h)
def m_M_further_21_b (Q : Int32 → AH → Prop) (X21 : Int32 × Int32 × AH → Prop) (r0 : Nat) (x1 : Int32) (x2 : Int32) (x3 : Int32) (h : AH) : Prop := hp_k h r0 = 13 ∧ ((hp_I h r0 15) ≤ x3 → m_M_further_80 Q r0 x1 x2 (0 : Int32) h) ∧ (¬ (hp_I h r0 15) ≤ x3 → ∃ b1, hp_R h r0 12 = some b1 ∧ ik (hp_k h b1) ∧ vp_in x3 (hp_n h b1) ∧ m_M_issued (fun v1 h1 => fx_ext h h1 → zb v1 → (¬ v1 = 0 → ∃ b2, hp_R h1 r0 12 = some b2 ∧ ik (hp_k h1 b2) ∧ vp_in x3 (hp_n h1 b2) ∧ m_M_marked (fun v2 h2 => fx_ext h1 h2 → zb v2 → (¬ v2 = 0 → ∀ h3 : AH, h3 = up_I h2 r0 17 x3 → Q (0 : Int32) h3) ∧ (v2 = 0 → m_M_further_72 Q X21 r0 x1 (1 : Int32) x3 h2)) r0 (hp_I h1 b2 x3.toNatClampNeg) x1 h1) ∧ (v1 = 0 → m_M_further_72 Q X21 r0 x1 x2 x3 h1)) r0 (hp_I h b1 x3.toNatClampNeg) x1 h)
def m_M_further_21 (Q : Int32 → AH → Prop) (r0 : Nat) (x1 : Int32) (x2 : Int32) (x3 : Int32) (h : AH) : Prop := fx_loop (fun (X21 : Int32 × Int32 × AH → Prop) (st : Int32 × Int32 × AH) => m_M_further_21_b Q X21 r0 x1 st.1 st.2.1 st.2.2) (x2, x3, h)
def m_M_further (Q : Int32 → AH → Prop) (r0 : Nat) (h : AH) : Prop := hp_k h r0 = 13 ∧ ∃ b1, hp_R h r0 11 = some b1 ∧ ∃ b2, hp_R h r0 13 = some b2 ∧ ik (hp_k h b2) ∧ vp_in ((hp_I h r0 16) - (1 : Int32)) (hp_n h b2) ∧ ik (hp_k h b1) ∧ vp_in (hp_I h b2 (((hp_I h r0 16) - (1 : Int32))).toNatClampNeg) (hp_n h b1) ∧ ∀ v1 : Int32, v1 = (hp_I h b1 ((hp_I h b2 (((hp_I h r0 16) - (1 : Int32))).toNatClampNeg)).toNatClampNeg) → m_M_further_21 Q r0 v1 (0 : Int32) (0 : Int32) h
theorem b_M_further_183 {p : Program} {l : Launch} {e : Env} {R : Room} {s : State} {m : MethodId} {args : Array Value} {below : List Frame} {meth : Method} {c : Code} {D : DD} {h0 : AH} {Q : Int32 → AH → Prop} (C : fx_CX D y_M_further prog_15_method_69_code 4 8 132 (Option.some FieldType.int) [] h0 p R s m meth c) (hl : l.flags = flags0) (sx0 : Int32) (h : AH) (hw : m_M_further_183 Q sx0 h) : ∀ (ls : Array Slot) (H : Heap) (locs : List Loc) (cells slots : Nat), lv_has ls 4 [] → fx_F D h0 h H locs cells slots → W p l e R s m args below meth c H locs cells slots (fx_Z D below s h0 (fx_oI Q fx_no)) (F0 m 183 ls [.int sx0]) := by
  unfold m_M_further_183 at hw
  intro ls H locs cells slots hv F
  exact fx_iret C F d_M_further_183 (Or.inl ⟨_, rfl, hw⟩)
theorem b_M_further_166 {p : Program} {l : Launch} {e : Env} {R : Room} {s : State} {m : MethodId} {args : Array Value} {below : List Frame} {meth : Method} {c : Code} {D : DD} {h0 : AH} {Q : Int32 → AH → Prop} {X80 : Int32 × Int32 × AH → Prop} (C : fx_CX D y_M_further prog_15_method_69_code 4 8 132 (Option.some FieldType.int) [] h0 p R s m meth c) (hl : l.flags = flags0) (r0 : Nat) (x1 : Int32) (x2 : Int32) (x3 : Int32) (h : AH) (hX80 : ∀ st, X80 st → ∀ (ls : Array Slot) (H : Heap) (locs : List Loc) (cells slots : Nat), lv_has ls 4 [(0, .ref r0), (1, .int x1), (2, .int st.1), (3, .int st.2.1)] → fx_F D h0 st.2.2 H locs cells slots → W p l e R s m args below meth c H locs cells slots (fx_Z D below s h0 (fx_oI Q fx_no)) (F0 m 80 ls [])) (hw : m_M_further_166 Q X80 r0 x1 x2 x3 h) : ∀ (ls : Array Slot) (H : Heap) (locs : List Loc) (cells slots : Nat), lv_has ls 4 [(0, .ref r0), (1, .int x1), (2, .int x2), (3, .int x3)] → fx_F D h0 h H locs cells slots → W p l e R s m args below meth c H locs cells slots (fx_Z D below s h0 (fx_oI Q fx_no)) (F0 m 166 ls []) := by
  unfold m_M_further_166 at hw
  intro ls H locs cells slots hv F
  let v1 : Int32 := (x3 + (1 : Int32))
  replace hw := hw v1 rfl
  refine lv_iinc (v := v1) (k := 3) (lv' := [(3, .int v1), (0, .ref r0), (1, .int x1), (2, .int x2)]) C.ex C.by d_M_further_166 hv rfl (congrArg (fun z => x3 + z) (by decide)) (by decide) rfl (fun ls hv => ?_)
  refine lv_goto C.ex C.by d_M_further_169 rfl ?_
  exact hX80 _ hw _ _ _ _ _ (lv_sub hv [1, 2, 3, 0] rfl) F
theorem b_M_further_80 {p : Program} {l : Launch} {e : Env} {R : Room} {s : State} {m : MethodId} {args : Array Value} {below : List Frame} {meth : Method} {c : Code} {D : DD} {h0 : AH} {Q : Int32 → AH → Prop} (C : fx_CX D y_M_further prog_15_method_69_code 4 8 132 (Option.some FieldType.int) [] h0 p R s m meth c) (hl : l.flags = flags0) (r0 : Nat) (x1 : Int32) (x2 : Int32) (x3 : Int32) (h : AH) (hw : m_M_further_80 Q r0 x1 x2 x3 h) : ∀ (ls : Array Slot) (H : Heap) (locs : List Loc) (cells slots : Nat), lv_has ls 4 [(0, .ref r0), (1, .int x1), (2, .int x2), (3, .int x3)] → fx_F D h0 h H locs cells slots → W p l e R s m args below meth c H locs cells slots (fx_Z D below s h0 (fx_oI Q fx_no)) (F0 m 80 ls []) := by
  refine fx_loop.use hw (fun st => ∀ (ls : Array Slot) (H : Heap) (locs : List Loc) (cells slots : Nat), lv_has ls 4 [(0, .ref r0), (1, .int x1), (2, .int st.1), (3, .int st.2.1)] → fx_F D h0 st.2.2 H locs cells slots → W p l e R s m args below meth c H locs cells slots (fx_Z D below s h0 (fx_oI Q fx_no)) (F0 m 80 ls [])) (fun X80 st hX80 hw => ?_)
  obtain ⟨x2, x3, h⟩ := st
  replace hw : m_M_further_80_b Q X80 r0 x1 x2 x3 h := hw
  unfold m_M_further_80_b at hw
  intro ls H locs cells slots hv F
  refine lv_iload_n C.ex C.by d_M_further_80 rfl (lv_at hv 3 rfl) ?_
  refine lv_aload_n C.ex C.by d_M_further_81 rfl (lv_at hv 0 rfl) ?_
  obtain ⟨hk1, hw⟩ := hw
  refine fx_getI C F lf_M_396 hk1 rfl d_M_further_82 ?_
  refine lv_icmp_ge C.ex C.by d_M_further_85 rfl (fun hc => ?_) (fun hc => ?_)
  · replace hw := hw.1 hc
    refine lv_iload_n C.ex C.by d_M_further_172 rfl (lv_at hv 2 rfl) ?_
    refine lv_if_eq C.ex C.by d_M_further_173 rfl (fun hc => ?_) (fun hc => ?_)
    · replace hw := hw.1 hc
      refine lv_bipush (v := (48 : Int32)) C.ex C.by d_M_further_181 (by decide) ?_
      exact b_M_further_183 C hl _ _ hw _ _ _ _ _ (lv_sub hv [] rfl) F
    · replace hw := hw.2 hc
      refine lv_bipush (v := (42 : Int32)) C.ex C.by d_M_further_176 (by decide) ?_
      refine lv_goto C.ex C.by d_M_further_178 rfl ?_
      exact b_M_further_183 C hl _ _ hw _ _ _ _ _ (lv_sub hv [] rfl) F
  · replace hw := hw.2 hc
    refine lv_aload_n C.ex C.by d_M_further_88 rfl (lv_at hv 0 rfl) ?_
    refine lv_iload_n C.ex C.by d_M_further_89 rfl (lv_at hv 3 rfl) ?_
    refine fx_callZ C F (c_M_onWay hl hw) hm_M_onWay hi_M_onWay hv.1 (by decide) (Nat.le_of_ble_eq_true rfl) (iv_M_onWay C F lm_M_415 hk1 d_M_further_90) (fx_out0 _) fx_eno (fun v1 h1 H locs cells slots hw hx1 hzb F => ?_)
    replace hw := hw hx1 hzb
    have hk1 := (hx1).k hk1
    refine lv_if_ne C.ex C.by d_M_further_93 rfl (fun hc => ?_) (fun hc => ?_)
    · replace hw := hw.1 hc
      exact b_M_further_166 C hl _ _ _ _ _ hX80 hw _ _ _ _ _ hv F
    · replace hw := hw.2 hc
      refine lv_aload_n C.ex C.by d_M_further_96 rfl (lv_at hv 0 rfl) ?_
      refine lv_aload_n C.ex C.by d_M_further_97 rfl (lv_at hv 0 rfl) ?_
      obtain ⟨b1, hb1, hw⟩ := hw
      refine fx_getR C F lf_M_31 hk1 rfl hb1 d_M_further_98 ?_
      refine lv_iload_n C.ex C.by d_M_further_101 rfl (lv_at hv 3 rfl) ?_
      obtain ⟨hk2, hw⟩ := hw
      obtain ⟨hi1, hw⟩ := hw
      refine fx_iald C F hk2 hi1 d_M_further_102 ?_
      refine lv_iload_n C.ex C.by d_M_further_103 rfl (lv_at hv 1 rfl) ?_
      refine fx_callZ C F (c_M_issued hl hw) hm_M_issued hi_M_issued hv.1 (by decide) (Nat.le_of_ble_eq_true rfl) (iv_M_issued C F lm_M_408 hk1 d_M_further_104) (fx_out0 _) fx_eno (fun v2 h2 H locs cells slots hw hx2 hzb F => ?_)
      replace hw := hw hx2 hzb
      have hk2 := (hx2).gi hk2
      have hk1 := (hx2).k hk1
      refine lv_if_ne C.ex C.by d_M_further_107 rfl (fun hc => ?_) (fun hc => ?_)
      · replace hw := hw.1 hc
        refine lv_iconst (v := (1 : Int32)) C.ex C.by d_M_further_113 (by decide) ?_
        refine lv_istore_n (lv' := [(2, .int (1 : Int32)), (0, .ref r0), (1, .int x1), (3, .int x3)]) C.ex C.by d_M_further_114 rfl hv (by decide) rfl (fun ls hv => ?_)
        refine lv_aload_n C.ex C.by d_M_further_115 rfl (lv_at hv 1 rfl) ?_
        refine lv_aload_n C.ex C.by d_M_further_116 rfl (lv_at hv 1 rfl) ?_
        obtain ⟨b2, hb2, hw⟩ := hw
        refine fx_getR C F lf_M_31 hk1 rfl hb2 d_M_further_117 ?_
        refine lv_iload_n C.ex C.by d_M_further_120 rfl (lv_at hv 3 rfl) ?_
        obtain ⟨hk3, hw⟩ := hw
        obtain ⟨hi2, hw⟩ := hw
        refine fx_iald C F hk3 hi2 d_M_further_121 ?_
        refine lv_iload_n C.ex C.by d_M_further_122 rfl (lv_at hv 2 rfl) ?_
        refine fx_callZ C F (c_M_marked hl hw) hm_M_marked hi_M_marked hv.1 (by decide) (Nat.le_of_ble_eq_true rfl) (iv_M_marked C F lm_M_412 hk1 d_M_further_123) (fx_out0 _) fx_eno (fun v3 h3 H locs cells slots hw hx3 hzb F => ?_)
        replace hw := hw hx3 hzb
        have hk2 := (hx3).gi hk2
        have hk3 := (hx3).gi hk3
        have hk1 := (hx3).k hk1
        refine lv_if_ne C.ex C.by d_M_further_126 rfl (fun hc => ?_) (fun hc => ?_)
        · replace hw := hw.1 hc
          refine lv_aload_n C.ex C.by d_M_further_132 rfl (lv_at hv 1 rfl) ?_
          refine fx_getI C F lf_M_405 hk1 rfl d_M_further_133 ?_
          refine lv_bipush (v := (8 : Int32)) C.ex C.by d_M_further_136 (by decide) ?_
          refine lv_icmp_ne C.ex C.by d_M_further_138 rfl (fun hc => ?_) (fun hc => ?_)
          · replace hw := hw.1 hc
            refine lv_aload_n C.ex C.by d_M_further_144 rfl (lv_at hv 1 rfl) ?_
            obtain ⟨b3, hb3, hw⟩ := hw
            refine fx_getR C F lf_M_37 hk1 rfl hb3 d_M_further_145 ?_
            refine lv_aload_n C.ex C.by d_M_further_148 rfl (lv_at hv 1 rfl) ?_
            refine fx_getI C F lf_M_405 hk1 rfl d_M_further_149 ?_
            refine lv_iload_n C.ex C.by d_M_further_152 rfl (lv_at hv 3 rfl) ?_
            obtain ⟨hk4, hw⟩ := hw
            obtain ⟨hi3, hw⟩ := hw
            let h4 : AH := up_I h3 b3 ((hp_I h3 r0 16)).toNatClampNeg x3
            replace hw := hw h4 rfl
            refine fx_iast C F hk4 hi3 d_M_further_153 (fun H locs (F : fx_F D h0 h4 H locs _ _) => ?_)
            refine lv_aload_n C.ex C.by d_M_further_154 rfl (lv_at hv 1 rfl) ?_
            refine lv_dup C.ex C.by d_M_further_155 rfl ?_
            refine fx_getI C F lf_M_405 hk1 rfl d_M_further_156 ?_
            refine lv_iconst (v := (1 : Int32)) C.ex C.by d_M_further_159 (by decide) ?_
            refine lv_iadd C.ex C.by d_M_further_160 ?_
            let h5 : AH := up_I h4 r0 16 ((hp_I h4 r0 16) + (1 : Int32))
            replace hw := hw h5 rfl
            refine fx_putI C F lf_M_405 hk1 rfl rfl (fx_mayF.no rfl rfl) d_M_further_161 (fun H locs (F : fx_F D h0 h5 H locs _ _) => ?_)
            refine lv_iconst (v := (1 : Int32)) C.ex C.by d_M_further_164 (by decide) ?_
            exact fx_iret C F d_M_further_165 (Or.inl ⟨_, rfl, hw⟩)
          · replace hw := hw.2 hc
            refine lv_bipush (v := (48 : Int32)) C.ex C.by d_M_further_141 (by decide) ?_
            exact fx_iret C F d_M_further_143 (Or.inl ⟨_, rfl, hw⟩)
        · replace hw := hw.2 hc
          refine lv_goto C.ex C.by d_M_further_129 rfl ?_
          exact b_M_further_166 C hl _ _ _ _ _ hX80 hw _ _ _ _ _ (lv_sub hv [1, 2, 0, 3] rfl) F
      · replace hw := hw.2 hc
        refine lv_goto C.ex C.by d_M_further_110 rfl ?_
        exact b_M_further_166 C hl _ _ _ _ _ hX80 hw _ _ _ _ _ hv F
theorem b_M_further_72 {p : Program} {l : Launch} {e : Env} {R : Room} {s : State} {m : MethodId} {args : Array Value} {below : List Frame} {meth : Method} {c : Code} {D : DD} {h0 : AH} {Q : Int32 → AH → Prop} {X21 : Int32 × Int32 × AH → Prop} (C : fx_CX D y_M_further prog_15_method_69_code 4 8 132 (Option.some FieldType.int) [] h0 p R s m meth c) (hl : l.flags = flags0) (r0 : Nat) (x1 : Int32) (x2 : Int32) (x3 : Int32) (h : AH) (hX21 : ∀ st, X21 st → ∀ (ls : Array Slot) (H : Heap) (locs : List Loc) (cells slots : Nat), lv_has ls 4 [(0, .ref r0), (1, .int x1), (2, .int st.1), (3, .int st.2.1)] → fx_F D h0 st.2.2 H locs cells slots → W p l e R s m args below meth c H locs cells slots (fx_Z D below s h0 (fx_oI Q fx_no)) (F0 m 21 ls [])) (hw : m_M_further_72 Q X21 r0 x1 x2 x3 h) : ∀ (ls : Array Slot) (H : Heap) (locs : List Loc) (cells slots : Nat), lv_has ls 4 [(0, .ref r0), (1, .int x1), (2, .int x2), (3, .int x3)] → fx_F D h0 h H locs cells slots → W p l e R s m args below meth c H locs cells slots (fx_Z D below s h0 (fx_oI Q fx_no)) (F0 m 72 ls []) := by
  unfold m_M_further_72 at hw
  intro ls H locs cells slots hv F
  let v1 : Int32 := (x3 + (1 : Int32))
  replace hw := hw v1 rfl
  refine lv_iinc (v := v1) (k := 3) (lv' := [(3, .int v1), (0, .ref r0), (1, .int x1), (2, .int x2)]) C.ex C.by d_M_further_72 hv rfl (congrArg (fun z => x3 + z) (by decide)) (by decide) rfl (fun ls hv => ?_)
  refine lv_goto C.ex C.by d_M_further_75 rfl ?_
  exact hX21 _ hw _ _ _ _ _ (lv_sub hv [1, 2, 3, 0] rfl) F
theorem b_M_further_21 {p : Program} {l : Launch} {e : Env} {R : Room} {s : State} {m : MethodId} {args : Array Value} {below : List Frame} {meth : Method} {c : Code} {D : DD} {h0 : AH} {Q : Int32 → AH → Prop} (C : fx_CX D y_M_further prog_15_method_69_code 4 8 132 (Option.some FieldType.int) [] h0 p R s m meth c) (hl : l.flags = flags0) (r0 : Nat) (x1 : Int32) (x2 : Int32) (x3 : Int32) (h : AH) (hw : m_M_further_21 Q r0 x1 x2 x3 h) : ∀ (ls : Array Slot) (H : Heap) (locs : List Loc) (cells slots : Nat), lv_has ls 4 [(0, .ref r0), (1, .int x1), (2, .int x2), (3, .int x3)] → fx_F D h0 h H locs cells slots → W p l e R s m args below meth c H locs cells slots (fx_Z D below s h0 (fx_oI Q fx_no)) (F0 m 21 ls []) := by
  refine fx_loop.use hw (fun st => ∀ (ls : Array Slot) (H : Heap) (locs : List Loc) (cells slots : Nat), lv_has ls 4 [(0, .ref r0), (1, .int x1), (2, .int st.1), (3, .int st.2.1)] → fx_F D h0 st.2.2 H locs cells slots → W p l e R s m args below meth c H locs cells slots (fx_Z D below s h0 (fx_oI Q fx_no)) (F0 m 21 ls [])) (fun X21 st hX21 hw => ?_)
  obtain ⟨x2, x3, h⟩ := st
  replace hw : m_M_further_21_b Q X21 r0 x1 x2 x3 h := hw
  unfold m_M_further_21_b at hw
  intro ls H locs cells slots hv F
  refine lv_iload_n C.ex C.by d_M_further_21 rfl (lv_at hv 3 rfl) ?_
  refine lv_aload_n C.ex C.by d_M_further_22 rfl (lv_at hv 0 rfl) ?_
  obtain ⟨hk1, hw⟩ := hw
  refine fx_getI C F lf_M_399 hk1 rfl d_M_further_23 ?_
  refine lv_icmp_ge C.ex C.by d_M_further_26 rfl (fun hc => ?_) (fun hc => ?_)
  · replace hw := hw.1 hc
    refine lv_iconst (v := (0 : Int32)) C.ex C.by d_M_further_78 (by decide) ?_
    refine lv_istore_n (lv' := [(3, .int (0 : Int32)), (0, .ref r0), (1, .int x1), (2, .int x2)]) C.ex C.by d_M_further_79 rfl hv (by decide) rfl (fun ls hv => ?_)
    exact b_M_further_80 C hl _ _ _ _ _ hw _ _ _ _ _ (lv_sub hv [1, 2, 3, 0] rfl) F
  · replace hw := hw.2 hc
    refine lv_aload_n C.ex C.by d_M_further_29 rfl (lv_at hv 0 rfl) ?_
    refine lv_aload_n C.ex C.by d_M_further_30 rfl (lv_at hv 0 rfl) ?_
    obtain ⟨b1, hb1, hw⟩ := hw
    refine fx_getR C F lf_M_34 hk1 rfl hb1 d_M_further_31 ?_
    refine lv_iload_n C.ex C.by d_M_further_34 rfl (lv_at hv 3 rfl) ?_
    obtain ⟨hk2, hw⟩ := hw
    obtain ⟨hi1, hw⟩ := hw
    refine fx_iald C F hk2 hi1 d_M_further_35 ?_
    refine lv_iload_n C.ex C.by d_M_further_36 rfl (lv_at hv 1 rfl) ?_
    refine fx_callZ C F (c_M_issued hl hw) hm_M_issued hi_M_issued hv.1 (by decide) (Nat.le_of_ble_eq_true rfl) (iv_M_issued C F lm_M_408 hk1 d_M_further_37) (fx_out0 _) fx_eno (fun v1 h1 H locs cells slots hw hx1 hzb F => ?_)
    replace hw := hw hx1 hzb
    have hk2 := (hx1).gi hk2
    have hk1 := (hx1).k hk1
    refine lv_if_ne C.ex C.by d_M_further_40 rfl (fun hc => ?_) (fun hc => ?_)
    · replace hw := hw.1 hc
      refine lv_iconst (v := (1 : Int32)) C.ex C.by d_M_further_46 (by decide) ?_
      refine lv_istore_n (lv' := [(2, .int (1 : Int32)), (0, .ref r0), (1, .int x1), (3, .int x3)]) C.ex C.by d_M_further_47 rfl hv (by decide) rfl (fun ls hv => ?_)
      refine lv_aload_n C.ex C.by d_M_further_48 rfl (lv_at hv 1 rfl) ?_
      refine lv_aload_n C.ex C.by d_M_further_49 rfl (lv_at hv 1 rfl) ?_
      obtain ⟨b2, hb2, hw⟩ := hw
      refine fx_getR C F lf_M_34 hk1 rfl hb2 d_M_further_50 ?_
      refine lv_iload_n C.ex C.by d_M_further_53 rfl (lv_at hv 3 rfl) ?_
      obtain ⟨hk3, hw⟩ := hw
      obtain ⟨hi2, hw⟩ := hw
      refine fx_iald C F hk3 hi2 d_M_further_54 ?_
      refine lv_iload_n C.ex C.by d_M_further_55 rfl (lv_at hv 2 rfl) ?_
      refine fx_callZ C F (c_M_marked hl hw) hm_M_marked hi_M_marked hv.1 (by decide) (Nat.le_of_ble_eq_true rfl) (iv_M_marked C F lm_M_412 hk1 d_M_further_56) (fx_out0 _) fx_eno (fun v2 h2 H locs cells slots hw hx2 hzb F => ?_)
      replace hw := hw hx2 hzb
      have hk2 := (hx2).gi hk2
      have hk3 := (hx2).gi hk3
      have hk1 := (hx2).k hk1
      refine lv_if_ne C.ex C.by d_M_further_59 rfl (fun hc => ?_) (fun hc => ?_)
      · replace hw := hw.1 hc
        refine lv_aload_n C.ex C.by d_M_further_65 rfl (lv_at hv 1 rfl) ?_
        refine lv_iload_n C.ex C.by d_M_further_66 rfl (lv_at hv 3 rfl) ?_
        let h3 : AH := up_I h2 r0 17 x3
        replace hw := hw h3 rfl
        refine fx_putI C F lf_M_40 hk1 rfl rfl (fx_mayF.no rfl rfl) d_M_further_67 (fun H locs (F : fx_F D h0 h3 H locs _ _) => ?_)
        refine lv_iconst (v := (0 : Int32)) C.ex C.by d_M_further_70 (by decide) ?_
        exact fx_iret C F d_M_further_71 (Or.inl ⟨_, rfl, hw⟩)
      · replace hw := hw.2 hc
        refine lv_goto C.ex C.by d_M_further_62 rfl ?_
        exact b_M_further_72 C hl _ _ _ _ _ hX21 hw _ _ _ _ _ (lv_sub hv [1, 2, 0, 3] rfl) F
    · replace hw := hw.2 hc
      refine lv_goto C.ex C.by d_M_further_43 rfl ?_
      exact b_M_further_72 C hl _ _ _ _ _ hX21 hw _ _ _ _ _ hv F
theorem b_M_further_0 {p : Program} {l : Launch} {e : Env} {R : Room} {s : State} {m : MethodId} {args : Array Value} {below : List Frame} {meth : Method} {c : Code} {D : DD} {h0 : AH} {Q : Int32 → AH → Prop} (C : fx_CX D y_M_further prog_15_method_69_code 4 8 132 (Option.some FieldType.int) [] h0 p R s m meth c) (hl : l.flags = flags0) (r0 : Nat) (h : AH) (hw : m_M_further Q r0 h) : ∀ (ls : Array Slot) (H : Heap) (locs : List Loc) (cells slots : Nat), lv_has ls 4 [(0, .ref r0)] → fx_F D h0 h H locs cells slots → W p l e R s m args below meth c H locs cells slots (fx_Z D below s h0 (fx_oI Q fx_no)) (F0 m 0 ls []) := by
  unfold m_M_further at hw
  intro ls H locs cells slots hv F
  refine lv_aload_n C.ex C.by d_M_further_0 rfl (lv_at hv 0 rfl) ?_
  obtain ⟨hk1, hw⟩ := hw
  obtain ⟨b1, hb1, hw⟩ := hw
  refine fx_getR C F lf_M_31 hk1 rfl hb1 d_M_further_1 ?_
  refine lv_aload_n C.ex C.by d_M_further_4 rfl (lv_at hv 0 rfl) ?_
  obtain ⟨b2, hb2, hw⟩ := hw
  refine fx_getR C F lf_M_37 hk1 rfl hb2 d_M_further_5 ?_
  refine lv_aload_n C.ex C.by d_M_further_8 rfl (lv_at hv 0 rfl) ?_
  refine fx_getI C F lf_M_405 hk1 rfl d_M_further_9 ?_
  refine lv_iconst (v := (1 : Int32)) C.ex C.by d_M_further_12 (by decide) ?_
  refine lv_isub C.ex C.by d_M_further_13 ?_
  obtain ⟨hk2, hw⟩ := hw
  obtain ⟨hi1, hw⟩ := hw
  refine fx_iald C F hk2 hi1 d_M_further_14 ?_
  obtain ⟨hk3, hw⟩ := hw
  obtain ⟨hi2, hw⟩ := hw
  refine fx_iald C F hk3 hi2 d_M_further_15 ?_
  let v1 : Int32 := (hp_I h b1 ((hp_I h b2 (((hp_I h r0 16) - (1 : Int32))).toNatClampNeg)).toNatClampNeg)
  replace hw := hw v1 rfl
  refine lv_istore_n (lv' := [(1, .int v1), (0, .ref r0)]) C.ex C.by d_M_further_16 rfl hv (by decide) rfl (fun ls hv => ?_)
  refine lv_iconst (v := (0 : Int32)) C.ex C.by d_M_further_17 (by decide) ?_
  refine lv_istore_n (lv' := [(2, .int (0 : Int32)), (1, .int v1), (0, .ref r0)]) C.ex C.by d_M_further_18 rfl hv (by decide) rfl (fun ls hv => ?_)
  refine lv_iconst (v := (0 : Int32)) C.ex C.by d_M_further_19 (by decide) ?_
  refine lv_istore_n (lv' := [(3, .int (0 : Int32)), (2, .int (0 : Int32)), (1, .int v1), (0, .ref r0)]) C.ex C.by d_M_further_20 rfl hv (by decide) rfl (fun ls hv => ?_)
  exact b_M_further_21 C hl _ _ _ _ _ hw _ _ _ _ _ (lv_sub hv [3, 2, 1, 0] rfl) F
theorem hm_M_further : fx_hd y_M_further prog_15_method_69_code 4 (Option.some FieldType.int) [] ∈ tables_1 := (fx_m7 (List.mem_of_getElem? (i := 209) rfl))
theorem hi_M_further : Cond.initialized y_M_further.cls ∈ tables_1 := (fx_m1 (List.mem_of_getElem? (i := 15) rfl))
theorem c_M_further {l : Launch} (hl : l.flags = flags0) {D : DD} {Q : Int32 → AH → Prop} {r0 : Nat} {h : AH} (hw : m_M_further Q r0 h) : fx_Mt l D y_M_further (fx_hd y_M_further prog_15_method_69_code 4 (Option.some FieldType.int) []) 8 132 [.ref r0] h (fx_oI Q fx_no) := by
  refine fx_ofW (plainFor_of_name (by decide)) (fun p e s m below meth c C F => ?_)
  have hv := lv_entry ([.ref r0]) (n := 4) (Nat.le_of_ble_eq_true rfl)
  rw [lg_entry_eq]
  generalize (lg_sl ([.ref r0]) ++ List.replicate (4 - (lg_sl ([.ref r0])).length) Slot.unset).toArray = ls at hv ⊢
  have hv : lv_has ls 4 [(0, .ref r0)] := hv
  exact b_M_further_0 C hl _ _ hw _ _ _ _ _ hv F
/-! ChainJudgeModel.onPath(I)I: frames 0, words 0 -/
abbrev y_M_onPath : MethodName := ⟨"ChainJudgeModel", "onPath", "(I)I"⟩
def dl_M_onPath : List (Nat × Instr × Nat) := [(0, .iload_n 1, 1), (1, .aload_n 0, 1), (2, .getfield 405, 3), (5, .if_icmp .ge 17, 3), (8, .aload_n 0, 1), (9, .getfield 31, 3), (12, .aload_n 0, 1), (13, .getfield 37, 3), (16, .iload_n 1, 1), (17, .iaload, 1), (18, .iaload, 1), (19, .goto 12, 3), (22, .aload_n 0, 1), (23, .getfield 34, 3), (26, .aload_n 0, 1), (27, .getfield 40, 3), (30, .iaload, 1), (31, .ireturn, 1)]
theorem dk_M_onPath : fx_dec prog_15_method_70_code dl_M_onPath = true := by decide +kernel
theorem d_M_onPath_0 : decode prog_15_method_70_code 0 = .ok (.iload_n 1, 1) := fx_dat dk_M_onPath 0 rfl
theorem d_M_onPath_1 : decode prog_15_method_70_code 1 = .ok (.aload_n 0, 1) := fx_dat dk_M_onPath 1 rfl
theorem d_M_onPath_2 : decode prog_15_method_70_code 2 = .ok (.getfield 405, 3) := fx_dat dk_M_onPath 2 rfl
theorem d_M_onPath_5 : decode prog_15_method_70_code 5 = .ok (.if_icmp .ge 17, 3) := fx_dat dk_M_onPath 3 rfl
theorem d_M_onPath_8 : decode prog_15_method_70_code 8 = .ok (.aload_n 0, 1) := fx_dat dk_M_onPath 4 rfl
theorem d_M_onPath_9 : decode prog_15_method_70_code 9 = .ok (.getfield 31, 3) := fx_dat dk_M_onPath 5 rfl
theorem d_M_onPath_12 : decode prog_15_method_70_code 12 = .ok (.aload_n 0, 1) := fx_dat dk_M_onPath 6 rfl
theorem d_M_onPath_13 : decode prog_15_method_70_code 13 = .ok (.getfield 37, 3) := fx_dat dk_M_onPath 7 rfl
theorem d_M_onPath_16 : decode prog_15_method_70_code 16 = .ok (.iload_n 1, 1) := fx_dat dk_M_onPath 8 rfl
theorem d_M_onPath_17 : decode prog_15_method_70_code 17 = .ok (.iaload, 1) := fx_dat dk_M_onPath 9 rfl
theorem d_M_onPath_18 : decode prog_15_method_70_code 18 = .ok (.iaload, 1) := fx_dat dk_M_onPath 10 rfl
theorem d_M_onPath_19 : decode prog_15_method_70_code 19 = .ok (.goto 12, 3) := fx_dat dk_M_onPath 11 rfl
theorem d_M_onPath_22 : decode prog_15_method_70_code 22 = .ok (.aload_n 0, 1) := fx_dat dk_M_onPath 12 rfl
theorem d_M_onPath_23 : decode prog_15_method_70_code 23 = .ok (.getfield 34, 3) := fx_dat dk_M_onPath 13 rfl
theorem d_M_onPath_26 : decode prog_15_method_70_code 26 = .ok (.aload_n 0, 1) := fx_dat dk_M_onPath 14 rfl
theorem d_M_onPath_27 : decode prog_15_method_70_code 27 = .ok (.getfield 40, 3) := fx_dat dk_M_onPath 15 rfl
theorem d_M_onPath_30 : decode prog_15_method_70_code 30 = .ok (.iaload, 1) := fx_dat dk_M_onPath 16 rfl
theorem d_M_onPath_31 : decode prog_15_method_70_code 31 = .ok (.ireturn, 1) := fx_dat dk_M_onPath 17 rfl
def m_M_onPath_31 (Q : Int32 → AH → Prop) (sx0 : Int32) (h : AH) : Prop := Q sx0 h
def m_M_onPath (Q : Int32 → AH → Prop) (r0 : Nat) (x1 : Int32) (h : AH) : Prop := hp_k h r0 = 13 ∧ ((hp_I h r0 16) ≤ x1 → ∃ b1, hp_R h r0 12 = some b1 ∧ ik (hp_k h b1) ∧ vp_in (hp_I h r0 17) (hp_n h b1) ∧ m_M_onPath_31 Q (hp_I h b1 ((hp_I h r0 17)).toNatClampNeg) h) ∧ (¬ (hp_I h r0 16) ≤ x1 → ∃ b2, hp_R h r0 11 = some b2 ∧ ∃ b3, hp_R h r0 13 = some b3 ∧ ik (hp_k h b3) ∧ vp_in x1 (hp_n h b3) ∧ ik (hp_k h b2) ∧ vp_in (hp_I h b3 x1.toNatClampNeg) (hp_n h b2) ∧ m_M_onPath_31 Q (hp_I h b2 ((hp_I h b3 x1.toNatClampNeg)).toNatClampNeg) h)
theorem b_M_onPath_31 {p : Program} {l : Launch} {e : Env} {R : Room} {s : State} {m : MethodId} {args : Array Value} {below : List Frame} {meth : Method} {c : Code} {D : DD} {h0 : AH} {Q : Int32 → AH → Prop} (C : fx_CX D y_M_onPath prog_15_method_70_code 2 0 0 (Option.some FieldType.int) [] h0 p R s m meth c) (hl : l.flags = flags0) (sx0 : Int32) (h : AH) (hw : m_M_onPath_31 Q sx0 h) : ∀ (ls : Array Slot) (H : Heap) (locs : List Loc) (cells slots : Nat), lv_has ls 2 [] → fx_F D h0 h H locs cells slots → W p l e R s m args below meth c H locs cells slots (fx_Z D below s h0 (fx_oI Q fx_no)) (F0 m 31 ls [.int sx0]) := by
  unfold m_M_onPath_31 at hw
  intro ls H locs cells slots hv F
  exact fx_iret C F d_M_onPath_31 (Or.inl ⟨_, rfl, hw⟩)
theorem b_M_onPath_0 {p : Program} {l : Launch} {e : Env} {R : Room} {s : State} {m : MethodId} {args : Array Value} {below : List Frame} {meth : Method} {c : Code} {D : DD} {h0 : AH} {Q : Int32 → AH → Prop} (C : fx_CX D y_M_onPath prog_15_method_70_code 2 0 0 (Option.some FieldType.int) [] h0 p R s m meth c) (hl : l.flags = flags0) (r0 : Nat) (x1 : Int32) (h : AH) (hw : m_M_onPath Q r0 x1 h) : ∀ (ls : Array Slot) (H : Heap) (locs : List Loc) (cells slots : Nat), lv_has ls 2 [(0, .ref r0), (1, .int x1)] → fx_F D h0 h H locs cells slots → W p l e R s m args below meth c H locs cells slots (fx_Z D below s h0 (fx_oI Q fx_no)) (F0 m 0 ls []) := by
  unfold m_M_onPath at hw
  intro ls H locs cells slots hv F
  refine lv_iload_n C.ex C.by d_M_onPath_0 rfl (lv_at hv 1 rfl) ?_
  refine lv_aload_n C.ex C.by d_M_onPath_1 rfl (lv_at hv 0 rfl) ?_
  obtain ⟨hk1, hw⟩ := hw
  refine fx_getI C F lf_M_405 hk1 rfl d_M_onPath_2 ?_
  refine lv_icmp_ge C.ex C.by d_M_onPath_5 rfl (fun hc => ?_) (fun hc => ?_)
  · replace hw := hw.1 hc
    refine lv_aload_n C.ex C.by d_M_onPath_22 rfl (lv_at hv 0 rfl) ?_
    obtain ⟨b1, hb1, hw⟩ := hw
    refine fx_getR C F lf_M_34 hk1 rfl hb1 d_M_onPath_23 ?_
    refine lv_aload_n C.ex C.by d_M_onPath_26 rfl (lv_at hv 0 rfl) ?_
    refine fx_getI C F lf_M_40 hk1 rfl d_M_onPath_27 ?_
    obtain ⟨hk2, hw⟩ := hw
    obtain ⟨hi1, hw⟩ := hw
    refine fx_iald C F hk2 hi1 d_M_onPath_30 ?_
    exact b_M_onPath_31 C hl _ _ hw _ _ _ _ _ (lv_sub hv [] rfl) F
  · replace hw := hw.2 hc
    refine lv_aload_n C.ex C.by d_M_onPath_8 rfl (lv_at hv 0 rfl) ?_
    obtain ⟨b2, hb2, hw⟩ := hw
    refine fx_getR C F lf_M_31 hk1 rfl hb2 d_M_onPath_9 ?_
    refine lv_aload_n C.ex C.by d_M_onPath_12 rfl (lv_at hv 0 rfl) ?_
    obtain ⟨b3, hb3, hw⟩ := hw
    refine fx_getR C F lf_M_37 hk1 rfl hb3 d_M_onPath_13 ?_
    refine lv_iload_n C.ex C.by d_M_onPath_16 rfl (lv_at hv 1 rfl) ?_
    obtain ⟨hk3, hw⟩ := hw
    obtain ⟨hi2, hw⟩ := hw
    refine fx_iald C F hk3 hi2 d_M_onPath_17 ?_
    obtain ⟨hk4, hw⟩ := hw
    obtain ⟨hi3, hw⟩ := hw
    refine fx_iald C F hk4 hi3 d_M_onPath_18 ?_
    refine lv_goto C.ex C.by d_M_onPath_19 rfl ?_
    exact b_M_onPath_31 C hl _ _ hw _ _ _ _ _ (lv_sub hv [] rfl) F
theorem hm_M_onPath : fx_hd y_M_onPath prog_15_method_70_code 2 (Option.some FieldType.int) [] ∈ tables_1 := (fx_m7 (List.mem_of_getElem? (i := 225) rfl))
theorem hi_M_onPath : Cond.initialized y_M_onPath.cls ∈ tables_1 := (fx_m1 (List.mem_of_getElem? (i := 15) rfl))
theorem c_M_onPath {l : Launch} (hl : l.flags = flags0) {D : DD} {Q : Int32 → AH → Prop} {r0 : Nat} {x1 : Int32} {h : AH} (hw : m_M_onPath Q r0 x1 h) : fx_Mt l D y_M_onPath (fx_hd y_M_onPath prog_15_method_70_code 2 (Option.some FieldType.int) []) 0 0 [.ref r0, .int x1] h (fx_oI Q fx_no) := by
  refine fx_ofW (plainFor_of_name (by decide)) (fun p e s m below meth c C F => ?_)
  have hv := lv_entry ([.ref r0, .int x1]) (n := 2) (Nat.le_of_ble_eq_true rfl)
  rw [lg_entry_eq]
  generalize (lg_sl ([.ref r0, .int x1]) ++ List.replicate (2 - (lg_sl ([.ref r0, .int x1])).length) Slot.unset).toArray = ls at hv ⊢
  have hv : lv_has ls 2 [(0, .ref r0), (1, .int x1)] := hv
  exact b_M_onPath_0 C hl _ _ _ hw _ _ _ _ _ hv F
/-! ChainJudgeModel.low(I)I: frames 0, words 0 -/
abbrev y_M_low : MethodName := ⟨"ChainJudgeModel", "low", "(I)I"⟩
def dl_M_low : List (Nat × Instr × Nat) := [(0, .iload_n 0, 1), (1, .bipush 65, 2), (3, .if_icmp .lt 16, 3), (6, .iload_n 0, 1), (7, .bipush 90, 2), (9, .if_icmp .gt 10, 3), (12, .iload_n 0, 1), (13, .bipush 32, 2), (15, .iadd, 1), (16, .goto 4, 3), (19, .iload_n 0, 1), (20, .ireturn, 1)]
theorem dk_M_low : fx_dec prog_15_method_71_code dl_M_low = true := by decide +kernel
theorem d_M_low_0 : decode prog_15_method_71_code 0 = .ok (.iload_n 0, 1) := fx_dat dk_M_low 0 rfl
theorem d_M_low_1 : decode prog_15_method_71_code 1 = .ok (.bipush 65, 2) := fx_dat dk_M_low 1 rfl
theorem d_M_low_3 : decode prog_15_method_71_code 3 = .ok (.if_icmp .lt 16, 3) := fx_dat dk_M_low 2 rfl
theorem d_M_low_6 : decode prog_15_method_71_code 6 = .ok (.iload_n 0, 1) := fx_dat dk_M_low 3 rfl
theorem d_M_low_7 : decode prog_15_method_71_code 7 = .ok (.bipush 90, 2) := fx_dat dk_M_low 4 rfl
theorem d_M_low_9 : decode prog_15_method_71_code 9 = .ok (.if_icmp .gt 10, 3) := fx_dat dk_M_low 5 rfl
theorem d_M_low_12 : decode prog_15_method_71_code 12 = .ok (.iload_n 0, 1) := fx_dat dk_M_low 6 rfl
theorem d_M_low_13 : decode prog_15_method_71_code 13 = .ok (.bipush 32, 2) := fx_dat dk_M_low 7 rfl
theorem d_M_low_15 : decode prog_15_method_71_code 15 = .ok (.iadd, 1) := fx_dat dk_M_low 8 rfl
theorem d_M_low_16 : decode prog_15_method_71_code 16 = .ok (.goto 4, 3) := fx_dat dk_M_low 9 rfl
theorem d_M_low_19 : decode prog_15_method_71_code 19 = .ok (.iload_n 0, 1) := fx_dat dk_M_low 10 rfl
theorem d_M_low_20 : decode prog_15_method_71_code 20 = .ok (.ireturn, 1) := fx_dat dk_M_low 11 rfl
def m_M_low_20 (Q : Int32 → AH → Prop) (sx0 : Int32) (h : AH) : Prop := Q sx0 h
def m_M_low_19 (Q : Int32 → AH → Prop) (x0 : Int32) (h : AH) : Prop := m_M_low_20 Q x0 h
def m_M_low (Q : Int32 → AH → Prop) (x0 : Int32) (h : AH) : Prop := (x0 < (65 : Int32) → m_M_low_19 Q x0 h) ∧ (¬ x0 < (65 : Int32) → ((90 : Int32) < x0 → m_M_low_19 Q x0 h) ∧ (¬ (90 : Int32) < x0 → m_M_low_20 Q (x0 + (32 : Int32)) h))
theorem b_M_low_20 {p : Program} {l : Launch} {e : Env} {R : Room} {s : State} {m : MethodId} {args : Array Value} {below : List Frame} {meth : Method} {c : Code} {D : DD} {h0 : AH} {Q : Int32 → AH → Prop} (C : fx_CX D y_M_low prog_15_method_71_code 1 0 0 (Option.some FieldType.int) [] h0 p R s m meth c) (hl : l.flags = flags0) (sx0 : Int32) (h : AH) (hw : m_M_low_20 Q sx0 h) : ∀ (ls : Array Slot) (H : Heap) (locs : List Loc) (cells slots : Nat), lv_has ls 1 [] → fx_F D h0 h H locs cells slots → W p l e R s m args below meth c H locs cells slots (fx_Z D below s h0 (fx_oI Q fx_no)) (F0 m 20 ls [.int sx0]) := by
  unfold m_M_low_20 at hw
  intro ls H locs cells slots hv F
  exact fx_iret C F d_M_low_20 (Or.inl ⟨_, rfl, hw⟩)
theorem b_M_low_19 {p : Program} {l : Launch} {e : Env} {R : Room} {s : State} {m : MethodId} {args : Array Value} {below : List Frame} {meth : Method} {c : Code} {D : DD} {h0 : AH} {Q : Int32 → AH → Prop} (C : fx_CX D y_M_low prog_15_method_71_code 1 0 0 (Option.some FieldType.int) [] h0 p R s m meth c) (hl : l.flags = flags0) (x0 : Int32) (h : AH) (hw : m_M_low_19 Q x0 h) : ∀ (ls : Array Slot) (H : Heap) (locs : List Loc) (cells slots : Nat), lv_has ls 1 [(0, .int x0)] → fx_F D h0 h H locs cells slots → W p l e R s m args below meth c H locs cells slots (fx_Z D below s h0 (fx_oI Q fx_no)) (F0 m 19 ls []) := by
  unfold m_M_low_19 at hw
  intro ls H locs cells slots hv F
  refine lv_iload_n C.ex C.by d_M_low_19 rfl (lv_at hv 0 rfl) ?_
  exact b_M_low_20 C hl _ _ hw _ _ _ _ _ (lv_sub hv [] rfl) F
theorem b_M_low_0 {p : Program} {l : Launch} {e : Env} {R : Room} {s : State} {m : MethodId} {args : Array Value} {below : List Frame} {meth : Method} {c : Code} {D : DD} {h0 : AH} {Q : Int32 → AH → Prop} (C : fx_CX D y_M_low prog_15_method_71_code 1 0 0 (Option.some FieldType.int) [] h0 p R s m meth c) (hl : l.flags = flags0) (x0 : Int32) (h : AH) (hw : m_M_low Q x0 h) : ∀ (ls : Array Slot) (H : Heap) (locs : List Loc) (cells slots : Nat), lv_has ls 1 [(0, .int x0)] → fx_F D h0 h H locs cells slots → W p l e R s m args below meth c H locs cells slots (fx_Z D below s h0 (fx_oI Q fx_no)) (F0 m 0 ls []) := by
  unfold m_M_low at hw
  intro ls H locs cells slots hv F
  refine lv_iload_n C.ex C.by d_M_low_0 rfl (lv_at hv 0 rfl) ?_
  refine lv_bipush (v := (65 : Int32)) C.ex C.by d_M_low_1 (by decide) ?_
  refine lv_icmp_lt C.ex C.by d_M_low_3 rfl (fun hc => ?_) (fun hc => ?_)
  · replace hw := hw.1 hc
    exact b_M_low_19 C hl _ _ hw _ _ _ _ _ hv F
  · replace hw := hw.2 hc
    refine lv_iload_n C.ex C.by d_M_low_6 rfl (lv_at hv 0 rfl) ?_
    refine lv_bipush (v := (90 : Int32)) C.ex C.by d_M_low_7 (by decide) ?_
    refine lv_icmp_gt C.ex C.by d_M_low_9 rfl (fun hc => ?_) (fun hc => ?_)
    · replace hw := hw.1 hc
      exact b_M_low_19 C hl _ _ hw _ _ _ _ _ hv F
    · replace hw := hw.2 hc
      refine lv_iload_n C.ex C.by d_M_low_12 rfl (lv_at hv 0 rfl) ?_
      refine lv_bipush (v := (32 : Int32)) C.ex C.by d_M_low_13 (by decide) ?_
      refine lv_iadd C.ex C.by d_M_low_15 ?_
      refine lv_goto C.ex C.by d_M_low_16 rfl ?_
      exact b_M_low_20 C hl _ _ hw _ _ _ _ _ (lv_sub hv [] rfl) F
theorem hm_M_low : fx_hd y_M_low prog_15_method_71_code 1 (Option.some FieldType.int) [] ∈ tables_1 := (fx_m7 (List.mem_of_getElem? (i := 236) rfl))
theorem hi_M_low : Cond.initialized y_M_low.cls ∈ tables_1 := (fx_m1 (List.mem_of_getElem? (i := 15) rfl))
theorem c_M_low {l : Launch} (hl : l.flags = flags0) {D : DD} {Q : Int32 → AH → Prop} {x0 : Int32} {h : AH} (hw : m_M_low Q x0 h) : fx_Mt l D y_M_low (fx_hd y_M_low prog_15_method_71_code 1 (Option.some FieldType.int) []) 0 0 [.int x0] h (fx_oI Q fx_no) := by
  refine fx_ofW (plainFor_of_name (by decide)) (fun p e s m below meth c C F => ?_)
  have hv := lv_entry ([.int x0]) (n := 1) (Nat.le_of_ble_eq_true rfl)
  rw [lg_entry_eq]
  generalize (lg_sl ([.int x0]) ++ List.replicate (1 - (lg_sl ([.int x0])).length) Slot.unset).toArray = ls at hv ⊢
  have hv : lv_has ls 1 [(0, .int x0)] := hv
  exact b_M_low_0 C hl _ _ hw _ _ _ _ _ hv F
/-! ChainJudgeModel.likeHost(III)Z: frames 1, words 13 -/
abbrev y_M_likeHost : MethodName := ⟨"ChainJudgeModel", "likeHost", "(III)Z"⟩
theorem lm_M_418 : Cond.methodLink "ChainJudgeModel" 418 y_M_low ∈ tables_1 ∨ ∃ host, Cond.methodLinkNest "ChainJudgeModel" 418 y_M_low host ∈ tables_1 := Or.inl (fx_m7 (List.mem_of_getElem? (i := 234) rfl))
section
variable {p : Program} {l : Launch} {e : Env} {R : Room} {s : State} {m : MethodId} {args : Array Value} {below : List Frame} {meth : Method} {c : Code} {H : Heap} {locs : List Loc} {cells slots : Nat}
variable {D : DD} {y : MethodName} {cc : ByteArray} {nL kf kw : Nat} {ret : Option FieldType} {hh : List (Nat × Nat × Nat × Nat)} {h0 h : AH} {pc : Nat} {ls : Array Slot} {rest : List Value} {b idx : Nat}
theorem iv_M_low {x0 : Int32} (C : fx_CX D y cc nL kf kw ret hh h0 p R s m meth c) (F : fx_F D h0 h H locs cells slots) (hw1 : Cond.methodLink y.cls idx y_M_low ∈ tables_1 ∨ ∃ host, Cond.methodLinkNest y.cls idx y_M_low host ∈ tables_1) (hd : decode cc pc = .ok (.invokestatic idx, 3)) : fx_IV p l e R s m args below meth c H locs cells slots (F0 m pc ls (.int x0 :: rest)) rest y_M_low [.int x0] 3 := fun T hT X => fx_invS (As := [.int x0]) C X hw1 (fx_m7 (List.mem_of_getElem? (i := 235) rfl)) hi_M_low hm_M_low ⟨by decide, by decide⟩ rfl (n := 1) (by decide +kernel) rfl rfl hd
end
def dl_M_likeHost : List (Nat × Instr × Nat) := [(0, .iload_n 2, 1), (1, .aload_n 0, 1), (2, .getfield 402, 3), (5, .iload_n 3, 1), (6, .isub, 1), (7, .if_icmp .eq 5, 3), (10, .iconst 0, 1), (11, .ireturn, 1), (12, .iconst 0, 1), (13, .istore 4, 2), (15, .iload 4, 2), (17, .iload_n 2, 1), (18, .if_icmp .ge 37, 3), (21, .aload_n 0, 1), (22, .iload_n 1, 1), (23, .iload 4, 2), (25, .iadd, 1), (26, .invokevirtual 131, 3), (29, .invokestatic 418, 3), (32, .aload_n 0, 1), (33, .getfield 17, 3), (36, .iload_n 3, 1), (37, .iload 4, 2), (39, .iadd, 1), (40, .baload, 1), (41, .invokestatic 418, 3), (44, .if_icmp .eq 5, 3), (47, .iconst 0, 1), (48, .ireturn, 1), (49, .iinc 4 1, 3), (52, .goto (-37), 3), (55, .iconst 1, 1), (56, .ireturn, 1)]
theorem dk_M_likeHost : fx_dec prog_15_method_72_code dl_M_likeHost = true := by decide +kernel
theorem d_M_likeHost_0 : decode prog_15_method_72_code 0 = .ok (.iload_n 2, 1) := fx_dat dk_M_likeHost 0 rfl
theorem d_M_likeHost_1 : decode prog_15_method_72_code 1 = .ok (.aload_n 0, 1) := fx_dat dk_M_likeHost 1 rfl
theorem d_M_likeHost_2 : decode prog_15_method_72_code 2 = .ok (.getfield 402, 3) := fx_dat dk_M_likeHost 2 rfl
theorem d_M_likeHost_5 : decode prog_15_method_72_code 5 = .ok (.iload_n 3, 1) := fx_dat dk_M_likeHost 3 rfl
theorem d_M_likeHost_6 : decode prog_15_method_72_code 6 = .ok (.isub, 1) := fx_dat dk_M_likeHost 4 rfl
theorem d_M_likeHost_7 : decode prog_15_method_72_code 7 = .ok (.if_icmp .eq 5, 3) := fx_dat dk_M_likeHost 5 rfl
theorem d_M_likeHost_10 : decode prog_15_method_72_code 10 = .ok (.iconst 0, 1) := fx_dat dk_M_likeHost 6 rfl
theorem d_M_likeHost_11 : decode prog_15_method_72_code 11 = .ok (.ireturn, 1) := fx_dat dk_M_likeHost 7 rfl
theorem d_M_likeHost_12 : decode prog_15_method_72_code 12 = .ok (.iconst 0, 1) := fx_dat dk_M_likeHost 8 rfl
theorem d_M_likeHost_13 : decode prog_15_method_72_code 13 = .ok (.istore 4, 2) := fx_dat dk_M_likeHost 9 rfl
theorem d_M_likeHost_15 : decode prog_15_method_72_code 15 = .ok (.iload 4, 2) := fx_dat dk_M_likeHost 10 rfl
theorem d_M_likeHost_17 : decode prog_15_method_72_code 17 = .ok (.iload_n 2, 1) := fx_dat dk_M_likeHost 11 rfl
theorem d_M_likeHost_18 : decode prog_15_method_72_code 18 = .ok (.if_icmp .ge 37, 3) := fx_dat dk_M_likeHost 12 rfl
theorem d_M_likeHost_21 : decode prog_15_method_72_code 21 = .ok (.aload_n 0, 1) := fx_dat dk_M_likeHost 13 rfl
theorem d_M_likeHost_22 : decode prog_15_method_72_code 22 = .ok (.iload_n 1, 1) := fx_dat dk_M_likeHost 14 rfl
theorem d_M_likeHost_23 : decode prog_15_method_72_code 23 = .ok (.iload 4, 2) := fx_dat dk_M_likeHost 15 rfl
theorem d_M_likeHost_25 : decode prog_15_method_72_code 25 = .ok (.iadd, 1) := fx_dat dk_M_likeHost 16 rfl
theorem d_M_likeHost_26 : decode prog_15_method_72_code 26 = .ok (.invokevirtual 131, 3) := fx_dat dk_M_likeHost 17 rfl
theorem d_M_likeHost_29 : decode prog_15_method_72_code 29 = .ok (.invokestatic 418, 3) := fx_dat dk_M_likeHost 18 rfl
theorem d_M_likeHost_32 : decode prog_15_method_72_code 32 = .ok (.aload_n 0, 1) := fx_dat dk_M_likeHost 19 rfl
theorem d_M_likeHost_33 : decode prog_15_method_72_code 33 = .ok (.getfield 17, 3) := fx_dat dk_M_likeHost 20 rfl
theorem d_M_likeHost_36 : decode prog_15_method_72_code 36 = .ok (.iload_n 3, 1) := fx_dat dk_M_likeHost 21 rfl
theorem d_M_likeHost_37 : decode prog_15_method_72_code 37 = .ok (.iload 4, 2) := fx_dat dk_M_likeHost 22 rfl
theorem d_M_likeHost_39 : decode prog_15_method_72_code 39 = .ok (.iadd, 1) := fx_dat dk_M_likeHost 23 rfl
theorem d_M_likeHost_40 : decode prog_15_method_72_code 40 = .ok (.baload, 1) := fx_dat dk_M_likeHost 24 rfl
theorem d_M_likeHost_41 : decode prog_15_method_72_code 41 = .ok (.invokestatic 418, 3) := fx_dat dk_M_likeHost 25 rfl
theorem d_M_likeHost_44 : decode prog_15_method_72_code 44 = .ok (.if_icmp .eq 5, 3) := fx_dat dk_M_likeHost 26 rfl
theorem d_M_likeHost_47 : decode prog_15_method_72_code 47 = .ok (.iconst 0, 1) := fx_dat dk_M_likeHost 27 rfl
theorem d_M_likeHost_48 : decode prog_15_method_72_code 48 = .ok (.ireturn, 1) := fx_dat dk_M_likeHost 28 rfl
theorem d_M_likeHost_49 : decode prog_15_method_72_code 49 = .ok (.iinc 4 1, 3) := fx_dat dk_M_likeHost 29 rfl
theorem d_M_likeHost_52 : decode prog_15_method_72_code 52 = .ok (.goto (-37), 3) := fx_dat dk_M_likeHost 30 rfl
theorem d_M_likeHost_55 : decode prog_15_method_72_code 55 = .ok (.iconst 1, 1) := fx_dat dk_M_likeHost 31 rfl
theorem d_M_likeHost_56 : decode prog_15_method_72_code 56 = .ok (.ireturn, 1) := fx_dat dk_M_likeHost 32 rfl
def m_M_likeHost_15_b (Q : Int32 → AH → Prop) (X15 : Int32 × AH → Prop) (r0 : Nat) (x1 : Int32) (x2 : Int32) (x3 : Int32) (x4 : Int32) (h : AH) : Prop := (x2 ≤ x4 → Q (1 : Int32) h) ∧ (¬ x2 ≤ x4 → hp_k h r0 = 13 ∧ m_M_here (fun v1 h1 => fx_ext h h1 → m_M_low (fun v2 h2 => fx_ext h1 h2 → ∃ b1, hp_R h2 r0 3 = some b1 ∧ bk (hp_k h2 b1) ∧ vp_in (x3 + x4) (hp_n h2 b1) ∧ (by8 (hp_I h2 b1 ((x3 + x4)).toNatClampNeg) → m_M_low (fun v3 h3 => fx_ext h2 h3 → (v2 = v3 → ∀ v4 : Int32, v4 = (x4 + (1 : Int32)) → X15 (v4, h3)) ∧ (¬ v2 = v3 → Q (0 : Int32) h3)) (hp_I h2 b1 ((x3 + x4)).toNatClampNeg) h2)) v1 h1) r0 (x1 + x4) h)
def m_M_likeHost_15 (Q : Int32 → AH → Prop) (r0 : Nat) (x1 : Int32) (x2 : Int32) (x3 : Int32) (x4 : Int32) (h : AH) : Prop := fx_loop (fun (X15 : Int32 × AH → Prop) (st : Int32 × AH) => m_M_likeHost_15_b Q X15 r0 x1 x2 x3 st.1 st.2) (x4, h)
def m_M_likeHost (Q : Int32 → AH → Prop) (r0 : Nat) (x1 : Int32) (x2 : Int32) (x3 : Int32) (h : AH) : Prop := hp_k h r0 = 13 ∧ (x2 = ((hp_I h r0 6) - x3) → m_M_likeHost_15 Q r0 x1 x2 x3 (0 : Int32) h) ∧ (¬ x2 = ((hp_I h r0 6) - x3) → Q (0 : Int32) h)
theorem b_M_likeHost_15 {p : Program} {l : Launch} {e : Env} {R : Room} {s : State} {m : MethodId} {args : Array Value} {below : List Frame} {meth : Method} {c : Code} {D : DD} {h0 : AH} {Q : Int32 → AH → Prop} (C : fx_CX D y_M_likeHost prog_15_method_72_code 5 1 13 (Option.some FieldType.boolean) [] h0 p R s m meth c) (hl : l.flags = flags0) (r0 : Nat) (x1 : Int32) (x2 : Int32) (x3 : Int32) (x4 : Int32) (h : AH) (hw : m_M_likeHost_15 Q r0 x1 x2 x3 x4 h) : ∀ (ls : Array Slot) (H : Heap) (locs : List Loc) (cells slots : Nat), lv_has ls 5 [(0, .ref r0), (1, .int x1), (2, .int x2), (3, .int x3), (4, .int x4)] → fx_F D h0 h H locs cells slots → W p l e R s m args below meth c H locs cells slots (fx_Z D below s h0 (fx_oZ Q fx_no)) (F0 m 15 ls []) := by
  refine fx_loop.use hw (fun st => ∀ (ls : Array Slot) (H : Heap) (locs : List Loc) (cells slots : Nat), lv_has ls 5 [(0, .ref r0), (1, .int x1), (2, .int x2), (3, .int x3), (4, .int st.1)] → fx_F D h0 st.2 H locs cells slots → W p l e R s m args below meth c H locs cells slots (fx_Z D below s h0 (fx_oZ Q fx_no)) (F0 m 15 ls [])) (fun X15 st hX15 hw => ?_)
  obtain ⟨x4, h⟩ := st
  replace hw : m_M_likeHost_15_b Q X15 r0 x1 x2 x3 x4 h := hw
  unfold m_M_likeHost_15_b at hw
  intro ls H locs cells slots hv F
  refine lv_iload C.ex C.by d_M_likeHost_15 (lv_at hv 4 rfl) ?_
  refine lv_iload_n C.ex C.by d_M_likeHost_17 rfl (lv_at hv 2 rfl) ?_
  refine lv_icmp_ge C.ex C.by d_M_likeHost_18 rfl (fun hc => ?_) (fun hc => ?_)
  · replace hw := hw.1 hc
    refine lv_iconst (v := (1 : Int32)) C.ex C.by d_M_likeHost_55 (by decide) ?_
    exact fx_zret C F d_M_likeHost_56 (Or.inr rfl) (Or.inl ⟨_, rfl, Or.inr rfl, hw⟩)
  · replace hw := hw.2 hc
    refine lv_aload_n C.ex C.by d_M_likeHost_21 rfl (lv_at hv 0 rfl) ?_
    refine lv_iload_n C.ex C.by d_M_likeHost_22 rfl (lv_at hv 1 rfl) ?_
    refine lv_iload C.ex C.by d_M_likeHost_23 (lv_at hv 4 rfl) ?_
    refine lv_iadd C.ex C.by d_M_likeHost_25 ?_
    obtain ⟨hk1, hw⟩ := hw
    refine fx_callI C F (c_M_here hl hw) hm_M_here hi_M_here hv.1 (by decide) (Nat.le_of_ble_eq_true rfl) (iv_M_here C F lm_M_131 hk1 d_M_likeHost_26) (fx_out0 _) fx_eno (fun v1 h1 H locs cells slots hw hx1 F => ?_)
    replace hw := hw hx1
    have hk1 := (hx1).k hk1
    refine fx_callI C F (c_M_low hl hw) hm_M_low hi_M_low hv.1 (by decide) (Nat.le_of_ble_eq_true rfl) (iv_M_low C F lm_M_418 d_M_likeHost_29) (fx_out0 _) fx_eno (fun v2 h2 H locs cells slots hw hx2 F => ?_)
    replace hw := hw hx2
    have hk1 := (hx2).k hk1
    refine lv_aload_n C.ex C.by d_M_likeHost_32 rfl (lv_at hv 0 rfl) ?_
    obtain ⟨b1, hb1, hw⟩ := hw
    refine fx_getR C F lf_M_17 hk1 rfl hb1 d_M_likeHost_33 ?_
    refine lv_iload_n C.ex C.by d_M_likeHost_36 rfl (lv_at hv 3 rfl) ?_
    refine lv_iload C.ex C.by d_M_likeHost_37 (lv_at hv 4 rfl) ?_
    refine lv_iadd C.ex C.by d_M_likeHost_39 ?_
    obtain ⟨hk2, hw⟩ := hw
    obtain ⟨hi1, hw⟩ := hw
    refine fx_bald C F hk2 hi1 d_M_likeHost_40 (fun h8 => ?_)
    replace hw := hw h8
    refine fx_callI C F (c_M_low hl hw) hm_M_low hi_M_low hv.1 (by decide) (Nat.le_of_ble_eq_true rfl) (iv_M_low C F lm_M_418 d_M_likeHost_41) (fx_out0 _) fx_eno (fun v3 h3 H locs cells slots hw hx3 F => ?_)
    replace hw := hw hx3
    have hk2 := (hx3).gb hk2
    have hk1 := (hx3).k hk1
    refine lv_icmp_eq C.ex C.by d_M_likeHost_44 rfl (fun hc => ?_) (fun hc => ?_)
    · replace hw := hw.1 hc
      let v4 : Int32 := (x4 + (1 : Int32))
      replace hw := hw v4 rfl
      refine lv_iinc (v := v4) (k := 4) (lv' := [(4, .int v4), (0, .ref r0), (1, .int x1), (2, .int x2), (3, .int x3)]) C.ex C.by d_M_likeHost_49 hv rfl (congrArg (fun z => x4 + z) (by decide)) (by decide) rfl (fun ls hv => ?_)
      refine lv_goto C.ex C.by d_M_likeHost_52 rfl ?_
      exact hX15 _ hw _ _ _ _ _ (lv_sub hv [1, 2, 3, 4, 0] rfl) F
    · replace hw := hw.2 hc
      refine lv_iconst (v := (0 : Int32)) C.ex C.by d_M_likeHost_47 (by decide) ?_
      exact fx_zret C F d_M_likeHost_48 (Or.inl rfl) (Or.inl ⟨_, rfl, Or.inl rfl, hw⟩)
theorem b_M_likeHost_0 {p : Program} {l : Launch} {e : Env} {R : Room} {s : State} {m : MethodId} {args : Array Value} {below : List Frame} {meth : Method} {c : Code} {D : DD} {h0 : AH} {Q : Int32 → AH → Prop} (C : fx_CX D y_M_likeHost prog_15_method_72_code 5 1 13 (Option.some FieldType.boolean) [] h0 p R s m meth c) (hl : l.flags = flags0) (r0 : Nat) (x1 : Int32) (x2 : Int32) (x3 : Int32) (h : AH) (hw : m_M_likeHost Q r0 x1 x2 x3 h) : ∀ (ls : Array Slot) (H : Heap) (locs : List Loc) (cells slots : Nat), lv_has ls 5 [(0, .ref r0), (1, .int x1), (2, .int x2), (3, .int x3)] → fx_F D h0 h H locs cells slots → W p l e R s m args below meth c H locs cells slots (fx_Z D below s h0 (fx_oZ Q fx_no)) (F0 m 0 ls []) := by
  unfold m_M_likeHost at hw
  intro ls H locs cells slots hv F
  refine lv_iload_n C.ex C.by d_M_likeHost_0 rfl (lv_at hv 2 rfl) ?_
  refine lv_aload_n C.ex C.by d_M_likeHost_1 rfl (lv_at hv 0 rfl) ?_
  obtain ⟨hk1, hw⟩ := hw
  refine fx_getI C F lf_M_402 hk1 rfl d_M_likeHost_2 ?_
  refine lv_iload_n C.ex C.by d_M_likeHost_5 rfl (lv_at hv 3 rfl) ?_
  refine lv_isub C.ex C.by d_M_likeHost_6 ?_
  refine lv_icmp_eq C.ex C.by d_M_likeHost_7 rfl (fun hc => ?_) (fun hc => ?_)
  · replace hw := hw.1 hc
    refine lv_iconst (v := (0 : Int32)) C.ex C.by d_M_likeHost_12 (by decide) ?_
    refine lv_istore (lv' := [(4, .int (0 : Int32)), (0, .ref r0), (1, .int x1), (2, .int x2), (3, .int x3)]) C.ex C.by d_M_likeHost_13 hv (by decide) rfl (fun ls hv => ?_)
    exact b_M_likeHost_15 C hl _ _ _ _ _ _ hw _ _ _ _ _ (lv_sub hv [1, 2, 3, 4, 0] rfl) F
  · replace hw := hw.2 hc
    refine lv_iconst (v := (0 : Int32)) C.ex C.by d_M_likeHost_10 (by decide) ?_
    exact fx_zret C F d_M_likeHost_11 (Or.inl rfl) (Or.inl ⟨_, rfl, Or.inl rfl, hw⟩)
theorem hm_M_likeHost : fx_hd y_M_likeHost prog_15_method_72_code 5 (Option.some FieldType.boolean) [] ∈ tables_1 := (fx_m7 (List.mem_of_getElem? (i := 233) rfl))
theorem hi_M_likeHost : Cond.initialized y_M_likeHost.cls ∈ tables_1 := (fx_m1 (List.mem_of_getElem? (i := 15) rfl))
theorem c_M_likeHost {l : Launch} (hl : l.flags = flags0) {D : DD} {Q : Int32 → AH → Prop} {r0 : Nat} {x1 : Int32} {x2 : Int32} {x3 : Int32} {h : AH} (hw : m_M_likeHost Q r0 x1 x2 x3 h) : fx_Mt l D y_M_likeHost (fx_hd y_M_likeHost prog_15_method_72_code 5 (Option.some FieldType.boolean) []) 1 13 [.ref r0, .int x1, .int x2, .int x3] h (fx_oZ Q fx_no) := by
  refine fx_ofW (plainFor_of_name (by decide)) (fun p e s m below meth c C F => ?_)
  have hv := lv_entry ([.ref r0, .int x1, .int x2, .int x3]) (n := 5) (Nat.le_of_ble_eq_true rfl)
  rw [lg_entry_eq]
  generalize (lg_sl ([.ref r0, .int x1, .int x2, .int x3]) ++ List.replicate (5 - (lg_sl ([.ref r0, .int x1, .int x2, .int x3])).length) Slot.unset).toArray = ls at hv ⊢
  have hv : lv_has ls 5 [(0, .ref r0), (1, .int x1), (2, .int x2), (3, .int x3)] := hv
  exact b_M_likeHost_0 C hl _ _ _ _ _ hw _ _ _ _ _ hv F
