set_option maxRecDepth 10000
/-! ChainJudgeModel.take(I)I: frames 1, words 14 -/
abbrev y_M_take : MethodName := ⟨"ChainJudgeModel", "take", "(I)I"⟩
def dl_M_take : List (Nat × Instr × Nat) := [(0, .aload_n 0, 1), (1, .iconst 0, 1), (2, .putfield 83, 3), (5, .aload_n 0, 1), (6, .iload_n 1, 1), (7, .invokevirtual 356, 3), (10, .ifCond .eq 9, 3), (13, .aload_n 0, 1), (14, .iconst 1, 1), (15, .invokevirtual 362, 3), (18, .ireturn, 1), (19, .aload_n 0, 1), (20, .aload_n 0, 1), (21, .getfield 328, 3), (24, .invokevirtual 389, 3), (27, .ifCond .eq 9, 3), (30, .aload_n 0, 1), (31, .iconst 2, 1), (32, .invokevirtual 362, 3), (35, .ireturn, 1), (36, .iconst 0, 1), (37, .istore_n 2, 1), (38, .iload_n 2, 1), (39, .aload_n 0, 1), (40, .getfield 328, 3), (43, .if_icmp .ge 31, 3), (46, .aload_n 0, 1), (47, .getfield 21, 3), (50, .aload_n 0, 1), (51, .getfield 24, 3), (54, .aload_n 0, 1), (55, .getfield 350, 3), (58, .iaload, 1), (59, .iload_n 2, 1), (60, .iadd, 1), (61, .aload_n 0, 1), (62, .getfield 8, 3), (65, .iload_n 2, 1), (66, .baload, 1), (67, .bastore, 1), (68, .iinc 2 1, 3), (71, .goto (-33), 3), (74, .aload_n 0, 1), (75, .getfield 328, 3), (78, .istore_n 2, 1), (79, .aload_n 0, 1), (80, .iconst 0, 1), (81, .putfield 328, 3), (84, .aload_n 0, 1), (85, .iload_n 2, 1), (86, .iload_n 1, 1), (87, .invokevirtual 392, 3), (90, .ireturn, 1)]
theorem dk_M_take : fx_dec prog_15_method_55_code dl_M_take = true := by decide +kernel
theorem d_M_take_0 : decode prog_15_method_55_code 0 = .ok (.aload_n 0, 1) := fx_dat dk_M_take 0 rfl
theorem d_M_take_1 : decode prog_15_method_55_code 1 = .ok (.iconst 0, 1) := fx_dat dk_M_take 1 rfl
theorem d_M_take_2 : decode prog_15_method_55_code 2 = .ok (.putfield 83, 3) := fx_dat dk_M_take 2 rfl
theorem d_M_take_5 : decode prog_15_method_55_code 5 = .ok (.aload_n 0, 1) := fx_dat dk_M_take 3 rfl
theorem d_M_take_6 : decode prog_15_method_55_code 6 = .ok (.iload_n 1, 1) := fx_dat dk_M_take 4 rfl
theorem d_M_take_7 : decode prog_15_method_55_code 7 = .ok (.invokevirtual 356, 3) := fx_dat dk_M_take 5 rfl
theorem d_M_take_10 : decode prog_15_method_55_code 10 = .ok (.ifCond .eq 9, 3) := fx_dat dk_M_take 6 rfl
theorem d_M_take_13 : decode prog_15_method_55_code 13 = .ok (.aload_n 0, 1) := fx_dat dk_M_take 7 rfl
theorem d_M_take_14 : decode prog_15_method_55_code 14 = .ok (.iconst 1, 1) := fx_dat dk_M_take 8 rfl
theorem d_M_take_15 : decode prog_15_method_55_code 15 = .ok (.invokevirtual 362, 3) := fx_dat dk_M_take 9 rfl
theorem d_M_take_18 : decode prog_15_method_55_code 18 = .ok (.ireturn, 1) := fx_dat dk_M_take 10 rfl
theorem d_M_take_19 : decode prog_15_method_55_code 19 = .ok (.aload_n 0, 1) := fx_dat dk_M_take 11 rfl
theorem d_M_take_20 : decode prog_15_method_55_code 20 = .ok (.aload_n 0, 1) := fx_dat dk_M_take 12 rfl
theorem d_M_take_21 : decode prog_15_method_55_code 21 = .ok (.getfield 328, 3) := fx_dat dk_M_take 13 rfl
theorem d_M_take_24 : decode prog_15_method_55_code 24 = .ok (.invokevirtual 389, 3) := fx_dat dk_M_take 14 rfl
theorem d_M_take_27 : decode prog_15_method_55_code 27 = .ok (.ifCond .eq 9, 3) := fx_dat dk_M_take 15 rfl
theorem d_M_take_30 : decode prog_15_method_55_code 30 = .ok (.aload_n 0, 1) := fx_dat dk_M_take 16 rfl
theorem d_M_take_31 : decode prog_15_method_55_code 31 = .ok (.iconst 2, 1) := fx_dat dk_M_take 17 rfl
theorem d_M_take_32 : decode prog_15_method_55_code 32 = .ok (.invokevirtual 362, 3) := fx_dat dk_M_take 18 rfl
theorem d_M_take_35 : decode prog_15_method_55_code 35 = .ok (.ireturn, 1) := fx_dat dk_M_take 19 rfl
theorem d_M_take_36 : decode prog_15_method_55_code 36 = .ok (.iconst 0, 1) := fx_dat dk_M_take 20 rfl
theorem d_M_take_37 : decode prog_15_method_55_code 37 = .ok (.istore_n 2, 1) := fx_dat dk_M_take 21 rfl
theorem d_M_take_38 : decode prog_15_method_55_code 38 = .ok (.iload_n 2, 1) := fx_dat dk_M_take 22 rfl
theorem d_M_take_39 : decode prog_15_method_55_code 39 = .ok (.aload_n 0, 1) := fx_dat dk_M_take 23 rfl
theorem d_M_take_40 : decode prog_15_method_55_code 40 = .ok (.getfield 328, 3) := fx_dat dk_M_take 24 rfl
theorem d_M_take_43 : decode prog_15_method_55_code 43 = .ok (.if_icmp .ge 31, 3) := fx_dat dk_M_take 25 rfl
theorem d_M_take_46 : decode prog_15_method_55_code 46 = .ok (.aload_n 0, 1) := fx_dat dk_M_take 26 rfl
theorem d_M_take_47 : decode prog_15_method_55_code 47 = .ok (.getfield 21, 3) := fx_dat dk_M_take 27 rfl
theorem d_M_take_50 : decode prog_15_method_55_code 50 = .ok (.aload_n 0, 1) := fx_dat dk_M_take 28 rfl
theorem d_M_take_51 : decode prog_15_method_55_code 51 = .ok (.getfield 24, 3) := fx_dat dk_M_take 29 rfl
theorem d_M_take_54 : decode prog_15_method_55_code 54 = .ok (.aload_n 0, 1) := fx_dat dk_M_take 30 rfl
theorem d_M_take_55 : decode prog_15_method_55_code 55 = .ok (.getfield 350, 3) := fx_dat dk_M_take 31 rfl
theorem d_M_take_58 : decode prog_15_method_55_code 58 = .ok (.iaload, 1) := fx_dat dk_M_take 32 rfl
theorem d_M_take_59 : decode prog_15_method_55_code 59 = .ok (.iload_n 2, 1) := fx_dat dk_M_take 33 rfl
theorem d_M_take_60 : decode prog_15_method_55_code 60 = .ok (.iadd, 1) := fx_dat dk_M_take 34 rfl
theorem d_M_take_61 : decode prog_15_method_55_code 61 = .ok (.aload_n 0, 1) := fx_dat dk_M_take 35 rfl
theorem d_M_take_62 : decode prog_15_method_55_code 62 = .ok (.getfield 8, 3) := fx_dat dk_M_take 36 rfl
theorem d_M_take_65 : decode prog_15_method_55_code 65 = .ok (.iload_n 2, 1) := fx_dat dk_M_take 37 rfl
theorem d_M_take_66 : decode prog_15_method_55_code 66 = .ok (.baload, 1) := fx_dat dk_M_take 38 rfl
theorem d_M_take_67 : decode prog_15_method_55_code 67 = .ok (.bastore, 1) := fx_dat dk_M_take 39 rfl
theorem d_M_take_68 : decode prog_15_method_55_code 68 = .ok (.iinc 2 1, 3) := fx_dat dk_M_take 40 rfl
theorem d_M_take_71 : decode prog_15_method_55_code 71 = .ok (.goto (-33), 3) := fx_dat dk_M_take 41 rfl
theorem d_M_take_74 : decode prog_15_method_55_code 74 = .ok (.aload_n 0, 1) := fx_dat dk_M_take 42 rfl
theorem d_M_take_75 : decode prog_15_method_55_code 75 = .ok (.getfield 328, 3) := fx_dat dk_M_take 43 rfl
theorem d_M_take_78 : decode prog_15_method_55_code 78 = .ok (.istore_n 2, 1) := fx_dat dk_M_take 44 rfl
theorem d_M_take_79 : decode prog_15_method_55_code 79 = .ok (.aload_n 0, 1) := fx_dat dk_M_take 45 rfl
theorem d_M_take_80 : decode prog_15_method_55_code 80 = .ok (.iconst 0, 1) := fx_dat dk_M_take 46 rfl
theorem d_M_take_81 : decode prog_15_method_55_code 81 = .ok (.putfield 328, 3) := fx_dat dk_M_take 47 rfl
theorem d_M_take_84 : decode prog_15_method_55_code 84 = .ok (.aload_n 0, 1) := fx_dat dk_M_take 48 rfl
theorem d_M_take_85 : decode prog_15_method_55_code 85 = .ok (.iload_n 2, 1) := fx_dat dk_M_take 49 rfl
theorem d_M_take_86 : decode prog_15_method_55_code 86 = .ok (.iload_n 1, 1) := fx_dat dk_M_take 50 rfl
theorem d_M_take_87 : decode prog_15_method_55_code 87 = .ok (.invokevirtual 392, 3) := fx_dat dk_M_take 51 rfl
theorem d_M_take_90 : decode prog_15_method_55_code 90 = .ok (.ireturn, 1) := fx_dat dk_M_take 52 rfl
def m_M_take_38_b (Q : Int32 → AH → Prop) (X38 : Int32 × AH → Prop) (r0 : Nat) (x1 : Int32) (x2 : Int32) (h : AH) : Prop := hp_k h r0 = 13 ∧ ((hp_I h r0 4) ≤ x2 → ∀ v1 : Int32, v1 = (hp_I h r0 4) → ∀ h1 : AH, h1 = up_I h r0 4 (0 : Int32) → m_M_added (fun v2 h2 => fx_ext h1 h2 → Q v2 h2) r0 v1 x1 h1) ∧ (¬ (hp_I h r0 4) ≤ x2 → ∃ b1, hp_R h r0 7 = some b1 ∧ ∃ b2, hp_R h r0 8 = some b2 ∧ ik (hp_k h b2) ∧ vp_in (hp_I h r0 10) (hp_n h b2) ∧ ∃ b3, hp_R h r0 1 = some b3 ∧ bk (hp_k h b3) ∧ vp_in x2 (hp_n h b3) ∧ (by8 (hp_I h b3 x2.toNatClampNeg) → hp_k h b1 = 101 ∧ vp_in ((hp_I h b2 ((hp_I h r0 10)).toNatClampNeg) + x2) (hp_n h b1) ∧ ∀ h3 : AH, h3 = up_I h b1 (((hp_I h b2 ((hp_I h r0 10)).toNatClampNeg) + x2)).toNatClampNeg ((hp_I h b3 x2.toNatClampNeg)).toInt8.toInt32 → ∀ v3 : Int32, v3 = (x2 + (1 : Int32)) → X38 (v3, h3)))
def m_M_take_38 (Q : Int32 → AH → Prop) (r0 : Nat) (x1 : Int32) (x2 : Int32) (h : AH) : Prop := fx_loop (fun (X38 : Int32 × AH → Prop) (st : Int32 × AH) => m_M_take_38_b Q X38 r0 x1 st.1 st.2) (x2, h)
def m_M_take (Q : Int32 → AH → Prop) (r0 : Nat) (x1 : Int32) (h : AH) : Prop := hp_k h r0 = 13 ∧ ∀ h1 : AH, h1 = up_I h r0 0 (0 : Int32) → m_M_noKey (fun v1 h2 => fx_ext h1 h2 → zb v1 → (v1 = 0 → m_M_full (fun v2 h3 => fx_ext h2 h3 → zb v2 → (v2 = 0 → m_M_take_38 Q r0 x1 (0 : Int32) h3) ∧ (¬ v2 = 0 → m_M_fail (fun v3 h4 => fx_ext h3 h4 → Q v3 h4) r0 (2 : Int32) h3)) r0 (hp_I h2 r0 4) h2) ∧ (¬ v1 = 0 → m_M_fail (fun v4 h5 => fx_ext h2 h5 → Q v4 h5) r0 (1 : Int32) h2)) r0 x1 h1
theorem b_M_take_38 {p : Program} {l : Launch} {e : Env} {R : Room} {s : State} {m : MethodId} {args : Array Value} {below : List Frame} {meth : Method} {c : Code} {D : DD} {h0 : AH} {Q : Int32 → AH → Prop} (C : fx_CX D y_M_take prog_15_method_55_code 3 1 14 (Option.some FieldType.int) [] h0 p R s m meth c) (hl : l.flags = flags0) (r0 : Nat) (x1 : Int32) (x2 : Int32) (h : AH) (hw : m_M_take_38 Q r0 x1 x2 h) : ∀ (ls : Array Slot) (H : Heap) (locs : List Loc) (cells slots : Nat), lv_has ls 3 [(0, .ref r0), (1, .int x1), (2, .int x2)] → fx_F D h0 h H locs cells slots → W p l e R s m args below meth c H locs cells slots (fx_Z D below s h0 (fx_oI Q fx_no)) (F0 m 38 ls []) := by
  refine fx_loop.use hw (fun st => ∀ (ls : Array Slot) (H : Heap) (locs : List Loc) (cells slots : Nat), lv_has ls 3 [(0, .ref r0), (1, .int x1), (2, .int st.1)] → fx_F D h0 st.2 H locs cells slots → W p l e R s m args below meth c H locs cells slots (fx_Z D below s h0 (fx_oI Q fx_no)) (F0 m 38 ls [])) (fun X38 st hX38 hw => ?_)
  obtain ⟨x2, h⟩ := st
  replace hw : m_M_take_38_b Q X38 r0 x1 x2 h := hw
  unfold m_M_take_38_b at hw
  intro ls H locs cells slots hv F
  refine lv_iload_n C.ex C.by d_M_take_38 rfl (lv_at hv 2 rfl) ?_
  refine lv_aload_n C.ex C.by d_M_take_39 rfl (lv_at hv 0 rfl) ?_
  obtain ⟨hk1, hw⟩ := hw
  refine fx_getI C F lf_M_328 hk1 rfl d_M_take_40 ?_
  refine lv_icmp_ge C.ex C.by d_M_take_43 rfl (fun hc => ?_) (fun hc => ?_)
  · replace hw := hw.1 hc
    refine lv_aload_n C.ex C.by d_M_take_74 rfl (lv_at hv 0 rfl) ?_
    refine fx_getI C F lf_M_328 hk1 rfl d_M_take_75 ?_
    let v1 : Int32 := (hp_I h r0 4)
    replace hw := hw v1 rfl
    refine lv_istore_n (lv' := [(2, .int v1), (0, .ref r0), (1, .int x1)]) C.ex C.by d_M_take_78 rfl hv (by decide) rfl (fun ls hv => ?_)
    refine lv_aload_n C.ex C.by d_M_take_79 rfl (lv_at hv 1 rfl) ?_
    refine lv_iconst (v := (0 : Int32)) C.ex C.by d_M_take_80 (by decide) ?_
    let h1 : AH := up_I h r0 4 (0 : Int32)
    replace hw := hw h1 rfl
    refine fx_putI C F lf_M_328 hk1 rfl rfl (fx_mayF.no rfl rfl) d_M_take_81 (fun H locs (F : fx_F D h0 h1 H locs _ _) => ?_)
    refine lv_aload_n C.ex C.by d_M_take_84 rfl (lv_at hv 1 rfl) ?_
    refine lv_iload_n C.ex C.by d_M_take_85 rfl (lv_at hv 0 rfl) ?_
    refine lv_iload_n C.ex C.by d_M_take_86 rfl (lv_at hv 2 rfl) ?_
    refine fx_callI C F (c_M_added hl hw) hm_M_added hi_M_added hv.1 (by decide) (Nat.le_of_ble_eq_true rfl) (iv_M_added C F lm_M_392 hk1 d_M_take_87) (fx_out0 _) fx_eno (fun v2 h2 H locs cells slots hw hx1 F => ?_)
    replace hw := hw hx1
    have hk1 := (hx1).k hk1
    exact fx_iret C F d_M_take_90 (Or.inl ⟨_, rfl, hw⟩)
  · replace hw := hw.2 hc
    refine lv_aload_n C.ex C.by d_M_take_46 rfl (lv_at hv 0 rfl) ?_
    obtain ⟨b1, hb1, hw⟩ := hw
    refine fx_getR C F lf_M_21 hk1 rfl hb1 d_M_take_47 ?_
    refine lv_aload_n C.ex C.by d_M_take_50 rfl (lv_at hv 0 rfl) ?_
    obtain ⟨b2, hb2, hw⟩ := hw
    refine fx_getR C F lf_M_24 hk1 rfl hb2 d_M_take_51 ?_
    refine lv_aload_n C.ex C.by d_M_take_54 rfl (lv_at hv 0 rfl) ?_
    refine fx_getI C F lf_M_350 hk1 rfl d_M_take_55 ?_
    obtain ⟨hk2, hw⟩ := hw
    obtain ⟨hi1, hw⟩ := hw
    refine fx_iald C F hk2 hi1 d_M_take_58 ?_
    refine lv_iload_n C.ex C.by d_M_take_59 rfl (lv_at hv 2 rfl) ?_
    refine lv_iadd C.ex C.by d_M_take_60 ?_
    refine lv_aload_n C.ex C.by d_M_take_61 rfl (lv_at hv 0 rfl) ?_
    obtain ⟨b3, hb3, hw⟩ := hw
    refine fx_getR C F lf_M_8 hk1 rfl hb3 d_M_take_62 ?_
    refine lv_iload_n C.ex C.by d_M_take_65 rfl (lv_at hv 2 rfl) ?_
    obtain ⟨hk3, hw⟩ := hw
    obtain ⟨hi2, hw⟩ := hw
    refine fx_bald C F hk3 hi2 d_M_take_66 (fun h8 => ?_)
    replace hw := hw h8
    obtain ⟨hk4, hw⟩ := hw
    obtain ⟨hi3, hw⟩ := hw
    let h3 : AH := up_I h b1 (((hp_I h b2 ((hp_I h r0 10)).toNatClampNeg) + x2)).toNatClampNeg ((hp_I h b3 x2.toNatClampNeg)).toInt8.toInt32
    replace hw := hw h3 rfl
    refine fx_bast C F hk4 hi3 d_M_take_67 (fun H locs (F : fx_F D h0 h3 H locs _ _) => ?_)
    let v3 : Int32 := (x2 + (1 : Int32))
    replace hw := hw v3 rfl
    refine lv_iinc (v := v3) (k := 2) (lv' := [(2, .int v3), (0, .ref r0), (1, .int x1)]) C.ex C.by d_M_take_68 hv rfl (congrArg (fun z => x2 + z) (by decide)) (by decide) rfl (fun ls hv => ?_)
    refine lv_goto C.ex C.by d_M_take_71 rfl ?_
    exact hX38 _ hw _ _ _ _ _ (lv_sub hv [1, 2, 0] rfl) F
theorem b_M_take_0 {p : Program} {l : Launch} {e : Env} {R : Room} {s : State} {m : MethodId} {args : Array Value} {below : List Frame} {meth : Method} {c : Code} {D : DD} {h0 : AH} {Q : Int32 → AH → Prop} (C : fx_CX D y_M_take prog_15_method_55_code 3 1 14 (Option.some FieldType.int) [] h0 p R s m meth c) (hl : l.flags = flags0) (r0 : Nat) (x1 : Int32) (h : AH) (hw : m_M_take Q r0 x1 h) : ∀ (ls : Array Slot) (H : Heap) (locs : List Loc) (cells slots : Nat), lv_has ls 3 [(0, .ref r0), (1, .int x1)] → fx_F D h0 h H locs cells slots → W p l e R s m args below meth c H locs cells slots (fx_Z D below s h0 (fx_oI Q fx_no)) (F0 m 0 ls []) := by
  unfold m_M_take at hw
  intro ls H locs cells slots hv F
  refine lv_aload_n C.ex C.by d_M_take_0 rfl (lv_at hv 0 rfl) ?_
  refine lv_iconst (v := (0 : Int32)) C.ex C.by d_M_take_1 (by decide) ?_
  obtain ⟨hk1, hw⟩ := hw
  let h1 : AH := up_I h r0 0 (0 : Int32)
  replace hw := hw h1 rfl
  refine fx_putI C F lf_M_83 hk1 rfl rfl (fx_mayF.no rfl rfl) d_M_take_2 (fun H locs (F : fx_F D h0 h1 H locs _ _) => ?_)
  refine lv_aload_n C.ex C.by d_M_take_5 rfl (lv_at hv 0 rfl) ?_
  refine lv_iload_n C.ex C.by d_M_take_6 rfl (lv_at hv 1 rfl) ?_
  refine fx_callZ C F (c_M_noKey hl hw) hm_M_noKey hi_M_noKey hv.1 (by decide) (Nat.le_of_ble_eq_true rfl) (iv_M_noKey C F lm_M_356 hk1 d_M_take_7) (fx_out0 _) fx_eno (fun v1 h2 H locs cells slots hw hx1 hzb F => ?_)
  replace hw := hw hx1 hzb
  have hk1 := (hx1).k hk1
  refine lv_if_eq C.ex C.by d_M_take_10 rfl (fun hc => ?_) (fun hc => ?_)
  · replace hw := hw.1 hc
    refine lv_aload_n C.ex C.by d_M_take_19 rfl (lv_at hv 0 rfl) ?_
    refine lv_aload_n C.ex C.by d_M_take_20 rfl (lv_at hv 0 rfl) ?_
    refine fx_getI C F lf_M_328 hk1 rfl d_M_take_21 ?_
    refine fx_callZ C F (c_M_full hl hw) hm_M_full hi_M_full hv.1 (by decide) (Nat.le_of_ble_eq_true rfl) (iv_M_full C F lm_M_389 hk1 d_M_take_24) (fx_out0 _) fx_eno (fun v2 h3 H locs cells slots hw hx2 hzb F => ?_)
    replace hw := hw hx2 hzb
    have hk1 := (hx2).k hk1
    refine lv_if_eq C.ex C.by d_M_take_27 rfl (fun hc => ?_) (fun hc => ?_)
    · replace hw := hw.1 hc
      refine lv_iconst (v := (0 : Int32)) C.ex C.by d_M_take_36 (by decide) ?_
      refine lv_istore_n (lv' := [(2, .int (0 : Int32)), (0, .ref r0), (1, .int x1)]) C.ex C.by d_M_take_37 rfl hv (by decide) rfl (fun ls hv => ?_)
      exact b_M_take_38 C hl _ _ _ _ hw _ _ _ _ _ (lv_sub hv [1, 2, 0] rfl) F
    · replace hw := hw.2 hc
      refine lv_aload_n C.ex C.by d_M_take_30 rfl (lv_at hv 0 rfl) ?_
      refine lv_iconst (v := (2 : Int32)) C.ex C.by d_M_take_31 (by decide) ?_
      refine fx_callI C F (c_M_fail hl hw) hm_M_fail hi_M_fail hv.1 (by decide) (Nat.le_of_ble_eq_true rfl) (iv_M_fail C F lm_M_362 hk1 d_M_take_32) (fx_out0 _) fx_eno (fun v3 h4 H locs cells slots hw hx3 F => ?_)
      replace hw := hw hx3
      have hk1 := (hx3).k hk1
      exact fx_iret C F d_M_take_35 (Or.inl ⟨_, rfl, hw⟩)
  · replace hw := hw.2 hc
    refine lv_aload_n C.ex C.by d_M_take_13 rfl (lv_at hv 0 rfl) ?_
    refine lv_iconst (v := (1 : Int32)) C.ex C.by d_M_take_14 (by decide) ?_
    refine fx_callI C F (c_M_fail hl hw) hm_M_fail hi_M_fail hv.1 (by decide) (Nat.le_of_ble_eq_true rfl) (iv_M_fail C F lm_M_362 hk1 d_M_take_15) (fx_out0 _) fx_eno (fun v4 h5 H locs cells slots hw hx4 F => ?_)
    replace hw := hw hx4
    have hk1 := (hx4).k hk1
    exact fx_iret C F d_M_take_18 (Or.inl ⟨_, rfl, hw⟩)
theorem hm_M_take : fx_hd y_M_take prog_15_method_55_code 3 (Option.some FieldType.int) [] ∈ tables_1 := (fx_m7 (List.mem_of_getElem? (i := 156) rfl))
theorem hi_M_take : Cond.initialized y_M_take.cls ∈ tables_1 := (fx_m1 (List.mem_of_getElem? (i := 15) rfl))
theorem c_M_take {l : Launch} (hl : l.flags = flags0) {D : DD} {Q : Int32 → AH → Prop} {r0 : Nat} {x1 : Int32} {h : AH} (hw : m_M_take Q r0 x1 h) : fx_Mt l D y_M_take (fx_hd y_M_take prog_15_method_55_code 3 (Option.some FieldType.int) []) 1 14 [.ref r0, .int x1] h (fx_oI Q fx_no) := by
  refine fx_ofW (plainFor_of_name (by decide)) (fun p e s m below meth c C F => ?_)
  have hv := lv_entry ([.ref r0, .int x1]) (n := 3) (Nat.le_of_ble_eq_true rfl)
  rw [lg_entry_eq]
  generalize (lg_sl ([.ref r0, .int x1]) ++ List.replicate (3 - (lg_sl ([.ref r0, .int x1])).length) Slot.unset).toArray = ls at hv ⊢
  have hv : lv_has ls 3 [(0, .ref r0), (1, .int x1)] := hv
  exact b_M_take_0 C hl _ _ _ hw _ _ _ _ _ hv F
/-! ChainJudgeModel.alter(III)I: frames 1, words 14 -/
abbrev y_M_alter : MethodName := ⟨"ChainJudgeModel", "alter", "(III)I"⟩
def dl_M_alter : List (Nat × Instr × Nat) := [(0, .aload_n 0, 1), (1, .iconst 0, 1), (2, .putfield 83, 3), (5, .aload_n 0, 1), (6, .iload_n 1, 1), (7, .invokevirtual 359, 3), (10, .ifCond .eq 9, 3), (13, .aload_n 0, 1), (14, .iconst 1, 1), (15, .invokevirtual 362, 3), (18, .ireturn, 1), (19, .aload_n 0, 1), (20, .getfield 24, 3), (23, .iload_n 1, 1), (24, .iconst 1, 1), (25, .iadd, 1), (26, .iaload, 1), (27, .aload_n 0, 1), (28, .getfield 24, 3), (31, .iload_n 1, 1), (32, .iaload, 1), (33, .isub, 1), (34, .istore 4, 2), (36, .iload_n 2, 1), (37, .ifCond .lt 9, 3), (40, .iload_n 2, 1), (41, .iload 4, 2), (43, .if_icmp .lt 9, 3), (46, .aload_n 0, 1), (47, .iconst 2, 1), (48, .invokevirtual 362, 3), (51, .ireturn, 1), (52, .aload_n 0, 1), (53, .iload 4, 2), (55, .invokevirtual 389, 3), (58, .ifCond .eq 9, 3), (61, .aload_n 0, 1), (62, .iconst 3, 1), (63, .invokevirtual 362, 3), (66, .ireturn, 1), (67, .iconst 0, 1), (68, .istore 5, 2), (70, .iload 5, 2), (72, .iload 4, 2), (74, .if_icmp .ge 53, 3), (77, .aload_n 0, 1), (78, .getfield 21, 3), (81, .aload_n 0, 1), (82, .getfield 24, 3), (85, .aload_n 0, 1), (86, .getfield 350, 3), (89, .iaload, 1), (90, .iload 5, 2), (92, .iadd, 1), (93, .aload_n 0, 1), (94, .getfield 21, 3), (97, .aload_n 0, 1), (98, .getfield 24, 3), (101, .iload_n 1, 1), (102, .iaload, 1), (103, .iload 5, 2), (105, .iadd, 1), (106, .baload, 1), (107, .iload 5, 2), (109, .iload_n 2, 1), (110, .if_icmp .ne 7, 3), (113, .iload_n 3, 1), (114, .goto 4, 3), (117, .iconst 0, 1), (118, .ixor, 1), (119, .i2b, 1), (120, .bastore, 1), (121, .iinc 5 1, 3), (124, .goto (-54), 3), (127, .aload_n 0, 1), (128, .iload 4, 2), (130, .aload_n 0, 1), (131, .getfield 28, 3), (134, .iload_n 1, 1), (135, .iaload, 1), (136, .invokevirtual 392, 3), (139, .ireturn, 1)]
theorem dk_M_alter : fx_dec prog_15_method_56_code dl_M_alter = true := by decide +kernel
theorem d_M_alter_0 : decode prog_15_method_56_code 0 = .ok (.aload_n 0, 1) := fx_dat dk_M_alter 0 rfl
theorem d_M_alter_1 : decode prog_15_method_56_code 1 = .ok (.iconst 0, 1) := fx_dat dk_M_alter 1 rfl
theorem d_M_alter_2 : decode prog_15_method_56_code 2 = .ok (.putfield 83, 3) := fx_dat dk_M_alter 2 rfl
theorem d_M_alter_5 : decode prog_15_method_56_code 5 = .ok (.aload_n 0, 1) := fx_dat dk_M_alter 3 rfl
theorem d_M_alter_6 : decode prog_15_method_56_code 6 = .ok (.iload_n 1, 1) := fx_dat dk_M_alter 4 rfl
theorem d_M_alter_7 : decode prog_15_method_56_code 7 = .ok (.invokevirtual 359, 3) := fx_dat dk_M_alter 5 rfl
theorem d_M_alter_10 : decode prog_15_method_56_code 10 = .ok (.ifCond .eq 9, 3) := fx_dat dk_M_alter 6 rfl
theorem d_M_alter_13 : decode prog_15_method_56_code 13 = .ok (.aload_n 0, 1) := fx_dat dk_M_alter 7 rfl
theorem d_M_alter_14 : decode prog_15_method_56_code 14 = .ok (.iconst 1, 1) := fx_dat dk_M_alter 8 rfl
theorem d_M_alter_15 : decode prog_15_method_56_code 15 = .ok (.invokevirtual 362, 3) := fx_dat dk_M_alter 9 rfl
theorem d_M_alter_18 : decode prog_15_method_56_code 18 = .ok (.ireturn, 1) := fx_dat dk_M_alter 10 rfl
theorem d_M_alter_19 : decode prog_15_method_56_code 19 = .ok (.aload_n 0, 1) := fx_dat dk_M_alter 11 rfl
theorem d_M_alter_20 : decode prog_15_method_56_code 20 = .ok (.getfield 24, 3) := fx_dat dk_M_alter 12 rfl
theorem d_M_alter_23 : decode prog_15_method_56_code 23 = .ok (.iload_n 1, 1) := fx_dat dk_M_alter 13 rfl
theorem d_M_alter_24 : decode prog_15_method_56_code 24 = .ok (.iconst 1, 1) := fx_dat dk_M_alter 14 rfl
theorem d_M_alter_25 : decode prog_15_method_56_code 25 = .ok (.iadd, 1) := fx_dat dk_M_alter 15 rfl
theorem d_M_alter_26 : decode prog_15_method_56_code 26 = .ok (.iaload, 1) := fx_dat dk_M_alter 16 rfl
theorem d_M_alter_27 : decode prog_15_method_56_code 27 = .ok (.aload_n 0, 1) := fx_dat dk_M_alter 17 rfl
theorem d_M_alter_28 : decode prog_15_method_56_code 28 = .ok (.getfield 24, 3) := fx_dat dk_M_alter 18 rfl
theorem d_M_alter_31 : decode prog_15_method_56_code 31 = .ok (.iload_n 1, 1) := fx_dat dk_M_alter 19 rfl
theorem d_M_alter_32 : decode prog_15_method_56_code 32 = .ok (.iaload, 1) := fx_dat dk_M_alter 20 rfl
theorem d_M_alter_33 : decode prog_15_method_56_code 33 = .ok (.isub, 1) := fx_dat dk_M_alter 21 rfl
theorem d_M_alter_34 : decode prog_15_method_56_code 34 = .ok (.istore 4, 2) := fx_dat dk_M_alter 22 rfl
theorem d_M_alter_36 : decode prog_15_method_56_code 36 = .ok (.iload_n 2, 1) := fx_dat dk_M_alter 23 rfl
theorem d_M_alter_37 : decode prog_15_method_56_code 37 = .ok (.ifCond .lt 9, 3) := fx_dat dk_M_alter 24 rfl
theorem d_M_alter_40 : decode prog_15_method_56_code 40 = .ok (.iload_n 2, 1) := fx_dat dk_M_alter 25 rfl
theorem d_M_alter_41 : decode prog_15_method_56_code 41 = .ok (.iload 4, 2) := fx_dat dk_M_alter 26 rfl
theorem d_M_alter_43 : decode prog_15_method_56_code 43 = .ok (.if_icmp .lt 9, 3) := fx_dat dk_M_alter 27 rfl
theorem d_M_alter_46 : decode prog_15_method_56_code 46 = .ok (.aload_n 0, 1) := fx_dat dk_M_alter 28 rfl
theorem d_M_alter_47 : decode prog_15_method_56_code 47 = .ok (.iconst 2, 1) := fx_dat dk_M_alter 29 rfl
theorem d_M_alter_48 : decode prog_15_method_56_code 48 = .ok (.invokevirtual 362, 3) := fx_dat dk_M_alter 30 rfl
theorem d_M_alter_51 : decode prog_15_method_56_code 51 = .ok (.ireturn, 1) := fx_dat dk_M_alter 31 rfl
theorem d_M_alter_52 : decode prog_15_method_56_code 52 = .ok (.aload_n 0, 1) := fx_dat dk_M_alter 32 rfl
theorem d_M_alter_53 : decode prog_15_method_56_code 53 = .ok (.iload 4, 2) := fx_dat dk_M_alter 33 rfl
theorem d_M_alter_55 : decode prog_15_method_56_code 55 = .ok (.invokevirtual 389, 3) := fx_dat dk_M_alter 34 rfl
theorem d_M_alter_58 : decode prog_15_method_56_code 58 = .ok (.ifCond .eq 9, 3) := fx_dat dk_M_alter 35 rfl
theorem d_M_alter_61 : decode prog_15_method_56_code 61 = .ok (.aload_n 0, 1) := fx_dat dk_M_alter 36 rfl
theorem d_M_alter_62 : decode prog_15_method_56_code 62 = .ok (.iconst 3, 1) := fx_dat dk_M_alter 37 rfl
theorem d_M_alter_63 : decode prog_15_method_56_code 63 = .ok (.invokevirtual 362, 3) := fx_dat dk_M_alter 38 rfl
theorem d_M_alter_66 : decode prog_15_method_56_code 66 = .ok (.ireturn, 1) := fx_dat dk_M_alter 39 rfl
theorem d_M_alter_67 : decode prog_15_method_56_code 67 = .ok (.iconst 0, 1) := fx_dat dk_M_alter 40 rfl
theorem d_M_alter_68 : decode prog_15_method_56_code 68 = .ok (.istore 5, 2) := fx_dat dk_M_alter 41 rfl
theorem d_M_alter_70 : decode prog_15_method_56_code 70 = .ok (.iload 5, 2) := fx_dat dk_M_alter 42 rfl
theorem d_M_alter_72 : decode prog_15_method_56_code 72 = .ok (.iload 4, 2) := fx_dat dk_M_alter 43 rfl
theorem d_M_alter_74 : decode prog_15_method_56_code 74 = .ok (.if_icmp .ge 53, 3) := fx_dat dk_M_alter 44 rfl
theorem d_M_alter_77 : decode prog_15_method_56_code 77 = .ok (.aload_n 0, 1) := fx_dat dk_M_alter 45 rfl
theorem d_M_alter_78 : decode prog_15_method_56_code 78 = .ok (.getfield 21, 3) := fx_dat dk_M_alter 46 rfl
theorem d_M_alter_81 : decode prog_15_method_56_code 81 = .ok (.aload_n 0, 1) := fx_dat dk_M_alter 47 rfl
theorem d_M_alter_82 : decode prog_15_method_56_code 82 = .ok (.getfield 24, 3) := fx_dat dk_M_alter 48 rfl
theorem d_M_alter_85 : decode prog_15_method_56_code 85 = .ok (.aload_n 0, 1) := fx_dat dk_M_alter 49 rfl
theorem d_M_alter_86 : decode prog_15_method_56_code 86 = .ok (.getfield 350, 3) := fx_dat dk_M_alter 50 rfl
theorem d_M_alter_89 : decode prog_15_method_56_code 89 = .ok (.iaload, 1) := fx_dat dk_M_alter 51 rfl
theorem d_M_alter_90 : decode prog_15_method_56_code 90 = .ok (.iload 5, 2) := fx_dat dk_M_alter 52 rfl
theorem d_M_alter_92 : decode prog_15_method_56_code 92 = .ok (.iadd, 1) := fx_dat dk_M_alter 53 rfl
theorem d_M_alter_93 : decode prog_15_method_56_code 93 = .ok (.aload_n 0, 1) := fx_dat dk_M_alter 54 rfl
theorem d_M_alter_94 : decode prog_15_method_56_code 94 = .ok (.getfield 21, 3) := fx_dat dk_M_alter 55 rfl
theorem d_M_alter_97 : decode prog_15_method_56_code 97 = .ok (.aload_n 0, 1) := fx_dat dk_M_alter 56 rfl
theorem d_M_alter_98 : decode prog_15_method_56_code 98 = .ok (.getfield 24, 3) := fx_dat dk_M_alter 57 rfl
theorem d_M_alter_101 : decode prog_15_method_56_code 101 = .ok (.iload_n 1, 1) := fx_dat dk_M_alter 58 rfl
theorem d_M_alter_102 : decode prog_15_method_56_code 102 = .ok (.iaload, 1) := fx_dat dk_M_alter 59 rfl
theorem d_M_alter_103 : decode prog_15_method_56_code 103 = .ok (.iload 5, 2) := fx_dat dk_M_alter 60 rfl
theorem d_M_alter_105 : decode prog_15_method_56_code 105 = .ok (.iadd, 1) := fx_dat dk_M_alter 61 rfl
theorem d_M_alter_106 : decode prog_15_method_56_code 106 = .ok (.baload, 1) := fx_dat dk_M_alter 62 rfl
theorem d_M_alter_107 : decode prog_15_method_56_code 107 = .ok (.iload 5, 2) := fx_dat dk_M_alter 63 rfl
theorem d_M_alter_109 : decode prog_15_method_56_code 109 = .ok (.iload_n 2, 1) := fx_dat dk_M_alter 64 rfl
theorem d_M_alter_110 : decode prog_15_method_56_code 110 = .ok (.if_icmp .ne 7, 3) := fx_dat dk_M_alter 65 rfl
theorem d_M_alter_113 : decode prog_15_method_56_code 113 = .ok (.iload_n 3, 1) := fx_dat dk_M_alter 66 rfl
theorem d_M_alter_114 : decode prog_15_method_56_code 114 = .ok (.goto 4, 3) := fx_dat dk_M_alter 67 rfl
theorem d_M_alter_117 : decode prog_15_method_56_code 117 = .ok (.iconst 0, 1) := fx_dat dk_M_alter 68 rfl
theorem d_M_alter_118 : decode prog_15_method_56_code 118 = .ok (.ixor, 1) := fx_dat dk_M_alter 69 rfl
theorem d_M_alter_119 : decode prog_15_method_56_code 119 = .ok (.i2b, 1) := fx_dat dk_M_alter 70 rfl
theorem d_M_alter_120 : decode prog_15_method_56_code 120 = .ok (.bastore, 1) := fx_dat dk_M_alter 71 rfl
theorem d_M_alter_121 : decode prog_15_method_56_code 121 = .ok (.iinc 5 1, 3) := fx_dat dk_M_alter 72 rfl
theorem d_M_alter_124 : decode prog_15_method_56_code 124 = .ok (.goto (-54), 3) := fx_dat dk_M_alter 73 rfl
theorem d_M_alter_127 : decode prog_15_method_56_code 127 = .ok (.aload_n 0, 1) := fx_dat dk_M_alter 74 rfl
theorem d_M_alter_128 : decode prog_15_method_56_code 128 = .ok (.iload 4, 2) := fx_dat dk_M_alter 75 rfl
theorem d_M_alter_130 : decode prog_15_method_56_code 130 = .ok (.aload_n 0, 1) := fx_dat dk_M_alter 76 rfl
theorem d_M_alter_131 : decode prog_15_method_56_code 131 = .ok (.getfield 28, 3) := fx_dat dk_M_alter 77 rfl
theorem d_M_alter_134 : decode prog_15_method_56_code 134 = .ok (.iload_n 1, 1) := fx_dat dk_M_alter 78 rfl
theorem d_M_alter_135 : decode prog_15_method_56_code 135 = .ok (.iaload, 1) := fx_dat dk_M_alter 79 rfl
theorem d_M_alter_136 : decode prog_15_method_56_code 136 = .ok (.invokevirtual 392, 3) := fx_dat dk_M_alter 80 rfl
theorem d_M_alter_139 : decode prog_15_method_56_code 139 = .ok (.ireturn, 1) := fx_dat dk_M_alter 81 rfl
def m_M_alter_46 (Q : Int32 → AH → Prop) (r0 : Nat) (h : AH) : Prop := hp_k h r0 = 13 ∧ m_M_fail (fun v1 h1 => fx_ext h h1 → Q v1 h1) r0 (2 : Int32) h
def m_M_alter_118 (Q : Int32 → AH → Prop) (X70 : Int32 × AH → Prop) (r0 : Nat) (x1 : Int32) (x2 : Int32) (x3 : Int32) (x4 : Int32) (x5 : Int32) (sr0 : Nat) (sx1 : Int32) (sx2 : Int32) (sx3 : Int32) (h : AH) : Prop := hp_k h sr0 = 101 ∧ vp_in sx1 (hp_n h sr0) ∧ ∀ h1 : AH, h1 = up_I h sr0 (sx1).toNatClampNeg ((((sx2 ^^^ sx3)).toInt8.toInt32)).toInt8.toInt32 → ∀ v1 : Int32, v1 = (x5 + (1 : Int32)) → X70 (v1, h1)
def m_M_alter_70_b (Q : Int32 → AH → Prop) (X70 : Int32 × AH → Prop) (r0 : Nat) (x1 : Int32) (x2 : Int32) (x3 : Int32) (x4 : Int32) (x5 : Int32) (h : AH) : Prop := (x4 ≤ x5 → hp_k h r0 = 13 ∧ ∃ b1, hp_R h r0 9 = some b1 ∧ ik (hp_k h b1) ∧ vp_in x1 (hp_n h b1) ∧ m_M_added (fun v1 h1 => fx_ext h h1 → Q v1 h1) r0 x4 (hp_I h b1 x1.toNatClampNeg) h) ∧ (¬ x4 ≤ x5 → hp_k h r0 = 13 ∧ ∃ b2, hp_R h r0 7 = some b2 ∧ ∃ b3, hp_R h r0 8 = some b3 ∧ ik (hp_k h b3) ∧ vp_in (hp_I h r0 10) (hp_n h b3) ∧ vp_in x1 (hp_n h b3) ∧ bk (hp_k h b2) ∧ vp_in ((hp_I h b3 x1.toNatClampNeg) + x5) (hp_n h b2) ∧ (by8 (hp_I h b2 (((hp_I h b3 x1.toNatClampNeg) + x5)).toNatClampNeg) → (¬ x5 = x2 → m_M_alter_118 Q X70 r0 x1 x2 x3 x4 x5 b2 ((hp_I h b3 ((hp_I h r0 10)).toNatClampNeg) + x5) (hp_I h b2 (((hp_I h b3 x1.toNatClampNeg) + x5)).toNatClampNeg) (0 : Int32) h) ∧ (x5 = x2 → m_M_alter_118 Q X70 r0 x1 x2 x3 x4 x5 b2 ((hp_I h b3 ((hp_I h r0 10)).toNatClampNeg) + x5) (hp_I h b2 (((hp_I h b3 x1.toNatClampNeg) + x5)).toNatClampNeg) x3 h)))
def m_M_alter_70 (Q : Int32 → AH → Prop) (r0 : Nat) (x1 : Int32) (x2 : Int32) (x3 : Int32) (x4 : Int32) (x5 : Int32) (h : AH) : Prop := fx_loop (fun (X70 : Int32 × AH → Prop) (st : Int32 × AH) => m_M_alter_70_b Q X70 r0 x1 x2 x3 x4 st.1 st.2) (x5, h)
def m_M_alter (Q : Int32 → AH → Prop) (r0 : Nat) (x1 : Int32) (x2 : Int32) (x3 : Int32) (h : AH) : Prop := hp_k h r0 = 13 ∧ ∀ h1 : AH, h1 = up_I h r0 0 (0 : Int32) → m_M_none (fun v1 h2 => fx_ext h1 h2 → zb v1 → (v1 = 0 → ∃ b1, hp_R h2 r0 8 = some b1 ∧ ik (hp_k h2 b1) ∧ vp_in (x1 + (1 : Int32)) (hp_n h2 b1) ∧ vp_in x1 (hp_n h2 b1) ∧ ∀ v2 : Int32, v2 = ((hp_I h2 b1 ((x1 + (1 : Int32))).toNatClampNeg) - (hp_I h2 b1 x1.toNatClampNeg)) → (x2 < 0 → m_M_alter_46 Q r0 h2) ∧ (¬ x2 < 0 → (x2 < v2 → m_M_full (fun v3 h3 => fx_ext h2 h3 → zb v3 → (v3 = 0 → m_M_alter_70 Q r0 x1 x2 x3 v2 (0 : Int32) h3) ∧ (¬ v3 = 0 → m_M_fail (fun v4 h4 => fx_ext h3 h4 → Q v4 h4) r0 (3 : Int32) h3)) r0 v2 h2) ∧ (¬ x2 < v2 → m_M_alter_46 Q r0 h2))) ∧ (¬ v1 = 0 → m_M_fail (fun v5 h5 => fx_ext h2 h5 → Q v5 h5) r0 (1 : Int32) h2)) r0 x1 h1
theorem b_M_alter_46 {p : Program} {l : Launch} {e : Env} {R : Room} {s : State} {m : MethodId} {args : Array Value} {below : List Frame} {meth : Method} {c : Code} {D : DD} {h0 : AH} {Q : Int32 → AH → Prop} (C : fx_CX D y_M_alter prog_15_method_56_code 6 1 14 (Option.some FieldType.int) [] h0 p R s m meth c) (hl : l.flags = flags0) (r0 : Nat) (h : AH) (hw : m_M_alter_46 Q r0 h) : ∀ (ls : Array Slot) (H : Heap) (locs : List Loc) (cells slots : Nat), lv_has ls 6 [(0, .ref r0)] → fx_F D h0 h H locs cells slots → W p l e R s m args below meth c H locs cells slots (fx_Z D below s h0 (fx_oI Q fx_no)) (F0 m 46 ls []) := by
  unfold m_M_alter_46 at hw
  intro ls H locs cells slots hv F
  refine lv_aload_n C.ex C.by d_M_alter_46 rfl (lv_at hv 0 rfl) ?_
  refine lv_iconst (v := (2 : Int32)) C.ex C.by d_M_alter_47 (by decide) ?_
  obtain ⟨hk1, hw⟩ := hw
  refine fx_callI C F (c_M_fail hl hw) hm_M_fail hi_M_fail hv.1 (by decide) (Nat.le_of_ble_eq_true rfl) (iv_M_fail C F lm_M_362 hk1 d_M_alter_48) (fx_out0 _) fx_eno (fun v1 h1 H locs cells slots hw hx1 F => ?_)
  replace hw := hw hx1
  have hk1 := (hx1).k hk1
  exact fx_iret C F d_M_alter_51 (Or.inl ⟨_, rfl, hw⟩)
theorem b_M_alter_118 {p : Program} {l : Launch} {e : Env} {R : Room} {s : State} {m : MethodId} {args : Array Value} {below : List Frame} {meth : Method} {c : Code} {D : DD} {h0 : AH} {Q : Int32 → AH → Prop} {X70 : Int32 × AH → Prop} (C : fx_CX D y_M_alter prog_15_method_56_code 6 1 14 (Option.some FieldType.int) [] h0 p R s m meth c) (hl : l.flags = flags0) (r0 : Nat) (x1 : Int32) (x2 : Int32) (x3 : Int32) (x4 : Int32) (x5 : Int32) (sr0 : Nat) (sx1 : Int32) (sx2 : Int32) (sx3 : Int32) (h : AH) (hX70 : ∀ st, X70 st → ∀ (ls : Array Slot) (H : Heap) (locs : List Loc) (cells slots : Nat), lv_has ls 6 [(0, .ref r0), (1, .int x1), (2, .int x2), (3, .int x3), (4, .int x4), (5, .int st.1)] → fx_F D h0 st.2 H locs cells slots → W p l e R s m args below meth c H locs cells slots (fx_Z D below s h0 (fx_oI Q fx_no)) (F0 m 70 ls [])) (hw : m_M_alter_118 Q X70 r0 x1 x2 x3 x4 x5 sr0 sx1 sx2 sx3 h) : ∀ (ls : Array Slot) (H : Heap) (locs : List Loc) (cells slots : Nat), lv_has ls 6 [(0, .ref r0), (1, .int x1), (2, .int x2), (3, .int x3), (4, .int x4), (5, .int x5)] → fx_F D h0 h H locs cells slots → W p l e R s m args below meth c H locs cells slots (fx_Z D below s h0 (fx_oI Q fx_no)) (F0 m 118 ls [.int sx3, .int sx2, .int sx1, .ref sr0]) := by
  unfold m_M_alter_118 at hw
  intro ls H locs cells slots hv F
  refine lv_ixor C.ex C.by d_M_alter_118 ?_
  refine lv_i2b (v := (((sx2 ^^^ sx3)).toInt8.toInt32)) C.ex C.by d_M_alter_119 rfl ?_
  obtain ⟨hk1, hw⟩ := hw
  obtain ⟨hi1, hw⟩ := hw
  let h1 : AH := up_I h sr0 (sx1).toNatClampNeg ((((sx2 ^^^ sx3)).toInt8.toInt32)).toInt8.toInt32
  replace hw := hw h1 rfl
  refine fx_bast C F hk1 hi1 d_M_alter_120 (fun H locs (F : fx_F D h0 h1 H locs _ _) => ?_)
  let v1 : Int32 := (x5 + (1 : Int32))
  replace hw := hw v1 rfl
  refine lv_iinc (v := v1) (k := 5) (lv' := [(5, .int v1), (0, .ref r0), (1, .int x1), (2, .int x2), (3, .int x3), (4, .int x4)]) C.ex C.by d_M_alter_121 hv rfl (congrArg (fun z => x5 + z) (by decide)) (by decide) rfl (fun ls hv => ?_)
  refine lv_goto C.ex C.by d_M_alter_124 rfl ?_
  exact hX70 _ hw _ _ _ _ _ (lv_sub hv [1, 2, 3, 4, 5, 0] rfl) F
theorem b_M_alter_70 {p : Program} {l : Launch} {e : Env} {R : Room} {s : State} {m : MethodId} {args : Array Value} {below : List Frame} {meth : Method} {c : Code} {D : DD} {h0 : AH} {Q : Int32 → AH → Prop} (C : fx_CX D y_M_alter prog_15_method_56_code 6 1 14 (Option.some FieldType.int) [] h0 p R s m meth c) (hl : l.flags = flags0) (r0 : Nat) (x1 : Int32) (x2 : Int32) (x3 : Int32) (x4 : Int32) (x5 : Int32) (h : AH) (hw : m_M_alter_70 Q r0 x1 x2 x3 x4 x5 h) : ∀ (ls : Array Slot) (H : Heap) (locs : List Loc) (cells slots : Nat), lv_has ls 6 [(0, .ref r0), (1, .int x1), (2, .int x2), (3, .int x3), (4, .int x4), (5, .int x5)] → fx_F D h0 h H locs cells slots → W p l e R s m args below meth c H locs cells slots (fx_Z D below s h0 (fx_oI Q fx_no)) (F0 m 70 ls []) := by
  refine fx_loop.use hw (fun st => ∀ (ls : Array Slot) (H : Heap) (locs : List Loc) (cells slots : Nat), lv_has ls 6 [(0, .ref r0), (1, .int x1), (2, .int x2), (3, .int x3), (4, .int x4), (5, .int st.1)] → fx_F D h0 st.2 H locs cells slots → W p l e R s m args below meth c H locs cells slots (fx_Z D below s h0 (fx_oI Q fx_no)) (F0 m 70 ls [])) (fun X70 st hX70 hw => ?_)
  obtain ⟨x5, h⟩ := st
  replace hw : m_M_alter_70_b Q X70 r0 x1 x2 x3 x4 x5 h := hw
  unfold m_M_alter_70_b at hw
  intro ls H locs cells slots hv F
  refine lv_iload C.ex C.by d_M_alter_70 (lv_at hv 5 rfl) ?_
  refine lv_iload C.ex C.by d_M_alter_72 (lv_at hv 4 rfl) ?_
  refine lv_icmp_ge C.ex C.by d_M_alter_74 rfl (fun hc => ?_) (fun hc => ?_)
  · replace hw := hw.1 hc
    refine lv_aload_n C.ex C.by d_M_alter_127 rfl (lv_at hv 0 rfl) ?_
    refine lv_iload C.ex C.by d_M_alter_128 (lv_at hv 4 rfl) ?_
    refine lv_aload_n C.ex C.by d_M_alter_130 rfl (lv_at hv 0 rfl) ?_
    obtain ⟨hk1, hw⟩ := hw
    obtain ⟨b1, hb1, hw⟩ := hw
    refine fx_getR C F lf_M_28 hk1 rfl hb1 d_M_alter_131 ?_
    refine lv_iload_n C.ex C.by d_M_alter_134 rfl (lv_at hv 1 rfl) ?_
    obtain ⟨hk2, hw⟩ := hw
    obtain ⟨hi1, hw⟩ := hw
    refine fx_iald C F hk2 hi1 d_M_alter_135 ?_
    refine fx_callI C F (c_M_added hl hw) hm_M_added hi_M_added hv.1 (by decide) (Nat.le_of_ble_eq_true rfl) (iv_M_added C F lm_M_392 hk1 d_M_alter_136) (fx_out0 _) fx_eno (fun v1 h1 H locs cells slots hw hx1 F => ?_)
    replace hw := hw hx1
    have hk2 := (hx1).gi hk2
    have hk1 := (hx1).k hk1
    exact fx_iret C F d_M_alter_139 (Or.inl ⟨_, rfl, hw⟩)
  · replace hw := hw.2 hc
    refine lv_aload_n C.ex C.by d_M_alter_77 rfl (lv_at hv 0 rfl) ?_
    obtain ⟨hk3, hw⟩ := hw
    obtain ⟨b2, hb2, hw⟩ := hw
    refine fx_getR C F lf_M_21 hk3 rfl hb2 d_M_alter_78 ?_
    refine lv_aload_n C.ex C.by d_M_alter_81 rfl (lv_at hv 0 rfl) ?_
    obtain ⟨b3, hb3, hw⟩ := hw
    refine fx_getR C F lf_M_24 hk3 rfl hb3 d_M_alter_82 ?_
    refine lv_aload_n C.ex C.by d_M_alter_85 rfl (lv_at hv 0 rfl) ?_
    refine fx_getI C F lf_M_350 hk3 rfl d_M_alter_86 ?_
    obtain ⟨hk4, hw⟩ := hw
    obtain ⟨hi2, hw⟩ := hw
    refine fx_iald C F hk4 hi2 d_M_alter_89 ?_
    refine lv_iload C.ex C.by d_M_alter_90 (lv_at hv 5 rfl) ?_
    refine lv_iadd C.ex C.by d_M_alter_92 ?_
    refine lv_aload_n C.ex C.by d_M_alter_93 rfl (lv_at hv 0 rfl) ?_
    refine fx_getR C F lf_M_21 hk3 rfl hb2 d_M_alter_94 ?_
    refine lv_aload_n C.ex C.by d_M_alter_97 rfl (lv_at hv 0 rfl) ?_
    refine fx_getR C F lf_M_24 hk3 rfl hb3 d_M_alter_98 ?_
    refine lv_iload_n C.ex C.by d_M_alter_101 rfl (lv_at hv 1 rfl) ?_
    obtain ⟨hi3, hw⟩ := hw
    refine fx_iald C F hk4 hi3 d_M_alter_102 ?_
    refine lv_iload C.ex C.by d_M_alter_103 (lv_at hv 5 rfl) ?_
    refine lv_iadd C.ex C.by d_M_alter_105 ?_
    obtain ⟨hk5, hw⟩ := hw
    obtain ⟨hi4, hw⟩ := hw
    refine fx_bald C F hk5 hi4 d_M_alter_106 (fun h8 => ?_)
    replace hw := hw h8
    refine lv_iload C.ex C.by d_M_alter_107 (lv_at hv 5 rfl) ?_
    refine lv_iload_n C.ex C.by d_M_alter_109 rfl (lv_at hv 2 rfl) ?_
    refine lv_icmp_ne C.ex C.by d_M_alter_110 rfl (fun hc => ?_) (fun hc => ?_)
    · replace hw := hw.1 hc
      refine lv_iconst (v := (0 : Int32)) C.ex C.by d_M_alter_117 (by decide) ?_
      exact b_M_alter_118 C hl _ _ _ _ _ _ _ _ _ _ _ hX70 hw _ _ _ _ _ hv F
    · replace hw := hw.2 hc
      refine lv_iload_n C.ex C.by d_M_alter_113 rfl (lv_at hv 3 rfl) ?_
      refine lv_goto C.ex C.by d_M_alter_114 rfl ?_
      exact b_M_alter_118 C hl _ _ _ _ _ _ _ _ _ _ _ hX70 hw _ _ _ _ _ hv F
theorem b_M_alter_0 {p : Program} {l : Launch} {e : Env} {R : Room} {s : State} {m : MethodId} {args : Array Value} {below : List Frame} {meth : Method} {c : Code} {D : DD} {h0 : AH} {Q : Int32 → AH → Prop} (C : fx_CX D y_M_alter prog_15_method_56_code 6 1 14 (Option.some FieldType.int) [] h0 p R s m meth c) (hl : l.flags = flags0) (r0 : Nat) (x1 : Int32) (x2 : Int32) (x3 : Int32) (h : AH) (hw : m_M_alter Q r0 x1 x2 x3 h) : ∀ (ls : Array Slot) (H : Heap) (locs : List Loc) (cells slots : Nat), lv_has ls 6 [(0, .ref r0), (1, .int x1), (2, .int x2), (3, .int x3)] → fx_F D h0 h H locs cells slots → W p l e R s m args below meth c H locs cells slots (fx_Z D below s h0 (fx_oI Q fx_no)) (F0 m 0 ls []) := by
  unfold m_M_alter at hw
  intro ls H locs cells slots hv F
  refine lv_aload_n C.ex C.by d_M_alter_0 rfl (lv_at hv 0 rfl) ?_
  refine lv_iconst (v := (0 : Int32)) C.ex C.by d_M_alter_1 (by decide) ?_
  obtain ⟨hk1, hw⟩ := hw
  let h1 : AH := up_I h r0 0 (0 : Int32)
  replace hw := hw h1 rfl
  refine fx_putI C F lf_M_83 hk1 rfl rfl (fx_mayF.no rfl rfl) d_M_alter_2 (fun H locs (F : fx_F D h0 h1 H locs _ _) => ?_)
  refine lv_aload_n C.ex C.by d_M_alter_5 rfl (lv_at hv 0 rfl) ?_
  refine lv_iload_n C.ex C.by d_M_alter_6 rfl (lv_at hv 1 rfl) ?_
  refine fx_callZ C F (c_M_none hl hw) hm_M_none hi_M_none hv.1 (by decide) (Nat.le_of_ble_eq_true rfl) (iv_M_none C F lm_M_359 hk1 d_M_alter_7) (fx_out0 _) fx_eno (fun v1 h2 H locs cells slots hw hx1 hzb F => ?_)
  replace hw := hw hx1 hzb
  have hk1 := (hx1).k hk1
  refine lv_if_eq C.ex C.by d_M_alter_10 rfl (fun hc => ?_) (fun hc => ?_)
  · replace hw := hw.1 hc
    refine lv_aload_n C.ex C.by d_M_alter_19 rfl (lv_at hv 0 rfl) ?_
    obtain ⟨b1, hb1, hw⟩ := hw
    refine fx_getR C F lf_M_24 hk1 rfl hb1 d_M_alter_20 ?_
    refine lv_iload_n C.ex C.by d_M_alter_23 rfl (lv_at hv 1 rfl) ?_
    refine lv_iconst (v := (1 : Int32)) C.ex C.by d_M_alter_24 (by decide) ?_
    refine lv_iadd C.ex C.by d_M_alter_25 ?_
    obtain ⟨hk2, hw⟩ := hw
    obtain ⟨hi1, hw⟩ := hw
    refine fx_iald C F hk2 hi1 d_M_alter_26 ?_
    refine lv_aload_n C.ex C.by d_M_alter_27 rfl (lv_at hv 0 rfl) ?_
    refine fx_getR C F lf_M_24 hk1 rfl hb1 d_M_alter_28 ?_
    refine lv_iload_n C.ex C.by d_M_alter_31 rfl (lv_at hv 1 rfl) ?_
    obtain ⟨hi2, hw⟩ := hw
    refine fx_iald C F hk2 hi2 d_M_alter_32 ?_
    refine lv_isub C.ex C.by d_M_alter_33 ?_
    let v2 : Int32 := ((hp_I h2 b1 ((x1 + (1 : Int32))).toNatClampNeg) - (hp_I h2 b1 x1.toNatClampNeg))
    replace hw := hw v2 rfl
    refine lv_istore (lv' := [(4, .int v2), (0, .ref r0), (1, .int x1), (2, .int x2), (3, .int x3)]) C.ex C.by d_M_alter_34 hv (by decide) rfl (fun ls hv => ?_)
    refine lv_iload_n C.ex C.by d_M_alter_36 rfl (lv_at hv 3 rfl) ?_
    refine lv_if_lt C.ex C.by d_M_alter_37 rfl (fun hc => ?_) (fun hc => ?_)
    · replace hw := hw.1 hc
      exact b_M_alter_46 C hl _ _ hw _ _ _ _ _ (lv_sub hv [1] rfl) F
    · replace hw := hw.2 hc
      refine lv_iload_n C.ex C.by d_M_alter_40 rfl (lv_at hv 3 rfl) ?_
      refine lv_iload C.ex C.by d_M_alter_41 (lv_at hv 0 rfl) ?_
      refine lv_icmp_lt C.ex C.by d_M_alter_43 rfl (fun hc => ?_) (fun hc => ?_)
      · replace hw := hw.1 hc
        refine lv_aload_n C.ex C.by d_M_alter_52 rfl (lv_at hv 1 rfl) ?_
        refine lv_iload C.ex C.by d_M_alter_53 (lv_at hv 0 rfl) ?_
        refine fx_callZ C F (c_M_full hl hw) hm_M_full hi_M_full hv.1 (by decide) (Nat.le_of_ble_eq_true rfl) (iv_M_full C F lm_M_389 hk1 d_M_alter_55) (fx_out0 _) fx_eno (fun v3 h3 H locs cells slots hw hx2 hzb F => ?_)
        replace hw := hw hx2 hzb
        have hk2 := (hx2).gi hk2
        have hk1 := (hx2).k hk1
        refine lv_if_eq C.ex C.by d_M_alter_58 rfl (fun hc => ?_) (fun hc => ?_)
        · replace hw := hw.1 hc
          refine lv_iconst (v := (0 : Int32)) C.ex C.by d_M_alter_67 (by decide) ?_
          refine lv_istore (lv' := [(5, .int (0 : Int32)), (4, .int v2), (0, .ref r0), (1, .int x1), (2, .int x2), (3, .int x3)]) C.ex C.by d_M_alter_68 hv (by decide) rfl (fun ls hv => ?_)
          exact b_M_alter_70 C hl _ _ _ _ _ _ _ hw _ _ _ _ _ (lv_sub hv [2, 3, 4, 5, 1, 0] rfl) F
        · replace hw := hw.2 hc
          refine lv_aload_n C.ex C.by d_M_alter_61 rfl (lv_at hv 1 rfl) ?_
          refine lv_iconst (v := (3 : Int32)) C.ex C.by d_M_alter_62 (by decide) ?_
          refine fx_callI C F (c_M_fail hl hw) hm_M_fail hi_M_fail hv.1 (by decide) (Nat.le_of_ble_eq_true rfl) (iv_M_fail C F lm_M_362 hk1 d_M_alter_63) (fx_out0 _) fx_eno (fun v4 h4 H locs cells slots hw hx3 F => ?_)
          replace hw := hw hx3
          have hk2 := (hx3).gi hk2
          have hk1 := (hx3).k hk1
          exact fx_iret C F d_M_alter_66 (Or.inl ⟨_, rfl, hw⟩)
      · replace hw := hw.2 hc
        exact b_M_alter_46 C hl _ _ hw _ _ _ _ _ (lv_sub hv [1] rfl) F
  · replace hw := hw.2 hc
    refine lv_aload_n C.ex C.by d_M_alter_13 rfl (lv_at hv 0 rfl) ?_
    refine lv_iconst (v := (1 : Int32)) C.ex C.by d_M_alter_14 (by decide) ?_
    refine fx_callI C F (c_M_fail hl hw) hm_M_fail hi_M_fail hv.1 (by decide) (Nat.le_of_ble_eq_true rfl) (iv_M_fail C F lm_M_362 hk1 d_M_alter_15) (fx_out0 _) fx_eno (fun v5 h5 H locs cells slots hw hx4 F => ?_)
    replace hw := hw hx4
    have hk1 := (hx4).k hk1
    exact fx_iret C F d_M_alter_18 (Or.inl ⟨_, rfl, hw⟩)
theorem hm_M_alter : fx_hd y_M_alter prog_15_method_56_code 6 (Option.some FieldType.int) [] ∈ tables_1 := (fx_m7 (List.mem_of_getElem? (i := 160) rfl))
theorem hi_M_alter : Cond.initialized y_M_alter.cls ∈ tables_1 := (fx_m1 (List.mem_of_getElem? (i := 15) rfl))
theorem c_M_alter {l : Launch} (hl : l.flags = flags0) {D : DD} {Q : Int32 → AH → Prop} {r0 : Nat} {x1 : Int32} {x2 : Int32} {x3 : Int32} {h : AH} (hw : m_M_alter Q r0 x1 x2 x3 h) : fx_Mt l D y_M_alter (fx_hd y_M_alter prog_15_method_56_code 6 (Option.some FieldType.int) []) 1 14 [.ref r0, .int x1, .int x2, .int x3] h (fx_oI Q fx_no) := by
  refine fx_ofW (plainFor_of_name (by decide)) (fun p e s m below meth c C F => ?_)
  have hv := lv_entry ([.ref r0, .int x1, .int x2, .int x3]) (n := 6) (Nat.le_of_ble_eq_true rfl)
  rw [lg_entry_eq]
  generalize (lg_sl ([.ref r0, .int x1, .int x2, .int x3]) ++ List.replicate (6 - (lg_sl ([.ref r0, .int x1, .int x2, .int x3])).length) Slot.unset).toArray = ls at hv ⊢
  have hv : lv_has ls 6 [(0, .ref r0), (1, .int x1), (2, .int x2), (3, .int x3)] := hv
  exact b_M_alter_0 C hl _ _ _ _ _ hw _ _ _ _ _ hv F
/-! ChainJudgeModel.byteOf(II)I: frames 1, words 13 -/
abbrev y_M_byteOf : MethodName := ⟨"ChainJudgeModel", "byteOf", "(II)I"⟩
def dl_M_byteOf : List (Nat × Instr × Nat) := [(0, .aload_n 0, 1), (1, .iconst 0, 1), (2, .putfield 83, 3), (5, .aload_n 0, 1), (6, .iload_n 1, 1), (7, .invokevirtual 359, 3), (10, .ifCond .eq 9, 3), (13, .aload_n 0, 1), (14, .iconst 1, 1), (15, .invokevirtual 362, 3), (18, .ireturn, 1), (19, .aload_n 0, 1), (20, .getfield 24, 3), (23, .iload_n 1, 1), (24, .iconst 1, 1), (25, .iadd, 1), (26, .iaload, 1), (27, .aload_n 0, 1), (28, .getfield 24, 3), (31, .iload_n 1, 1), (32, .iaload, 1), (33, .isub, 1), (34, .istore_n 3, 1), (35, .iload_n 2, 1), (36, .iconst (-1), 1), (37, .if_icmp .lt 8, 3), (40, .iload_n 2, 1), (41, .iload_n 3, 1), (42, .if_icmp .lt 9, 3), (45, .aload_n 0, 1), (46, .iconst 2, 1), (47, .invokevirtual 362, 3), (50, .ireturn, 1), (51, .iload_n 2, 1), (52, .ifCond .ge 7, 3), (55, .iload_n 3, 1), (56, .goto 20, 3), (59, .aload_n 0, 1), (60, .getfield 21, 3), (63, .aload_n 0, 1), (64, .getfield 24, 3), (67, .iload_n 1, 1), (68, .iaload, 1), (69, .iload_n 2, 1), (70, .iadd, 1), (71, .baload, 1), (72, .sipush 255, 3), (75, .iand, 1), (76, .ireturn, 1)]
theorem dk_M_byteOf : fx_dec prog_15_method_57_code dl_M_byteOf = true := by decide +kernel
theorem d_M_byteOf_0 : decode prog_15_method_57_code 0 = .ok (.aload_n 0, 1) := fx_dat dk_M_byteOf 0 rfl
theorem d_M_byteOf_1 : decode prog_15_method_57_code 1 = .ok (.iconst 0, 1) := fx_dat dk_M_byteOf 1 rfl
theorem d_M_byteOf_2 : decode prog_15_method_57_code 2 = .ok (.putfield 83, 3) := fx_dat dk_M_byteOf 2 rfl
theorem d_M_byteOf_5 : decode prog_15_method_57_code 5 = .ok (.aload_n 0, 1) := fx_dat dk_M_byteOf 3 rfl
theorem d_M_byteOf_6 : decode prog_15_method_57_code 6 = .ok (.iload_n 1, 1) := fx_dat dk_M_byteOf 4 rfl
theorem d_M_byteOf_7 : decode prog_15_method_57_code 7 = .ok (.invokevirtual 359, 3) := fx_dat dk_M_byteOf 5 rfl
theorem d_M_byteOf_10 : decode prog_15_method_57_code 10 = .ok (.ifCond .eq 9, 3) := fx_dat dk_M_byteOf 6 rfl
theorem d_M_byteOf_13 : decode prog_15_method_57_code 13 = .ok (.aload_n 0, 1) := fx_dat dk_M_byteOf 7 rfl
theorem d_M_byteOf_14 : decode prog_15_method_57_code 14 = .ok (.iconst 1, 1) := fx_dat dk_M_byteOf 8 rfl
theorem d_M_byteOf_15 : decode prog_15_method_57_code 15 = .ok (.invokevirtual 362, 3) := fx_dat dk_M_byteOf 9 rfl
theorem d_M_byteOf_18 : decode prog_15_method_57_code 18 = .ok (.ireturn, 1) := fx_dat dk_M_byteOf 10 rfl
theorem d_M_byteOf_19 : decode prog_15_method_57_code 19 = .ok (.aload_n 0, 1) := fx_dat dk_M_byteOf 11 rfl
theorem d_M_byteOf_20 : decode prog_15_method_57_code 20 = .ok (.getfield 24, 3) := fx_dat dk_M_byteOf 12 rfl
theorem d_M_byteOf_23 : decode prog_15_method_57_code 23 = .ok (.iload_n 1, 1) := fx_dat dk_M_byteOf 13 rfl
theorem d_M_byteOf_24 : decode prog_15_method_57_code 24 = .ok (.iconst 1, 1) := fx_dat dk_M_byteOf 14 rfl
theorem d_M_byteOf_25 : decode prog_15_method_57_code 25 = .ok (.iadd, 1) := fx_dat dk_M_byteOf 15 rfl
theorem d_M_byteOf_26 : decode prog_15_method_57_code 26 = .ok (.iaload, 1) := fx_dat dk_M_byteOf 16 rfl
theorem d_M_byteOf_27 : decode prog_15_method_57_code 27 = .ok (.aload_n 0, 1) := fx_dat dk_M_byteOf 17 rfl
theorem d_M_byteOf_28 : decode prog_15_method_57_code 28 = .ok (.getfield 24, 3) := fx_dat dk_M_byteOf 18 rfl
theorem d_M_byteOf_31 : decode prog_15_method_57_code 31 = .ok (.iload_n 1, 1) := fx_dat dk_M_byteOf 19 rfl
theorem d_M_byteOf_32 : decode prog_15_method_57_code 32 = .ok (.iaload, 1) := fx_dat dk_M_byteOf 20 rfl
theorem d_M_byteOf_33 : decode prog_15_method_57_code 33 = .ok (.isub, 1) := fx_dat dk_M_byteOf 21 rfl
theorem d_M_byteOf_34 : decode prog_15_method_57_code 34 = .ok (.istore_n 3, 1) := fx_dat dk_M_byteOf 22 rfl
theorem d_M_byteOf_35 : decode prog_15_method_57_code 35 = .ok (.iload_n 2, 1) := fx_dat dk_M_byteOf 23 rfl
theorem d_M_byteOf_36 : decode prog_15_method_57_code 36 = .ok (.iconst (-1), 1) := fx_dat dk_M_byteOf 24 rfl
theorem d_M_byteOf_37 : decode prog_15_method_57_code 37 = .ok (.if_icmp .lt 8, 3) := fx_dat dk_M_byteOf 25 rfl
theorem d_M_byteOf_40 : decode prog_15_method_57_code 40 = .ok (.iload_n 2, 1) := fx_dat dk_M_byteOf 26 rfl
theorem d_M_byteOf_41 : decode prog_15_method_57_code 41 = .ok (.iload_n 3, 1) := fx_dat dk_M_byteOf 27 rfl
theorem d_M_byteOf_42 : decode prog_15_method_57_code 42 = .ok (.if_icmp .lt 9, 3) := fx_dat dk_M_byteOf 28 rfl
theorem d_M_byteOf_45 : decode prog_15_method_57_code 45 = .ok (.aload_n 0, 1) := fx_dat dk_M_byteOf 29 rfl
theorem d_M_byteOf_46 : decode prog_15_method_57_code 46 = .ok (.iconst 2, 1) := fx_dat dk_M_byteOf 30 rfl
theorem d_M_byteOf_47 : decode prog_15_method_57_code 47 = .ok (.invokevirtual 362, 3) := fx_dat dk_M_byteOf 31 rfl
theorem d_M_byteOf_50 : decode prog_15_method_57_code 50 = .ok (.ireturn, 1) := fx_dat dk_M_byteOf 32 rfl
theorem d_M_byteOf_51 : decode prog_15_method_57_code 51 = .ok (.iload_n 2, 1) := fx_dat dk_M_byteOf 33 rfl
theorem d_M_byteOf_52 : decode prog_15_method_57_code 52 = .ok (.ifCond .ge 7, 3) := fx_dat dk_M_byteOf 34 rfl
theorem d_M_byteOf_55 : decode prog_15_method_57_code 55 = .ok (.iload_n 3, 1) := fx_dat dk_M_byteOf 35 rfl
theorem d_M_byteOf_56 : decode prog_15_method_57_code 56 = .ok (.goto 20, 3) := fx_dat dk_M_byteOf 36 rfl
theorem d_M_byteOf_59 : decode prog_15_method_57_code 59 = .ok (.aload_n 0, 1) := fx_dat dk_M_byteOf 37 rfl
theorem d_M_byteOf_60 : decode prog_15_method_57_code 60 = .ok (.getfield 21, 3) := fx_dat dk_M_byteOf 38 rfl
theorem d_M_byteOf_63 : decode prog_15_method_57_code 63 = .ok (.aload_n 0, 1) := fx_dat dk_M_byteOf 39 rfl
theorem d_M_byteOf_64 : decode prog_15_method_57_code 64 = .ok (.getfield 24, 3) := fx_dat dk_M_byteOf 40 rfl
theorem d_M_byteOf_67 : decode prog_15_method_57_code 67 = .ok (.iload_n 1, 1) := fx_dat dk_M_byteOf 41 rfl
theorem d_M_byteOf_68 : decode prog_15_method_57_code 68 = .ok (.iaload, 1) := fx_dat dk_M_byteOf 42 rfl
theorem d_M_byteOf_69 : decode prog_15_method_57_code 69 = .ok (.iload_n 2, 1) := fx_dat dk_M_byteOf 43 rfl
theorem d_M_byteOf_70 : decode prog_15_method_57_code 70 = .ok (.iadd, 1) := fx_dat dk_M_byteOf 44 rfl
theorem d_M_byteOf_71 : decode prog_15_method_57_code 71 = .ok (.baload, 1) := fx_dat dk_M_byteOf 45 rfl
theorem d_M_byteOf_72 : decode prog_15_method_57_code 72 = .ok (.sipush 255, 3) := fx_dat dk_M_byteOf 46 rfl
theorem d_M_byteOf_75 : decode prog_15_method_57_code 75 = .ok (.iand, 1) := fx_dat dk_M_byteOf 47 rfl
theorem d_M_byteOf_76 : decode prog_15_method_57_code 76 = .ok (.ireturn, 1) := fx_dat dk_M_byteOf 48 rfl
def m_M_byteOf_45 (Q : Int32 → AH → Prop) (r0 : Nat) (h : AH) : Prop := hp_k h r0 = 13 ∧ m_M_fail (fun v1 h1 => fx_ext h h1 → Q v1 h1) r0 (2 : Int32) h
def m_M_byteOf_76 (Q : Int32 → AH → Prop) (sx0 : Int32) (h : AH) : Prop := Q sx0 h
def m_M_byteOf (Q : Int32 → AH → Prop) (r0 : Nat) (x1 : Int32) (x2 : Int32) (h : AH) : Prop := hp_k h r0 = 13 ∧ ∀ h1 : AH, h1 = up_I h r0 0 (0 : Int32) → m_M_none (fun v1 h2 => fx_ext h1 h2 → zb v1 → (v1 = 0 → ∃ b1, hp_R h2 r0 8 = some b1 ∧ ik (hp_k h2 b1) ∧ vp_in (x1 + (1 : Int32)) (hp_n h2 b1) ∧ vp_in x1 (hp_n h2 b1) ∧ ∀ v2 : Int32, v2 = ((hp_I h2 b1 ((x1 + (1 : Int32))).toNatClampNeg) - (hp_I h2 b1 x1.toNatClampNeg)) → (x2 < (-1 : Int32) → m_M_byteOf_45 Q r0 h2) ∧ (¬ x2 < (-1 : Int32) → (x2 < v2 → (0 ≤ x2 → ∃ b2, hp_R h2 r0 7 = some b2 ∧ vp_in x1 (hp_n h2 b1) ∧ bk (hp_k h2 b2) ∧ vp_in ((hp_I h2 b1 x1.toNatClampNeg) + x2) (hp_n h2 b2) ∧ (by8 (hp_I h2 b2 (((hp_I h2 b1 x1.toNatClampNeg) + x2)).toNatClampNeg) → m_M_byteOf_76 Q ((hp_I h2 b2 (((hp_I h2 b1 x1.toNatClampNeg) + x2)).toNatClampNeg) &&& (255 : Int32)) h2)) ∧ (¬ 0 ≤ x2 → m_M_byteOf_76 Q v2 h2)) ∧ (¬ x2 < v2 → m_M_byteOf_45 Q r0 h2))) ∧ (¬ v1 = 0 → m_M_fail (fun v3 h3 => fx_ext h2 h3 → Q v3 h3) r0 (1 : Int32) h2)) r0 x1 h1
theorem b_M_byteOf_45 {p : Program} {l : Launch} {e : Env} {R : Room} {s : State} {m : MethodId} {args : Array Value} {below : List Frame} {meth : Method} {c : Code} {D : DD} {h0 : AH} {Q : Int32 → AH → Prop} (C : fx_CX D y_M_byteOf prog_15_method_57_code 4 1 13 (Option.some FieldType.int) [] h0 p R s m meth c) (hl : l.flags = flags0) (r0 : Nat) (h : AH) (hw : m_M_byteOf_45 Q r0 h) : ∀ (ls : Array Slot) (H : Heap) (locs : List Loc) (cells slots : Nat), lv_has ls 4 [(0, .ref r0)] → fx_F D h0 h H locs cells slots → W p l e R s m args below meth c H locs cells slots (fx_Z D below s h0 (fx_oI Q fx_no)) (F0 m 45 ls []) := by
  unfold m_M_byteOf_45 at hw
  intro ls H locs cells slots hv F
  refine lv_aload_n C.ex C.by d_M_byteOf_45 rfl (lv_at hv 0 rfl) ?_
  refine lv_iconst (v := (2 : Int32)) C.ex C.by d_M_byteOf_46 (by decide) ?_
  obtain ⟨hk1, hw⟩ := hw
  refine fx_callI C F (c_M_fail hl hw) hm_M_fail hi_M_fail hv.1 (by decide) (Nat.le_of_ble_eq_true rfl) (iv_M_fail C F lm_M_362 hk1 d_M_byteOf_47) (fx_out0 _) fx_eno (fun v1 h1 H locs cells slots hw hx1 F => ?_)
  replace hw := hw hx1
  have hk1 := (hx1).k hk1
  exact fx_iret C F d_M_byteOf_50 (Or.inl ⟨_, rfl, hw⟩)
theorem b_M_byteOf_76 {p : Program} {l : Launch} {e : Env} {R : Room} {s : State} {m : MethodId} {args : Array Value} {below : List Frame} {meth : Method} {c : Code} {D : DD} {h0 : AH} {Q : Int32 → AH → Prop} (C : fx_CX D y_M_byteOf prog_15_method_57_code 4 1 13 (Option.some FieldType.int) [] h0 p R s m meth c) (hl : l.flags = flags0) (sx0 : Int32) (h : AH) (hw : m_M_byteOf_76 Q sx0 h) : ∀ (ls : Array Slot) (H : Heap) (locs : List Loc) (cells slots : Nat), lv_has ls 4 [] → fx_F D h0 h H locs cells slots → W p l e R s m args below meth c H locs cells slots (fx_Z D below s h0 (fx_oI Q fx_no)) (F0 m 76 ls [.int sx0]) := by
  unfold m_M_byteOf_76 at hw
  intro ls H locs cells slots hv F
  exact fx_iret C F d_M_byteOf_76 (Or.inl ⟨_, rfl, hw⟩)
theorem b_M_byteOf_0 {p : Program} {l : Launch} {e : Env} {R : Room} {s : State} {m : MethodId} {args : Array Value} {below : List Frame} {meth : Method} {c : Code} {D : DD} {h0 : AH} {Q : Int32 → AH → Prop} (C : fx_CX D y_M_byteOf prog_15_method_57_code 4 1 13 (Option.some FieldType.int) [] h0 p R s m meth c) (hl : l.flags = flags0) (r0 : Nat) (x1 : Int32) (x2 : Int32) (h : AH) (hw : m_M_byteOf Q r0 x1 x2 h) : ∀ (ls : Array Slot) (H : Heap) (locs : List Loc) (cells slots : Nat), lv_has ls 4 [(0, .ref r0), (1, .int x1), (2, .int x2)] → fx_F D h0 h H locs cells slots → W p l e R s m args below meth c H locs cells slots (fx_Z D below s h0 (fx_oI Q fx_no)) (F0 m 0 ls []) := by
  unfold m_M_byteOf at hw
  intro ls H locs cells slots hv F
  refine lv_aload_n C.ex C.by d_M_byteOf_0 rfl (lv_at hv 0 rfl) ?_
  refine lv_iconst (v := (0 : Int32)) C.ex C.by d_M_byteOf_1 (by decide) ?_
  obtain ⟨hk1, hw⟩ := hw
  let h1 : AH := up_I h r0 0 (0 : Int32)
  replace hw := hw h1 rfl
  refine fx_putI C F lf_M_83 hk1 rfl rfl (fx_mayF.no rfl rfl) d_M_byteOf_2 (fun H locs (F : fx_F D h0 h1 H locs _ _) => ?_)
  refine lv_aload_n C.ex C.by d_M_byteOf_5 rfl (lv_at hv 0 rfl) ?_
  refine lv_iload_n C.ex C.by d_M_byteOf_6 rfl (lv_at hv 1 rfl) ?_
  refine fx_callZ C F (c_M_none hl hw) hm_M_none hi_M_none hv.1 (by decide) (Nat.le_of_ble_eq_true rfl) (iv_M_none C F lm_M_359 hk1 d_M_byteOf_7) (fx_out0 _) fx_eno (fun v1 h2 H locs cells slots hw hx1 hzb F => ?_)
  replace hw := hw hx1 hzb
  have hk1 := (hx1).k hk1
  refine lv_if_eq C.ex C.by d_M_byteOf_10 rfl (fun hc => ?_) (fun hc => ?_)
  · replace hw := hw.1 hc
    refine lv_aload_n C.ex C.by d_M_byteOf_19 rfl (lv_at hv 0 rfl) ?_
    obtain ⟨b1, hb1, hw⟩ := hw
    refine fx_getR C F lf_M_24 hk1 rfl hb1 d_M_byteOf_20 ?_
    refine lv_iload_n C.ex C.by d_M_byteOf_23 rfl (lv_at hv 1 rfl) ?_
    refine lv_iconst (v := (1 : Int32)) C.ex C.by d_M_byteOf_24 (by decide) ?_
    refine lv_iadd C.ex C.by d_M_byteOf_25 ?_
    obtain ⟨hk2, hw⟩ := hw
    obtain ⟨hi1, hw⟩ := hw
    refine fx_iald C F hk2 hi1 d_M_byteOf_26 ?_
    refine lv_aload_n C.ex C.by d_M_byteOf_27 rfl (lv_at hv 0 rfl) ?_
    refine fx_getR C F lf_M_24 hk1 rfl hb1 d_M_byteOf_28 ?_
    refine lv_iload_n C.ex C.by d_M_byteOf_31 rfl (lv_at hv 1 rfl) ?_
    obtain ⟨hi2, hw⟩ := hw
    refine fx_iald C F hk2 hi2 d_M_byteOf_32 ?_
    refine lv_isub C.ex C.by d_M_byteOf_33 ?_
    let v2 : Int32 := ((hp_I h2 b1 ((x1 + (1 : Int32))).toNatClampNeg) - (hp_I h2 b1 x1.toNatClampNeg))
    replace hw := hw v2 rfl
    refine lv_istore_n (lv' := [(3, .int v2), (0, .ref r0), (1, .int x1), (2, .int x2)]) C.ex C.by d_M_byteOf_34 rfl hv (by decide) rfl (fun ls hv => ?_)
    refine lv_iload_n C.ex C.by d_M_byteOf_35 rfl (lv_at hv 3 rfl) ?_
    refine lv_iconst (v := (-1 : Int32)) C.ex C.by d_M_byteOf_36 (by decide) ?_
    refine lv_icmp_lt C.ex C.by d_M_byteOf_37 rfl (fun hc => ?_) (fun hc => ?_)
    · replace hw := hw.1 hc
      exact b_M_byteOf_45 C hl _ _ hw _ _ _ _ _ (lv_sub hv [1] rfl) F
    · replace hw := hw.2 hc
      refine lv_iload_n C.ex C.by d_M_byteOf_40 rfl (lv_at hv 3 rfl) ?_
      refine lv_iload_n C.ex C.by d_M_byteOf_41 rfl (lv_at hv 0 rfl) ?_
      refine lv_icmp_lt C.ex C.by d_M_byteOf_42 rfl (fun hc => ?_) (fun hc => ?_)
      · replace hw := hw.1 hc
        refine lv_iload_n C.ex C.by d_M_byteOf_51 rfl (lv_at hv 3 rfl) ?_
        refine lv_if_ge C.ex C.by d_M_byteOf_52 rfl (fun hc => ?_) (fun hc => ?_)
        · replace hw := hw.1 hc
          refine lv_aload_n C.ex C.by d_M_byteOf_59 rfl (lv_at hv 1 rfl) ?_
          obtain ⟨b2, hb2, hw⟩ := hw
          refine fx_getR C F lf_M_21 hk1 rfl hb2 d_M_byteOf_60 ?_
          refine lv_aload_n C.ex C.by d_M_byteOf_63 rfl (lv_at hv 1 rfl) ?_
          refine fx_getR C F lf_M_24 hk1 rfl hb1 d_M_byteOf_64 ?_
          refine lv_iload_n C.ex C.by d_M_byteOf_67 rfl (lv_at hv 2 rfl) ?_
          obtain ⟨hi3, hw⟩ := hw
          refine fx_iald C F hk2 hi3 d_M_byteOf_68 ?_
          refine lv_iload_n C.ex C.by d_M_byteOf_69 rfl (lv_at hv 3 rfl) ?_
          refine lv_iadd C.ex C.by d_M_byteOf_70 ?_
          obtain ⟨hk3, hw⟩ := hw
          obtain ⟨hi4, hw⟩ := hw
          refine fx_bald C F hk3 hi4 d_M_byteOf_71 (fun h8 => ?_)
          replace hw := hw h8
          refine lv_sipush (v := (255 : Int32)) C.ex C.by d_M_byteOf_72 (by decide) ?_
          refine lv_iand C.ex C.by d_M_byteOf_75 ?_
          exact b_M_byteOf_76 C hl _ _ hw _ _ _ _ _ (lv_sub hv [] rfl) F
        · replace hw := hw.2 hc
          refine lv_iload_n C.ex C.by d_M_byteOf_55 rfl (lv_at hv 0 rfl) ?_
          refine lv_goto C.ex C.by d_M_byteOf_56 rfl ?_
          exact b_M_byteOf_76 C hl _ _ hw _ _ _ _ _ (lv_sub hv [] rfl) F
      · replace hw := hw.2 hc
        exact b_M_byteOf_45 C hl _ _ hw _ _ _ _ _ (lv_sub hv [1] rfl) F
  · replace hw := hw.2 hc
    refine lv_aload_n C.ex C.by d_M_byteOf_13 rfl (lv_at hv 0 rfl) ?_
    refine lv_iconst (v := (1 : Int32)) C.ex C.by d_M_byteOf_14 (by decide) ?_
    refine fx_callI C F (c_M_fail hl hw) hm_M_fail hi_M_fail hv.1 (by decide) (Nat.le_of_ble_eq_true rfl) (iv_M_fail C F lm_M_362 hk1 d_M_byteOf_15) (fx_out0 _) fx_eno (fun v3 h3 H locs cells slots hw hx2 F => ?_)
    replace hw := hw hx2
    have hk1 := (hx2).k hk1
    exact fx_iret C F d_M_byteOf_18 (Or.inl ⟨_, rfl, hw⟩)
theorem hm_M_byteOf : fx_hd y_M_byteOf prog_15_method_57_code 4 (Option.some FieldType.int) [] ∈ tables_1 := (fx_m7 (List.mem_of_getElem? (i := 164) rfl))
theorem hi_M_byteOf : Cond.initialized y_M_byteOf.cls ∈ tables_1 := (fx_m1 (List.mem_of_getElem? (i := 15) rfl))
theorem c_M_byteOf {l : Launch} (hl : l.flags = flags0) {D : DD} {Q : Int32 → AH → Prop} {r0 : Nat} {x1 : Int32} {x2 : Int32} {h : AH} (hw : m_M_byteOf Q r0 x1 x2 h) : fx_Mt l D y_M_byteOf (fx_hd y_M_byteOf prog_15_method_57_code 4 (Option.some FieldType.int) []) 1 13 [.ref r0, .int x1, .int x2] h (fx_oI Q fx_no) := by
  refine fx_ofW (plainFor_of_name (by decide)) (fun p e s m below meth c C F => ?_)
  have hv := lv_entry ([.ref r0, .int x1, .int x2]) (n := 4) (Nat.le_of_ble_eq_true rfl)
  rw [lg_entry_eq]
  generalize (lg_sl ([.ref r0, .int x1, .int x2]) ++ List.replicate (4 - (lg_sl ([.ref r0, .int x1, .int x2])).length) Slot.unset).toArray = ls at hv ⊢
  have hv : lv_has ls 4 [(0, .ref r0), (1, .int x1), (2, .int x2)] := hv
  exact b_M_byteOf_0 C hl _ _ _ _ hw _ _ _ _ _ hv F
/-! ChainJudgeModel.told(II)J: frames 7, words 115 -/
abbrev y_M_told : MethodName := ⟨"ChainJudgeModel", "told", "(II)J"⟩
def dl_M_told : List (Nat × Instr × Nat) := [(0, .aload_n 0, 1), (1, .iconst 0, 1), (2, .putfield 83, 3), (5, .aload_n 0, 1), (6, .iload_n 1, 1), (7, .invokevirtual 359, 3), (10, .ifCond .eq 10, 3), (13, .aload_n 0, 1), (14, .iconst 1, 1), (15, .invokevirtual 362, 3), (18, .i2l, 1), (19, .lreturn, 1), (20, .iload_n 2, 1), (21, .ifCond .lt 9, 3), (24, .iload_n 2, 1), (25, .bipush 11, 2), (27, .if_icmp .le 10, 3), (30, .aload_n 0, 1), (31, .iconst 2, 1), (32, .invokevirtual 362, 3), (35, .i2l, 1), (36, .lreturn, 1), (37, .aload_n 0, 1), (38, .iload_n 1, 1), (39, .invokevirtual 368, 3), (42, .istore_n 3, 1), (43, .iload_n 2, 1), (44, .ifCond .ne 13, 3), (47, .iload_n 3, 1), (48, .ifCond .eq 7, 3), (51, .lconst 1, 1), (52, .goto 4, 3), (55, .lconst 0, 1), (56, .lreturn, 1), (57, .iload_n 3, 1), (58, .ifCond .ne 10, 3), (61, .aload_n 0, 1), (62, .iconst 3, 1), (63, .invokevirtual 362, 3), (66, .i2l, 1), (67, .lreturn, 1), (68, .iload_n 2, 1), (69, .tableswitch 127 1 10 #[55, 60, 65, 78, 84, 90, 96, 102, 115, 121], 55), (124, .aload_n 0, 1), (125, .getfield 255, 3), (128, .lreturn, 1), (129, .aload_n 0, 1), (130, .getfield 259, 3), (133, .lreturn, 1), (134, .aload_n 0, 1), (135, .getfield 184, 3), (138, .ifCond .eq 7, 3), (141, .lconst 1, 1), (142, .goto 4, 3), (145, .lconst 0, 1), (146, .lreturn, 1), (147, .aload_n 0, 1), (148, .getfield 187, 3), (151, .i2l, 1), (152, .lreturn, 1), (153, .aload_n 0, 1), (154, .getfield 190, 3), (157, .i2l, 1), (158, .lreturn, 1), (159, .aload_n 0, 1), (160, .getfield 202, 3), (163, .i2l, 1), (164, .lreturn, 1), (165, .aload_n 0, 1), (166, .getfield 199, 3), (169, .i2l, 1), (170, .lreturn, 1), (171, .aload_n 0, 1), (172, .getfield 226, 3), (175, .ifCond .eq 7, 3), (178, .lconst 1, 1), (179, .goto 4, 3), (182, .lconst 0, 1), (183, .lreturn, 1), (184, .aload_n 0, 1), (185, .getfield 265, 3), (188, .i2l, 1), (189, .lreturn, 1), (190, .aload_n 0, 1), (191, .getfield 229, 3), (194, .i2l, 1), (195, .lreturn, 1), (196, .aload_n 0, 1), (197, .getfield 289, 3), (200, .i2l, 1), (201, .lreturn, 1)]
theorem dk_M_told : fx_dec prog_15_method_58_code dl_M_told = true := by decide +kernel
theorem d_M_told_0 : decode prog_15_method_58_code 0 = .ok (.aload_n 0, 1) := fx_dat dk_M_told 0 rfl
theorem d_M_told_1 : decode prog_15_method_58_code 1 = .ok (.iconst 0, 1) := fx_dat dk_M_told 1 rfl
theorem d_M_told_2 : decode prog_15_method_58_code 2 = .ok (.putfield 83, 3) := fx_dat dk_M_told 2 rfl
theorem d_M_told_5 : decode prog_15_method_58_code 5 = .ok (.aload_n 0, 1) := fx_dat dk_M_told 3 rfl
theorem d_M_told_6 : decode prog_15_method_58_code 6 = .ok (.iload_n 1, 1) := fx_dat dk_M_told 4 rfl
theorem d_M_told_7 : decode prog_15_method_58_code 7 = .ok (.invokevirtual 359, 3) := fx_dat dk_M_told 5 rfl
theorem d_M_told_10 : decode prog_15_method_58_code 10 = .ok (.ifCond .eq 10, 3) := fx_dat dk_M_told 6 rfl
theorem d_M_told_13 : decode prog_15_method_58_code 13 = .ok (.aload_n 0, 1) := fx_dat dk_M_told 7 rfl
theorem d_M_told_14 : decode prog_15_method_58_code 14 = .ok (.iconst 1, 1) := fx_dat dk_M_told 8 rfl
theorem d_M_told_15 : decode prog_15_method_58_code 15 = .ok (.invokevirtual 362, 3) := fx_dat dk_M_told 9 rfl
theorem d_M_told_18 : decode prog_15_method_58_code 18 = .ok (.i2l, 1) := fx_dat dk_M_told 10 rfl
theorem d_M_told_19 : decode prog_15_method_58_code 19 = .ok (.lreturn, 1) := fx_dat dk_M_told 11 rfl
theorem d_M_told_20 : decode prog_15_method_58_code 20 = .ok (.iload_n 2, 1) := fx_dat dk_M_told 12 rfl
theorem d_M_told_21 : decode prog_15_method_58_code 21 = .ok (.ifCond .lt 9, 3) := fx_dat dk_M_told 13 rfl
theorem d_M_told_24 : decode prog_15_method_58_code 24 = .ok (.iload_n 2, 1) := fx_dat dk_M_told 14 rfl
theorem d_M_told_25 : decode prog_15_method_58_code 25 = .ok (.bipush 11, 2) := fx_dat dk_M_told 15 rfl
theorem d_M_told_27 : decode prog_15_method_58_code 27 = .ok (.if_icmp .le 10, 3) := fx_dat dk_M_told 16 rfl
theorem d_M_told_30 : decode prog_15_method_58_code 30 = .ok (.aload_n 0, 1) := fx_dat dk_M_told 17 rfl
theorem d_M_told_31 : decode prog_15_method_58_code 31 = .ok (.iconst 2, 1) := fx_dat dk_M_told 18 rfl
theorem d_M_told_32 : decode prog_15_method_58_code 32 = .ok (.invokevirtual 362, 3) := fx_dat dk_M_told 19 rfl
theorem d_M_told_35 : decode prog_15_method_58_code 35 = .ok (.i2l, 1) := fx_dat dk_M_told 20 rfl
theorem d_M_told_36 : decode prog_15_method_58_code 36 = .ok (.lreturn, 1) := fx_dat dk_M_told 21 rfl
theorem d_M_told_37 : decode prog_15_method_58_code 37 = .ok (.aload_n 0, 1) := fx_dat dk_M_told 22 rfl
theorem d_M_told_38 : decode prog_15_method_58_code 38 = .ok (.iload_n 1, 1) := fx_dat dk_M_told 23 rfl
theorem d_M_told_39 : decode prog_15_method_58_code 39 = .ok (.invokevirtual 368, 3) := fx_dat dk_M_told 24 rfl
theorem d_M_told_42 : decode prog_15_method_58_code 42 = .ok (.istore_n 3, 1) := fx_dat dk_M_told 25 rfl
theorem d_M_told_43 : decode prog_15_method_58_code 43 = .ok (.iload_n 2, 1) := fx_dat dk_M_told 26 rfl
theorem d_M_told_44 : decode prog_15_method_58_code 44 = .ok (.ifCond .ne 13, 3) := fx_dat dk_M_told 27 rfl
theorem d_M_told_47 : decode prog_15_method_58_code 47 = .ok (.iload_n 3, 1) := fx_dat dk_M_told 28 rfl
theorem d_M_told_48 : decode prog_15_method_58_code 48 = .ok (.ifCond .eq 7, 3) := fx_dat dk_M_told 29 rfl
theorem d_M_told_51 : decode prog_15_method_58_code 51 = .ok (.lconst 1, 1) := fx_dat dk_M_told 30 rfl
theorem d_M_told_52 : decode prog_15_method_58_code 52 = .ok (.goto 4, 3) := fx_dat dk_M_told 31 rfl
theorem d_M_told_55 : decode prog_15_method_58_code 55 = .ok (.lconst 0, 1) := fx_dat dk_M_told 32 rfl
theorem d_M_told_56 : decode prog_15_method_58_code 56 = .ok (.lreturn, 1) := fx_dat dk_M_told 33 rfl
theorem d_M_told_57 : decode prog_15_method_58_code 57 = .ok (.iload_n 3, 1) := fx_dat dk_M_told 34 rfl
theorem d_M_told_58 : decode prog_15_method_58_code 58 = .ok (.ifCond .ne 10, 3) := fx_dat dk_M_told 35 rfl
theorem d_M_told_61 : decode prog_15_method_58_code 61 = .ok (.aload_n 0, 1) := fx_dat dk_M_told 36 rfl
theorem d_M_told_62 : decode prog_15_method_58_code 62 = .ok (.iconst 3, 1) := fx_dat dk_M_told 37 rfl
theorem d_M_told_63 : decode prog_15_method_58_code 63 = .ok (.invokevirtual 362, 3) := fx_dat dk_M_told 38 rfl
theorem d_M_told_66 : decode prog_15_method_58_code 66 = .ok (.i2l, 1) := fx_dat dk_M_told 39 rfl
theorem d_M_told_67 : decode prog_15_method_58_code 67 = .ok (.lreturn, 1) := fx_dat dk_M_told 40 rfl
theorem d_M_told_68 : decode prog_15_method_58_code 68 = .ok (.iload_n 2, 1) := fx_dat dk_M_told 41 rfl
theorem d_M_told_69 : decode prog_15_method_58_code 69 = .ok (.tableswitch 127 1 10 #[55, 60, 65, 78, 84, 90, 96, 102, 115, 121], 55) := fx_dat dk_M_told 42 rfl
theorem d_M_told_124 : decode prog_15_method_58_code 124 = .ok (.aload_n 0, 1) := fx_dat dk_M_told 43 rfl
theorem d_M_told_125 : decode prog_15_method_58_code 125 = .ok (.getfield 255, 3) := fx_dat dk_M_told 44 rfl
theorem d_M_told_128 : decode prog_15_method_58_code 128 = .ok (.lreturn, 1) := fx_dat dk_M_told 45 rfl
theorem d_M_told_129 : decode prog_15_method_58_code 129 = .ok (.aload_n 0, 1) := fx_dat dk_M_told 46 rfl
theorem d_M_told_130 : decode prog_15_method_58_code 130 = .ok (.getfield 259, 3) := fx_dat dk_M_told 47 rfl
theorem d_M_told_133 : decode prog_15_method_58_code 133 = .ok (.lreturn, 1) := fx_dat dk_M_told 48 rfl
theorem d_M_told_134 : decode prog_15_method_58_code 134 = .ok (.aload_n 0, 1) := fx_dat dk_M_told 49 rfl
theorem d_M_told_135 : decode prog_15_method_58_code 135 = .ok (.getfield 184, 3) := fx_dat dk_M_told 50 rfl
theorem d_M_told_138 : decode prog_15_method_58_code 138 = .ok (.ifCond .eq 7, 3) := fx_dat dk_M_told 51 rfl
theorem d_M_told_141 : decode prog_15_method_58_code 141 = .ok (.lconst 1, 1) := fx_dat dk_M_told 52 rfl
theorem d_M_told_142 : decode prog_15_method_58_code 142 = .ok (.goto 4, 3) := fx_dat dk_M_told 53 rfl
theorem d_M_told_145 : decode prog_15_method_58_code 145 = .ok (.lconst 0, 1) := fx_dat dk_M_told 54 rfl
theorem d_M_told_146 : decode prog_15_method_58_code 146 = .ok (.lreturn, 1) := fx_dat dk_M_told 55 rfl
theorem d_M_told_147 : decode prog_15_method_58_code 147 = .ok (.aload_n 0, 1) := fx_dat dk_M_told 56 rfl
theorem d_M_told_148 : decode prog_15_method_58_code 148 = .ok (.getfield 187, 3) := fx_dat dk_M_told 57 rfl
theorem d_M_told_151 : decode prog_15_method_58_code 151 = .ok (.i2l, 1) := fx_dat dk_M_told 58 rfl
theorem d_M_told_152 : decode prog_15_method_58_code 152 = .ok (.lreturn, 1) := fx_dat dk_M_told 59 rfl
theorem d_M_told_153 : decode prog_15_method_58_code 153 = .ok (.aload_n 0, 1) := fx_dat dk_M_told 60 rfl
theorem d_M_told_154 : decode prog_15_method_58_code 154 = .ok (.getfield 190, 3) := fx_dat dk_M_told 61 rfl
theorem d_M_told_157 : decode prog_15_method_58_code 157 = .ok (.i2l, 1) := fx_dat dk_M_told 62 rfl
theorem d_M_told_158 : decode prog_15_method_58_code 158 = .ok (.lreturn, 1) := fx_dat dk_M_told 63 rfl
theorem d_M_told_159 : decode prog_15_method_58_code 159 = .ok (.aload_n 0, 1) := fx_dat dk_M_told 64 rfl
theorem d_M_told_160 : decode prog_15_method_58_code 160 = .ok (.getfield 202, 3) := fx_dat dk_M_told 65 rfl
theorem d_M_told_163 : decode prog_15_method_58_code 163 = .ok (.i2l, 1) := fx_dat dk_M_told 66 rfl
theorem d_M_told_164 : decode prog_15_method_58_code 164 = .ok (.lreturn, 1) := fx_dat dk_M_told 67 rfl
theorem d_M_told_165 : decode prog_15_method_58_code 165 = .ok (.aload_n 0, 1) := fx_dat dk_M_told 68 rfl
theorem d_M_told_166 : decode prog_15_method_58_code 166 = .ok (.getfield 199, 3) := fx_dat dk_M_told 69 rfl
theorem d_M_told_169 : decode prog_15_method_58_code 169 = .ok (.i2l, 1) := fx_dat dk_M_told 70 rfl
theorem d_M_told_170 : decode prog_15_method_58_code 170 = .ok (.lreturn, 1) := fx_dat dk_M_told 71 rfl
theorem d_M_told_171 : decode prog_15_method_58_code 171 = .ok (.aload_n 0, 1) := fx_dat dk_M_told 72 rfl
theorem d_M_told_172 : decode prog_15_method_58_code 172 = .ok (.getfield 226, 3) := fx_dat dk_M_told 73 rfl
theorem d_M_told_175 : decode prog_15_method_58_code 175 = .ok (.ifCond .eq 7, 3) := fx_dat dk_M_told 74 rfl
theorem d_M_told_178 : decode prog_15_method_58_code 178 = .ok (.lconst 1, 1) := fx_dat dk_M_told 75 rfl
theorem d_M_told_179 : decode prog_15_method_58_code 179 = .ok (.goto 4, 3) := fx_dat dk_M_told 76 rfl
theorem d_M_told_182 : decode prog_15_method_58_code 182 = .ok (.lconst 0, 1) := fx_dat dk_M_told 77 rfl
theorem d_M_told_183 : decode prog_15_method_58_code 183 = .ok (.lreturn, 1) := fx_dat dk_M_told 78 rfl
theorem d_M_told_184 : decode prog_15_method_58_code 184 = .ok (.aload_n 0, 1) := fx_dat dk_M_told 79 rfl
theorem d_M_told_185 : decode prog_15_method_58_code 185 = .ok (.getfield 265, 3) := fx_dat dk_M_told 80 rfl
theorem d_M_told_188 : decode prog_15_method_58_code 188 = .ok (.i2l, 1) := fx_dat dk_M_told 81 rfl
theorem d_M_told_189 : decode prog_15_method_58_code 189 = .ok (.lreturn, 1) := fx_dat dk_M_told 82 rfl
theorem d_M_told_190 : decode prog_15_method_58_code 190 = .ok (.aload_n 0, 1) := fx_dat dk_M_told 83 rfl
theorem d_M_told_191 : decode prog_15_method_58_code 191 = .ok (.getfield 229, 3) := fx_dat dk_M_told 84 rfl
theorem d_M_told_194 : decode prog_15_method_58_code 194 = .ok (.i2l, 1) := fx_dat dk_M_told 85 rfl
theorem d_M_told_195 : decode prog_15_method_58_code 195 = .ok (.lreturn, 1) := fx_dat dk_M_told 86 rfl
theorem d_M_told_196 : decode prog_15_method_58_code 196 = .ok (.aload_n 0, 1) := fx_dat dk_M_told 87 rfl
theorem d_M_told_197 : decode prog_15_method_58_code 197 = .ok (.getfield 289, 3) := fx_dat dk_M_told 88 rfl
theorem d_M_told_200 : decode prog_15_method_58_code 200 = .ok (.i2l, 1) := fx_dat dk_M_told 89 rfl
theorem d_M_told_201 : decode prog_15_method_58_code 201 = .ok (.lreturn, 1) := fx_dat dk_M_told 90 rfl
def m_M_told_30 (Q : Int64 → AH → Prop) (r0 : Nat) (h : AH) : Prop := hp_k h r0 = 13 ∧ m_M_fail (fun v1 h1 => fx_ext h h1 → Q ((v1).toInt64) h1) r0 (2 : Int32) h
def m_M_told_124 (Q : Int64 → AH → Prop) (r0 : Nat) (h : AH) : Prop := hp_k h r0 = 13 ∧ Q (hp_L h r0 23) h
def m_M_told_129 (Q : Int64 → AH → Prop) (r0 : Nat) (h : AH) : Prop := hp_k h r0 = 13 ∧ Q (hp_L h r0 24) h
def m_M_told_146 (Q : Int64 → AH → Prop) (sw0 : Int64) (h : AH) : Prop := Q sw0 h
def m_M_told_134 (Q : Int64 → AH → Prop) (r0 : Nat) (h : AH) : Prop := hp_k h r0 = 13 ∧ ((hp_I h r0 25) = 0 → m_M_told_146 Q (0 : Int64) h) ∧ (¬ (hp_I h r0 25) = 0 → m_M_told_146 Q (1 : Int64) h)
def m_M_told_147 (Q : Int64 → AH → Prop) (r0 : Nat) (h : AH) : Prop := hp_k h r0 = 13 ∧ Q (((hp_I h r0 27)).toInt64) h
def m_M_told_153 (Q : Int64 → AH → Prop) (r0 : Nat) (h : AH) : Prop := hp_k h r0 = 13 ∧ Q (((hp_I h r0 28)).toInt64) h
def m_M_told_159 (Q : Int64 → AH → Prop) (r0 : Nat) (h : AH) : Prop := hp_k h r0 = 13 ∧ Q (((hp_I h r0 29)).toInt64) h
def m_M_told_165 (Q : Int64 → AH → Prop) (r0 : Nat) (h : AH) : Prop := hp_k h r0 = 13 ∧ Q (((hp_I h r0 30)).toInt64) h
def m_M_told_183 (Q : Int64 → AH → Prop) (sw0 : Int64) (h : AH) : Prop := Q sw0 h
def m_M_told_171 (Q : Int64 → AH → Prop) (r0 : Nat) (h : AH) : Prop := hp_k h r0 = 13 ∧ ((hp_I h r0 26) = 0 → m_M_told_183 Q (0 : Int64) h) ∧ (¬ (hp_I h r0 26) = 0 → m_M_told_183 Q (1 : Int64) h)
def m_M_told_184 (Q : Int64 → AH → Prop) (r0 : Nat) (h : AH) : Prop := hp_k h r0 = 13 ∧ Q (((hp_I h r0 31)).toInt64) h
def m_M_told_190 (Q : Int64 → AH → Prop) (r0 : Nat) (h : AH) : Prop := hp_k h r0 = 13 ∧ Q (((hp_I h r0 32)).toInt64) h
def m_M_told_196 (Q : Int64 → AH → Prop) (r0 : Nat) (h : AH) : Prop := hp_k h r0 = 13 ∧ Q (((hp_I h r0 33)).toInt64) h
def m_M_told_56 (Q : Int64 → AH → Prop) (sw0 : Int64) (h : AH) : Prop := Q sw0 h
def m_M_told (Q : Int64 → AH → Prop) (r0 : Nat) (x1 : Int32) (x2 : Int32) (h : AH) : Prop := hp_k h r0 = 13 ∧ ∀ h1 : AH, h1 = up_I h r0 0 (0 : Int32) → m_M_none (fun v1 h2 => fx_ext h1 h2 → zb v1 → (v1 = 0 → (x2 < 0 → m_M_told_30 Q r0 h2) ∧ (¬ x2 < 0 → (x2 ≤ (11 : Int32) → m_M_parses (fun v2 h3 => fx_ext h2 h3 → zb v2 → (¬ x2 = 0 → (¬ v2 = 0 → (x2 = (1 : Int32) → m_M_told_124 Q r0 h3) ∧ (x2 = (2 : Int32) → m_M_told_129 Q r0 h3) ∧ (x2 = (3 : Int32) → m_M_told_134 Q r0 h3) ∧ (x2 = (4 : Int32) → m_M_told_147 Q r0 h3) ∧ (x2 = (5 : Int32) → m_M_told_153 Q r0 h3) ∧ (x2 = (6 : Int32) → m_M_told_159 Q r0 h3) ∧ (x2 = (7 : Int32) → m_M_told_165 Q r0 h3) ∧ (x2 = (8 : Int32) → m_M_told_171 Q r0 h3) ∧ (x2 = (9 : Int32) → m_M_told_184 Q r0 h3) ∧ (x2 = (10 : Int32) → m_M_told_190 Q r0 h3) ∧ ((∀ k ∈ ([(1 : Int32), (2 : Int32), (3 : Int32), (4 : Int32), (5 : Int32), (6 : Int32), (7 : Int32), (8 : Int32), (9 : Int32), (10 : Int32)] : List Int32), ¬ x2 = k) → m_M_told_196 Q r0 h3)) ∧ (v2 = 0 → m_M_fail (fun v3 h4 => fx_ext h3 h4 → Q ((v3).toInt64) h4) r0 (3 : Int32) h3)) ∧ (x2 = 0 → (v2 = 0 → m_M_told_56 Q (0 : Int64) h3) ∧ (¬ v2 = 0 → m_M_told_56 Q (1 : Int64) h3))) r0 x1 h2) ∧ (¬ x2 ≤ (11 : Int32) → m_M_told_30 Q r0 h2))) ∧ (¬ v1 = 0 → m_M_fail (fun v4 h5 => fx_ext h2 h5 → Q ((v4).toInt64) h5) r0 (1 : Int32) h2)) r0 x1 h1
theorem b_M_told_30 {p : Program} {l : Launch} {e : Env} {R : Room} {s : State} {m : MethodId} {args : Array Value} {below : List Frame} {meth : Method} {c : Code} {D : DD} {h0 : AH} {Q : Int64 → AH → Prop} (C : fx_CX D y_M_told prog_15_method_58_code 4 7 115 (Option.some FieldType.long) [] h0 p R s m meth c) (hl : l.flags = flags0) (r0 : Nat) (h : AH) (hw : m_M_told_30 Q r0 h) : ∀ (ls : Array Slot) (H : Heap) (locs : List Loc) (cells slots : Nat), lv_has ls 4 [(0, .ref r0)] → fx_F D h0 h H locs cells slots → W p l e R s m args below meth c H locs cells slots (fx_Z D below s h0 (fx_oL Q fx_no)) (F0 m 30 ls []) := by
  unfold m_M_told_30 at hw
  intro ls H locs cells slots hv F
  refine lv_aload_n C.ex C.by d_M_told_30 rfl (lv_at hv 0 rfl) ?_
  refine lv_iconst (v := (2 : Int32)) C.ex C.by d_M_told_31 (by decide) ?_
  obtain ⟨hk1, hw⟩ := hw
  refine fx_callI C F (c_M_fail hl hw) hm_M_fail hi_M_fail hv.1 (by decide) (Nat.le_of_ble_eq_true rfl) (iv_M_fail C F lm_M_362 hk1 d_M_told_32) (fx_out0 _) fx_eno (fun v1 h1 H locs cells slots hw hx1 F => ?_)
  replace hw := hw hx1
  have hk1 := (hx1).k hk1
  refine lv_i2l (v := ((v1).toInt64)) C.ex C.by d_M_told_35 rfl ?_
  exact fx_lret C F d_M_told_36 (Or.inl ⟨_, rfl, hw⟩)
theorem b_M_told_124 {p : Program} {l : Launch} {e : Env} {R : Room} {s : State} {m : MethodId} {args : Array Value} {below : List Frame} {meth : Method} {c : Code} {D : DD} {h0 : AH} {Q : Int64 → AH → Prop} (C : fx_CX D y_M_told prog_15_method_58_code 4 7 115 (Option.some FieldType.long) [] h0 p R s m meth c) (hl : l.flags = flags0) (r0 : Nat) (h : AH) (hw : m_M_told_124 Q r0 h) : ∀ (ls : Array Slot) (H : Heap) (locs : List Loc) (cells slots : Nat), lv_has ls 4 [(0, .ref r0)] → fx_F D h0 h H locs cells slots → W p l e R s m args below meth c H locs cells slots (fx_Z D below s h0 (fx_oL Q fx_no)) (F0 m 124 ls []) := by
  unfold m_M_told_124 at hw
  intro ls H locs cells slots hv F
  refine lv_aload_n C.ex C.by d_M_told_124 rfl (lv_at hv 0 rfl) ?_
  obtain ⟨hk1, hw⟩ := hw
  refine fx_getL C F lf_M_255 hk1 rfl d_M_told_125 ?_
  exact fx_lret C F d_M_told_128 (Or.inl ⟨_, rfl, hw⟩)
theorem b_M_told_129 {p : Program} {l : Launch} {e : Env} {R : Room} {s : State} {m : MethodId} {args : Array Value} {below : List Frame} {meth : Method} {c : Code} {D : DD} {h0 : AH} {Q : Int64 → AH → Prop} (C : fx_CX D y_M_told prog_15_method_58_code 4 7 115 (Option.some FieldType.long) [] h0 p R s m meth c) (hl : l.flags = flags0) (r0 : Nat) (h : AH) (hw : m_M_told_129 Q r0 h) : ∀ (ls : Array Slot) (H : Heap) (locs : List Loc) (cells slots : Nat), lv_has ls 4 [(0, .ref r0)] → fx_F D h0 h H locs cells slots → W p l e R s m args below meth c H locs cells slots (fx_Z D below s h0 (fx_oL Q fx_no)) (F0 m 129 ls []) := by
  unfold m_M_told_129 at hw
  intro ls H locs cells slots hv F
  refine lv_aload_n C.ex C.by d_M_told_129 rfl (lv_at hv 0 rfl) ?_
  obtain ⟨hk1, hw⟩ := hw
  refine fx_getL C F lf_M_259 hk1 rfl d_M_told_130 ?_
  exact fx_lret C F d_M_told_133 (Or.inl ⟨_, rfl, hw⟩)
theorem b_M_told_146 {p : Program} {l : Launch} {e : Env} {R : Room} {s : State} {m : MethodId} {args : Array Value} {below : List Frame} {meth : Method} {c : Code} {D : DD} {h0 : AH} {Q : Int64 → AH → Prop} (C : fx_CX D y_M_told prog_15_method_58_code 4 7 115 (Option.some FieldType.long) [] h0 p R s m meth c) (hl : l.flags = flags0) (sw0 : Int64) (h : AH) (hw : m_M_told_146 Q sw0 h) : ∀ (ls : Array Slot) (H : Heap) (locs : List Loc) (cells slots : Nat), lv_has ls 4 [] → fx_F D h0 h H locs cells slots → W p l e R s m args below meth c H locs cells slots (fx_Z D below s h0 (fx_oL Q fx_no)) (F0 m 146 ls [.long sw0]) := by
  unfold m_M_told_146 at hw
  intro ls H locs cells slots hv F
  exact fx_lret C F d_M_told_146 (Or.inl ⟨_, rfl, hw⟩)
theorem b_M_told_134 {p : Program} {l : Launch} {e : Env} {R : Room} {s : State} {m : MethodId} {args : Array Value} {below : List Frame} {meth : Method} {c : Code} {D : DD} {h0 : AH} {Q : Int64 → AH → Prop} (C : fx_CX D y_M_told prog_15_method_58_code 4 7 115 (Option.some FieldType.long) [] h0 p R s m meth c) (hl : l.flags = flags0) (r0 : Nat) (h : AH) (hw : m_M_told_134 Q r0 h) : ∀ (ls : Array Slot) (H : Heap) (locs : List Loc) (cells slots : Nat), lv_has ls 4 [(0, .ref r0)] → fx_F D h0 h H locs cells slots → W p l e R s m args below meth c H locs cells slots (fx_Z D below s h0 (fx_oL Q fx_no)) (F0 m 134 ls []) := by
  unfold m_M_told_134 at hw
  intro ls H locs cells slots hv F
  refine lv_aload_n C.ex C.by d_M_told_134 rfl (lv_at hv 0 rfl) ?_
  obtain ⟨hk1, hw⟩ := hw
  refine fx_getI C F lf_M_184 hk1 rfl d_M_told_135 ?_
  refine lv_if_eq C.ex C.by d_M_told_138 rfl (fun hc => ?_) (fun hc => ?_)
  · replace hw := hw.1 hc
    refine lv_lconst (v := (0 : Int64)) C.ex C.by d_M_told_145 (by decide) ?_
    exact b_M_told_146 C hl _ _ hw _ _ _ _ _ (lv_sub hv [] rfl) F
  · replace hw := hw.2 hc
    refine lv_lconst (v := (1 : Int64)) C.ex C.by d_M_told_141 (by decide) ?_
    refine lv_goto C.ex C.by d_M_told_142 rfl ?_
    exact b_M_told_146 C hl _ _ hw _ _ _ _ _ (lv_sub hv [] rfl) F
theorem b_M_told_147 {p : Program} {l : Launch} {e : Env} {R : Room} {s : State} {m : MethodId} {args : Array Value} {below : List Frame} {meth : Method} {c : Code} {D : DD} {h0 : AH} {Q : Int64 → AH → Prop} (C : fx_CX D y_M_told prog_15_method_58_code 4 7 115 (Option.some FieldType.long) [] h0 p R s m meth c) (hl : l.flags = flags0) (r0 : Nat) (h : AH) (hw : m_M_told_147 Q r0 h) : ∀ (ls : Array Slot) (H : Heap) (locs : List Loc) (cells slots : Nat), lv_has ls 4 [(0, .ref r0)] → fx_F D h0 h H locs cells slots → W p l e R s m args below meth c H locs cells slots (fx_Z D below s h0 (fx_oL Q fx_no)) (F0 m 147 ls []) := by
  unfold m_M_told_147 at hw
  intro ls H locs cells slots hv F
  refine lv_aload_n C.ex C.by d_M_told_147 rfl (lv_at hv 0 rfl) ?_
  obtain ⟨hk1, hw⟩ := hw
  refine fx_getI C F lf_M_187 hk1 rfl d_M_told_148 ?_
  refine lv_i2l (v := (((hp_I h r0 27)).toInt64)) C.ex C.by d_M_told_151 rfl ?_
  exact fx_lret C F d_M_told_152 (Or.inl ⟨_, rfl, hw⟩)
theorem b_M_told_153 {p : Program} {l : Launch} {e : Env} {R : Room} {s : State} {m : MethodId} {args : Array Value} {below : List Frame} {meth : Method} {c : Code} {D : DD} {h0 : AH} {Q : Int64 → AH → Prop} (C : fx_CX D y_M_told prog_15_method_58_code 4 7 115 (Option.some FieldType.long) [] h0 p R s m meth c) (hl : l.flags = flags0) (r0 : Nat) (h : AH) (hw : m_M_told_153 Q r0 h) : ∀ (ls : Array Slot) (H : Heap) (locs : List Loc) (cells slots : Nat), lv_has ls 4 [(0, .ref r0)] → fx_F D h0 h H locs cells slots → W p l e R s m args below meth c H locs cells slots (fx_Z D below s h0 (fx_oL Q fx_no)) (F0 m 153 ls []) := by
  unfold m_M_told_153 at hw
  intro ls H locs cells slots hv F
  refine lv_aload_n C.ex C.by d_M_told_153 rfl (lv_at hv 0 rfl) ?_
  obtain ⟨hk1, hw⟩ := hw
  refine fx_getI C F lf_M_190 hk1 rfl d_M_told_154 ?_
  refine lv_i2l (v := (((hp_I h r0 28)).toInt64)) C.ex C.by d_M_told_157 rfl ?_
  exact fx_lret C F d_M_told_158 (Or.inl ⟨_, rfl, hw⟩)
theorem b_M_told_159 {p : Program} {l : Launch} {e : Env} {R : Room} {s : State} {m : MethodId} {args : Array Value} {below : List Frame} {meth : Method} {c : Code} {D : DD} {h0 : AH} {Q : Int64 → AH → Prop} (C : fx_CX D y_M_told prog_15_method_58_code 4 7 115 (Option.some FieldType.long) [] h0 p R s m meth c) (hl : l.flags = flags0) (r0 : Nat) (h : AH) (hw : m_M_told_159 Q r0 h) : ∀ (ls : Array Slot) (H : Heap) (locs : List Loc) (cells slots : Nat), lv_has ls 4 [(0, .ref r0)] → fx_F D h0 h H locs cells slots → W p l e R s m args below meth c H locs cells slots (fx_Z D below s h0 (fx_oL Q fx_no)) (F0 m 159 ls []) := by
  unfold m_M_told_159 at hw
  intro ls H locs cells slots hv F
  refine lv_aload_n C.ex C.by d_M_told_159 rfl (lv_at hv 0 rfl) ?_
  obtain ⟨hk1, hw⟩ := hw
  refine fx_getI C F lf_M_202 hk1 rfl d_M_told_160 ?_
  refine lv_i2l (v := (((hp_I h r0 29)).toInt64)) C.ex C.by d_M_told_163 rfl ?_
  exact fx_lret C F d_M_told_164 (Or.inl ⟨_, rfl, hw⟩)
theorem b_M_told_165 {p : Program} {l : Launch} {e : Env} {R : Room} {s : State} {m : MethodId} {args : Array Value} {below : List Frame} {meth : Method} {c : Code} {D : DD} {h0 : AH} {Q : Int64 → AH → Prop} (C : fx_CX D y_M_told prog_15_method_58_code 4 7 115 (Option.some FieldType.long) [] h0 p R s m meth c) (hl : l.flags = flags0) (r0 : Nat) (h : AH) (hw : m_M_told_165 Q r0 h) : ∀ (ls : Array Slot) (H : Heap) (locs : List Loc) (cells slots : Nat), lv_has ls 4 [(0, .ref r0)] → fx_F D h0 h H locs cells slots → W p l e R s m args below meth c H locs cells slots (fx_Z D below s h0 (fx_oL Q fx_no)) (F0 m 165 ls []) := by
  unfold m_M_told_165 at hw
  intro ls H locs cells slots hv F
  refine lv_aload_n C.ex C.by d_M_told_165 rfl (lv_at hv 0 rfl) ?_
  obtain ⟨hk1, hw⟩ := hw
  refine fx_getI C F lf_M_199 hk1 rfl d_M_told_166 ?_
  refine lv_i2l (v := (((hp_I h r0 30)).toInt64)) C.ex C.by d_M_told_169 rfl ?_
  exact fx_lret C F d_M_told_170 (Or.inl ⟨_, rfl, hw⟩)
theorem b_M_told_183 {p : Program} {l : Launch} {e : Env} {R : Room} {s : State} {m : MethodId} {args : Array Value} {below : List Frame} {meth : Method} {c : Code} {D : DD} {h0 : AH} {Q : Int64 → AH → Prop} (C : fx_CX D y_M_told prog_15_method_58_code 4 7 115 (Option.some FieldType.long) [] h0 p R s m meth c) (hl : l.flags = flags0) (sw0 : Int64) (h : AH) (hw : m_M_told_183 Q sw0 h) : ∀ (ls : Array Slot) (H : Heap) (locs : List Loc) (cells slots : Nat), lv_has ls 4 [] → fx_F D h0 h H locs cells slots → W p l e R s m args below meth c H locs cells slots (fx_Z D below s h0 (fx_oL Q fx_no)) (F0 m 183 ls [.long sw0]) := by
  unfold m_M_told_183 at hw
  intro ls H locs cells slots hv F
  exact fx_lret C F d_M_told_183 (Or.inl ⟨_, rfl, hw⟩)
theorem b_M_told_171 {p : Program} {l : Launch} {e : Env} {R : Room} {s : State} {m : MethodId} {args : Array Value} {below : List Frame} {meth : Method} {c : Code} {D : DD} {h0 : AH} {Q : Int64 → AH → Prop} (C : fx_CX D y_M_told prog_15_method_58_code 4 7 115 (Option.some FieldType.long) [] h0 p R s m meth c) (hl : l.flags = flags0) (r0 : Nat) (h : AH) (hw : m_M_told_171 Q r0 h) : ∀ (ls : Array Slot) (H : Heap) (locs : List Loc) (cells slots : Nat), lv_has ls 4 [(0, .ref r0)] → fx_F D h0 h H locs cells slots → W p l e R s m args below meth c H locs cells slots (fx_Z D below s h0 (fx_oL Q fx_no)) (F0 m 171 ls []) := by
  unfold m_M_told_171 at hw
  intro ls H locs cells slots hv F
  refine lv_aload_n C.ex C.by d_M_told_171 rfl (lv_at hv 0 rfl) ?_
  obtain ⟨hk1, hw⟩ := hw
  refine fx_getI C F lf_M_226 hk1 rfl d_M_told_172 ?_
  refine lv_if_eq C.ex C.by d_M_told_175 rfl (fun hc => ?_) (fun hc => ?_)
  · replace hw := hw.1 hc
    refine lv_lconst (v := (0 : Int64)) C.ex C.by d_M_told_182 (by decide) ?_
    exact b_M_told_183 C hl _ _ hw _ _ _ _ _ (lv_sub hv [] rfl) F
  · replace hw := hw.2 hc
    refine lv_lconst (v := (1 : Int64)) C.ex C.by d_M_told_178 (by decide) ?_
    refine lv_goto C.ex C.by d_M_told_179 rfl ?_
    exact b_M_told_183 C hl _ _ hw _ _ _ _ _ (lv_sub hv [] rfl) F
theorem b_M_told_184 {p : Program} {l : Launch} {e : Env} {R : Room} {s : State} {m : MethodId} {args : Array Value} {below : List Frame} {meth : Method} {c : Code} {D : DD} {h0 : AH} {Q : Int64 → AH → Prop} (C : fx_CX D y_M_told prog_15_method_58_code 4 7 115 (Option.some FieldType.long) [] h0 p R s m meth c) (hl : l.flags = flags0) (r0 : Nat) (h : AH) (hw : m_M_told_184 Q r0 h) : ∀ (ls : Array Slot) (H : Heap) (locs : List Loc) (cells slots : Nat), lv_has ls 4 [(0, .ref r0)] → fx_F D h0 h H locs cells slots → W p l e R s m args below meth c H locs cells slots (fx_Z D below s h0 (fx_oL Q fx_no)) (F0 m 184 ls []) := by
  unfold m_M_told_184 at hw
  intro ls H locs cells slots hv F
  refine lv_aload_n C.ex C.by d_M_told_184 rfl (lv_at hv 0 rfl) ?_
  obtain ⟨hk1, hw⟩ := hw
  refine fx_getI C F lf_M_265 hk1 rfl d_M_told_185 ?_
  refine lv_i2l (v := (((hp_I h r0 31)).toInt64)) C.ex C.by d_M_told_188 rfl ?_
  exact fx_lret C F d_M_told_189 (Or.inl ⟨_, rfl, hw⟩)
theorem b_M_told_190 {p : Program} {l : Launch} {e : Env} {R : Room} {s : State} {m : MethodId} {args : Array Value} {below : List Frame} {meth : Method} {c : Code} {D : DD} {h0 : AH} {Q : Int64 → AH → Prop} (C : fx_CX D y_M_told prog_15_method_58_code 4 7 115 (Option.some FieldType.long) [] h0 p R s m meth c) (hl : l.flags = flags0) (r0 : Nat) (h : AH) (hw : m_M_told_190 Q r0 h) : ∀ (ls : Array Slot) (H : Heap) (locs : List Loc) (cells slots : Nat), lv_has ls 4 [(0, .ref r0)] → fx_F D h0 h H locs cells slots → W p l e R s m args below meth c H locs cells slots (fx_Z D below s h0 (fx_oL Q fx_no)) (F0 m 190 ls []) := by
  unfold m_M_told_190 at hw
  intro ls H locs cells slots hv F
  refine lv_aload_n C.ex C.by d_M_told_190 rfl (lv_at hv 0 rfl) ?_
  obtain ⟨hk1, hw⟩ := hw
  refine fx_getI C F lf_M_229 hk1 rfl d_M_told_191 ?_
  refine lv_i2l (v := (((hp_I h r0 32)).toInt64)) C.ex C.by d_M_told_194 rfl ?_
  exact fx_lret C F d_M_told_195 (Or.inl ⟨_, rfl, hw⟩)
theorem b_M_told_196 {p : Program} {l : Launch} {e : Env} {R : Room} {s : State} {m : MethodId} {args : Array Value} {below : List Frame} {meth : Method} {c : Code} {D : DD} {h0 : AH} {Q : Int64 → AH → Prop} (C : fx_CX D y_M_told prog_15_method_58_code 4 7 115 (Option.some FieldType.long) [] h0 p R s m meth c) (hl : l.flags = flags0) (r0 : Nat) (h : AH) (hw : m_M_told_196 Q r0 h) : ∀ (ls : Array Slot) (H : Heap) (locs : List Loc) (cells slots : Nat), lv_has ls 4 [(0, .ref r0)] → fx_F D h0 h H locs cells slots → W p l e R s m args below meth c H locs cells slots (fx_Z D below s h0 (fx_oL Q fx_no)) (F0 m 196 ls []) := by
  unfold m_M_told_196 at hw
  intro ls H locs cells slots hv F
  refine lv_aload_n C.ex C.by d_M_told_196 rfl (lv_at hv 0 rfl) ?_
  obtain ⟨hk1, hw⟩ := hw
  refine fx_getI C F lf_M_289 hk1 rfl d_M_told_197 ?_
  refine lv_i2l (v := (((hp_I h r0 33)).toInt64)) C.ex C.by d_M_told_200 rfl ?_
  exact fx_lret C F d_M_told_201 (Or.inl ⟨_, rfl, hw⟩)
theorem b_M_told_56 {p : Program} {l : Launch} {e : Env} {R : Room} {s : State} {m : MethodId} {args : Array Value} {below : List Frame} {meth : Method} {c : Code} {D : DD} {h0 : AH} {Q : Int64 → AH → Prop} (C : fx_CX D y_M_told prog_15_method_58_code 4 7 115 (Option.some FieldType.long) [] h0 p R s m meth c) (hl : l.flags = flags0) (sw0 : Int64) (h : AH) (hw : m_M_told_56 Q sw0 h) : ∀ (ls : Array Slot) (H : Heap) (locs : List Loc) (cells slots : Nat), lv_has ls 4 [] → fx_F D h0 h H locs cells slots → W p l e R s m args below meth c H locs cells slots (fx_Z D below s h0 (fx_oL Q fx_no)) (F0 m 56 ls [.long sw0]) := by
  unfold m_M_told_56 at hw
  intro ls H locs cells slots hv F
  exact fx_lret C F d_M_told_56 (Or.inl ⟨_, rfl, hw⟩)
theorem b_M_told_0 {p : Program} {l : Launch} {e : Env} {R : Room} {s : State} {m : MethodId} {args : Array Value} {below : List Frame} {meth : Method} {c : Code} {D : DD} {h0 : AH} {Q : Int64 → AH → Prop} (C : fx_CX D y_M_told prog_15_method_58_code 4 7 115 (Option.some FieldType.long) [] h0 p R s m meth c) (hl : l.flags = flags0) (r0 : Nat) (x1 : Int32) (x2 : Int32) (h : AH) (hw : m_M_told Q r0 x1 x2 h) : ∀ (ls : Array Slot) (H : Heap) (locs : List Loc) (cells slots : Nat), lv_has ls 4 [(0, .ref r0), (1, .int x1), (2, .int x2)] → fx_F D h0 h H locs cells slots → W p l e R s m args below meth c H locs cells slots (fx_Z D below s h0 (fx_oL Q fx_no)) (F0 m 0 ls []) := by
  unfold m_M_told at hw
  intro ls H locs cells slots hv F
  refine lv_aload_n C.ex C.by d_M_told_0 rfl (lv_at hv 0 rfl) ?_
  refine lv_iconst (v := (0 : Int32)) C.ex C.by d_M_told_1 (by decide) ?_
  obtain ⟨hk1, hw⟩ := hw
  let h1 : AH := up_I h r0 0 (0 : Int32)
  replace hw := hw h1 rfl
  refine fx_putI C F lf_M_83 hk1 rfl rfl (fx_mayF.no rfl rfl) d_M_told_2 (fun H locs (F : fx_F D h0 h1 H locs _ _) => ?_)
  refine lv_aload_n C.ex C.by d_M_told_5 rfl (lv_at hv 0 rfl) ?_
  refine lv_iload_n C.ex C.by d_M_told_6 rfl (lv_at hv 1 rfl) ?_
  refine fx_callZ C F (c_M_none hl hw) hm_M_none hi_M_none hv.1 (by decide) (Nat.le_of_ble_eq_true rfl) (iv_M_none C F lm_M_359 hk1 d_M_told_7) (fx_out0 _) fx_eno (fun v1 h2 H locs cells slots hw hx1 hzb F => ?_)
  replace hw := hw hx1 hzb
  have hk1 := (hx1).k hk1
  refine lv_if_eq C.ex C.by d_M_told_10 rfl (fun hc => ?_) (fun hc => ?_)
  · replace hw := hw.1 hc
    refine lv_iload_n C.ex C.by d_M_told_20 rfl (lv_at hv 2 rfl) ?_
    refine lv_if_lt C.ex C.by d_M_told_21 rfl (fun hc => ?_) (fun hc => ?_)
    · replace hw := hw.1 hc
      exact b_M_told_30 C hl _ _ hw _ _ _ _ _ (lv_sub hv [0] rfl) F
    · replace hw := hw.2 hc
      refine lv_iload_n C.ex C.by d_M_told_24 rfl (lv_at hv 2 rfl) ?_
      refine lv_bipush (v := (11 : Int32)) C.ex C.by d_M_told_25 (by decide) ?_
      refine lv_icmp_le C.ex C.by d_M_told_27 rfl (fun hc => ?_) (fun hc => ?_)
      · replace hw := hw.1 hc
        refine lv_aload_n C.ex C.by d_M_told_37 rfl (lv_at hv 0 rfl) ?_
        refine lv_iload_n C.ex C.by d_M_told_38 rfl (lv_at hv 1 rfl) ?_
        refine fx_callZ C F (c_M_parses hl hw) hm_M_parses hi_M_parses hv.1 (by decide) (Nat.le_of_ble_eq_true rfl) (iv_M_parses C F lm_M_368 hk1 d_M_told_39) (fx_out0 _) fx_eno (fun v2 h3 H locs cells slots hw hx2 hzb F => ?_)
        replace hw := hw hx2 hzb
        have hk1 := (hx2).k hk1
        refine lv_istore_n (lv' := [(3, .int v2), (0, .ref r0), (1, .int x1), (2, .int x2)]) C.ex C.by d_M_told_42 rfl hv (by decide) rfl (fun ls hv => ?_)
        refine lv_iload_n C.ex C.by d_M_told_43 rfl (lv_at hv 3 rfl) ?_
        refine lv_if_ne C.ex C.by d_M_told_44 rfl (fun hc => ?_) (fun hc => ?_)
        · replace hw := hw.1 hc
          refine lv_iload_n C.ex C.by d_M_told_57 rfl (lv_at hv 0 rfl) ?_
          refine lv_if_ne C.ex C.by d_M_told_58 rfl (fun hc => ?_) (fun hc => ?_)
          · replace hw := hw.1 hc
            refine lv_iload_n C.ex C.by d_M_told_68 rfl (lv_at hv 3 rfl) ?_
            by_cases hs0 : x2 = (1 : Int32)
            · replace hw := hw.1 hs0
              refine lv_tableIn (off := 55) (tgt := 124) C.ex C.by d_M_told_69 (by rw [hs0]; decide) (by rw [hs0]; decide) (by rw [hs0]; rfl) rfl ?_
              exact b_M_told_124 C hl _ _ hw _ _ _ _ _ (lv_sub hv [1] rfl) F
            by_cases hs1 : x2 = (2 : Int32)
            · replace hw := hw.2.1 hs1
              refine lv_tableIn (off := 60) (tgt := 129) C.ex C.by d_M_told_69 (by rw [hs1]; decide) (by rw [hs1]; decide) (by rw [hs1]; rfl) rfl ?_
              exact b_M_told_129 C hl _ _ hw _ _ _ _ _ (lv_sub hv [1] rfl) F
            by_cases hs2 : x2 = (3 : Int32)
            · replace hw := hw.2.2.1 hs2
              refine lv_tableIn (off := 65) (tgt := 134) C.ex C.by d_M_told_69 (by rw [hs2]; decide) (by rw [hs2]; decide) (by rw [hs2]; rfl) rfl ?_
              exact b_M_told_134 C hl _ _ hw _ _ _ _ _ (lv_sub hv [1] rfl) F
            by_cases hs3 : x2 = (4 : Int32)
            · replace hw := hw.2.2.2.1 hs3
              refine lv_tableIn (off := 78) (tgt := 147) C.ex C.by d_M_told_69 (by rw [hs3]; decide) (by rw [hs3]; decide) (by rw [hs3]; rfl) rfl ?_
              exact b_M_told_147 C hl _ _ hw _ _ _ _ _ (lv_sub hv [1] rfl) F
            by_cases hs4 : x2 = (5 : Int32)
            · replace hw := hw.2.2.2.2.1 hs4
              refine lv_tableIn (off := 84) (tgt := 153) C.ex C.by d_M_told_69 (by rw [hs4]; decide) (by rw [hs4]; decide) (by rw [hs4]; rfl) rfl ?_
              exact b_M_told_153 C hl _ _ hw _ _ _ _ _ (lv_sub hv [1] rfl) F
            by_cases hs5 : x2 = (6 : Int32)
            · replace hw := hw.2.2.2.2.2.1 hs5
              refine lv_tableIn (off := 90) (tgt := 159) C.ex C.by d_M_told_69 (by rw [hs5]; decide) (by rw [hs5]; decide) (by rw [hs5]; rfl) rfl ?_
              exact b_M_told_159 C hl _ _ hw _ _ _ _ _ (lv_sub hv [1] rfl) F
            by_cases hs6 : x2 = (7 : Int32)
            · replace hw := hw.2.2.2.2.2.2.1 hs6
              refine lv_tableIn (off := 96) (tgt := 165) C.ex C.by d_M_told_69 (by rw [hs6]; decide) (by rw [hs6]; decide) (by rw [hs6]; rfl) rfl ?_
              exact b_M_told_165 C hl _ _ hw _ _ _ _ _ (lv_sub hv [1] rfl) F
            by_cases hs7 : x2 = (8 : Int32)
            · replace hw := hw.2.2.2.2.2.2.2.1 hs7
              refine lv_tableIn (off := 102) (tgt := 171) C.ex C.by d_M_told_69 (by rw [hs7]; decide) (by rw [hs7]; decide) (by rw [hs7]; rfl) rfl ?_
              exact b_M_told_171 C hl _ _ hw _ _ _ _ _ (lv_sub hv [1] rfl) F
            by_cases hs8 : x2 = (9 : Int32)
            · replace hw := hw.2.2.2.2.2.2.2.2.1 hs8
              refine lv_tableIn (off := 115) (tgt := 184) C.ex C.by d_M_told_69 (by rw [hs8]; decide) (by rw [hs8]; decide) (by rw [hs8]; rfl) rfl ?_
              exact b_M_told_184 C hl _ _ hw _ _ _ _ _ (lv_sub hv [1] rfl) F
            by_cases hs9 : x2 = (10 : Int32)
            · replace hw := hw.2.2.2.2.2.2.2.2.2.1 hs9
              refine lv_tableIn (off := 121) (tgt := 190) C.ex C.by d_M_told_69 (by rw [hs9]; decide) (by rw [hs9]; decide) (by rw [hs9]; rfl) rfl ?_
              exact b_M_told_190 C hl _ _ hw _ _ _ _ _ (lv_sub hv [1] rfl) F
            have hno : ∀ k ∈ ([(1 : Int32), (2 : Int32), (3 : Int32), (4 : Int32), (5 : Int32), (6 : Int32), (7 : Int32), (8 : Int32), (9 : Int32), (10 : Int32)] : List Int32), ¬ x2 = k := by
              intro k hk
              simp only [List.mem_cons, List.not_mem_nil, or_false] at hk
              rcases hk with rfl | rfl | rfl | rfl | rfl | rfl | rfl | rfl | rfl | rfl
              · exact hs0
              · exact hs1
              · exact hs2
              · exact hs3
              · exact hs4
              · exact hs5
              · exact hs6
              · exact hs7
              · exact hs8
              · exact hs9
            replace hw := hw.2.2.2.2.2.2.2.2.2.2 hno
            refine lv_tableOut (tgt := 196) C.ex C.by d_M_told_69 (fx_sw [(1 : Int32), (2 : Int32), (3 : Int32), (4 : Int32), (5 : Int32), (6 : Int32), (7 : Int32), (8 : Int32), (9 : Int32), (10 : Int32)] (by intro z h1 h2; rcases (show z = 1 ∨ z = 2 ∨ z = 3 ∨ z = 4 ∨ z = 5 ∨ z = 6 ∨ z = 7 ∨ z = 8 ∨ z = 9 ∨ z = 10 by omega) with rfl | rfl | rfl | rfl | rfl | rfl | rfl | rfl | rfl | rfl; exact ⟨(1 : Int32), by decide, by decide⟩; exact ⟨(2 : Int32), by decide, by decide⟩; exact ⟨(3 : Int32), by decide, by decide⟩; exact ⟨(4 : Int32), by decide, by decide⟩; exact ⟨(5 : Int32), by decide, by decide⟩; exact ⟨(6 : Int32), by decide, by decide⟩; exact ⟨(7 : Int32), by decide, by decide⟩; exact ⟨(8 : Int32), by decide, by decide⟩; exact ⟨(9 : Int32), by decide, by decide⟩; exact ⟨(10 : Int32), by decide, by decide⟩) hno) rfl ?_
            exact b_M_told_196 C hl _ _ hw _ _ _ _ _ (lv_sub hv [1] rfl) F
          · replace hw := hw.2 hc
            refine lv_aload_n C.ex C.by d_M_told_61 rfl (lv_at hv 1 rfl) ?_
            refine lv_iconst (v := (3 : Int32)) C.ex C.by d_M_told_62 (by decide) ?_
            refine fx_callI C F (c_M_fail hl hw) hm_M_fail hi_M_fail hv.1 (by decide) (Nat.le_of_ble_eq_true rfl) (iv_M_fail C F lm_M_362 hk1 d_M_told_63) (fx_out0 _) fx_eno (fun v3 h4 H locs cells slots hw hx3 F => ?_)
            replace hw := hw hx3
            have hk1 := (hx3).k hk1
            refine lv_i2l (v := ((v3).toInt64)) C.ex C.by d_M_told_66 rfl ?_
            exact fx_lret C F d_M_told_67 (Or.inl ⟨_, rfl, hw⟩)
        · replace hw := hw.2 hc
          refine lv_iload_n C.ex C.by d_M_told_47 rfl (lv_at hv 0 rfl) ?_
          refine lv_if_eq C.ex C.by d_M_told_48 rfl (fun hc => ?_) (fun hc => ?_)
          · replace hw := hw.1 hc
            refine lv_lconst (v := (0 : Int64)) C.ex C.by d_M_told_55 (by decide) ?_
            exact b_M_told_56 C hl _ _ hw _ _ _ _ _ (lv_sub hv [] rfl) F
          · replace hw := hw.2 hc
            refine lv_lconst (v := (1 : Int64)) C.ex C.by d_M_told_51 (by decide) ?_
            refine lv_goto C.ex C.by d_M_told_52 rfl ?_
            exact b_M_told_56 C hl _ _ hw _ _ _ _ _ (lv_sub hv [] rfl) F
      · replace hw := hw.2 hc
        exact b_M_told_30 C hl _ _ hw _ _ _ _ _ (lv_sub hv [0] rfl) F
  · replace hw := hw.2 hc
    refine lv_aload_n C.ex C.by d_M_told_13 rfl (lv_at hv 0 rfl) ?_
    refine lv_iconst (v := (1 : Int32)) C.ex C.by d_M_told_14 (by decide) ?_
    refine fx_callI C F (c_M_fail hl hw) hm_M_fail hi_M_fail hv.1 (by decide) (Nat.le_of_ble_eq_true rfl) (iv_M_fail C F lm_M_362 hk1 d_M_told_15) (fx_out0 _) fx_eno (fun v4 h5 H locs cells slots hw hx4 F => ?_)
    replace hw := hw hx4
    have hk1 := (hx4).k hk1
    refine lv_i2l (v := ((v4).toInt64)) C.ex C.by d_M_told_18 rfl ?_
    exact fx_lret C F d_M_told_19 (Or.inl ⟨_, rfl, hw⟩)
theorem hm_M_told : fx_hd y_M_told prog_15_method_58_code 4 (Option.some FieldType.long) [] ∈ tables_1 := (fx_m7 (List.mem_of_getElem? (i := 168) rfl))
theorem hi_M_told : Cond.initialized y_M_told.cls ∈ tables_1 := (fx_m1 (List.mem_of_getElem? (i := 15) rfl))
theorem c_M_told {l : Launch} (hl : l.flags = flags0) {D : DD} {Q : Int64 → AH → Prop} {r0 : Nat} {x1 : Int32} {x2 : Int32} {h : AH} (hw : m_M_told Q r0 x1 x2 h) : fx_Mt l D y_M_told (fx_hd y_M_told prog_15_method_58_code 4 (Option.some FieldType.long) []) 7 115 [.ref r0, .int x1, .int x2] h (fx_oL Q fx_no) := by
  refine fx_ofW (plainFor_of_name (by decide)) (fun p e s m below meth c C F => ?_)
  have hv := lv_entry ([.ref r0, .int x1, .int x2]) (n := 4) (Nat.le_of_ble_eq_true rfl)
  rw [lg_entry_eq]
  generalize (lg_sl ([.ref r0, .int x1, .int x2]) ++ List.replicate (4 - (lg_sl ([.ref r0, .int x1, .int x2])).length) Slot.unset).toArray = ls at hv ⊢
  have hv : lv_has ls 4 [(0, .ref r0), (1, .int x1), (2, .int x2)] := hv
  exact b_M_told_0 C hl _ _ _ _ hw _ _ _ _ _ hv F
