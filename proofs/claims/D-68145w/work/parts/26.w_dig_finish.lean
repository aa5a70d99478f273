set_option maxRecDepth 10000
/-! ChainJudge$Digest.finish([BI)V: frames 5, words 90 -/
abbrev y_Dig_finish : MethodName := ⟨"ChainJudge$Digest", "finish", "([BI)V"⟩
theorem lm_Dig_58 : Cond.methodLink "ChainJudge$Digest" 58 y_Dig_one ∈ tables_1 ∨ ∃ host, Cond.methodLinkNest "ChainJudge$Digest" 58 y_Dig_one host ∈ tables_1 := Or.inl (fx_m4 (List.mem_of_getElem? (i := 197) rfl))
theorem lm_Dig_62 : Cond.methodLink "ChainJudge$Digest" 62 (⟨"ChainJudge$Digest", "put", "([BI)V"⟩ : MethodName) ∈ tables_1 := (fx_m4 (List.mem_of_getElem? (i := 202) rfl))
section
variable {p : Program} {l : Launch} {e : Env} {R : Room} {s : State} {m : MethodId} {args : Array Value} {below : List Frame} {meth : Method} {c : Code} {H : Heap} {locs : List Loc} {cells slots : Nat}
variable {D : DD} {y : MethodName} {cc : ByteArray} {nL kf kw : Nat} {ret : Option FieldType} {hh : List (Nat × Nat × Nat × Nat)} {h0 h : AH} {pc : Nat} {ls : Array Slot} {rest : List Value} {b idx : Nat}
theorem iv_Dig_one {x1 : Int32} (C : fx_CX D y cc nL kf kw ret hh h0 p R s m meth c) (F : fx_F D h0 h H locs cells slots) (hw1 : Cond.methodLink y.cls idx y_Dig_one ∈ tables_1 ∨ ∃ host, Cond.methodLinkNest y.cls idx y_Dig_one host ∈ tables_1) (hk : hp_k h b = 6) (hd : decode cc pc = .ok (.invokevirtual idx, 3)) : fx_IV p l e R s m args below meth c H locs cells slots (F0 m pc ls (.int x1 :: .ref b :: rest)) rest y_Dig_one [.ref b, .int x1] 3 := fun T hT X => fx_invV (As := [.int x1]) (Cn := "ChainJudge$Sha256") C X hw1 (fx_m4 (List.mem_of_getElem? (i := 198) rfl)) (fx_selW C (fx_m4 (List.mem_of_getElem? (i := 200) rfl))) hm_Dig_one ⟨by decide, by decide⟩ (by rw [hT]; exact fx_clsO (ci := 5) (r := ("ChainJudge$Sha256", fx_T5, 8)) C F rfl (by decide) hk) rfl (n := 1) (by decide +kernel) rfl rfl hd
theorem iv_Sha_put_u {r1 : Nat} {x2 : Int32} (C : fx_CX D y cc nL kf kw ret hh h0 p R s m meth c) (F : fx_F D h0 h H locs cells slots) (hw1 : Cond.methodLink y.cls idx (⟨"ChainJudge$Digest", "put", "([BI)V"⟩ : MethodName) ∈ tables_1) (hk : hp_k h b = 6) (hd : decode cc pc = .ok (.invokevirtual idx, 3)) : fx_IV p l e R s m args below meth c H locs cells slots (F0 m pc ls (.int x2 :: .ref r1 :: .ref b :: rest)) rest y_Sha_put [.ref b, .ref r1, .int x2] 3 := fun T hT X => fx_invU (As := [.ref r1, .int x2]) (x' := (⟨"ChainJudge$Digest", "put", "([BI)V"⟩ : MethodName)) (owner := "ChainJudge$Digest") (Cn := "ChainJudge$Sha256") C X hw1 (fx_m4 (List.mem_of_getElem? (i := 204) rfl)) (fx_m4 (List.mem_of_getElem? (i := 203) rfl)) (fx_m4 (List.mem_of_getElem? (i := 206) rfl)) (fx_selW C (fx_m4 (List.mem_of_getElem? (i := 205) rfl))) ⟨by decide, by decide⟩ (by rw [hT]; exact fx_clsO (ci := 5) (r := ("ChainJudge$Sha256", fx_T5, 8)) C F rfl (by decide) hk) rfl (n := 2) (by decide +kernel) rfl rfl hd
end
def dl_Dig_finish : List (Nat × Instr × Nat) := [(0, .aload_n 0, 1), (1, .getfield 13, 3), (4, .ldc2_w 56, 3), (7, .lmul, 1), (8, .lstore_n 3, 1), (9, .aload_n 0, 1), (10, .sipush 128, 3), (13, .invokevirtual 58, 3), (16, .aload_n 0, 1), (17, .getfield 7, 3), (20, .aload_n 0, 1), (21, .getfield 23, 3), (24, .aload_n 0, 1), (25, .getfield 23, 3), (28, .bipush 8, 2), (30, .idiv, 1), (31, .isub, 1), (32, .if_icmp .eq 11, 3), (35, .aload_n 0, 1), (36, .iconst 0, 1), (37, .invokevirtual 58, 3), (40, .goto (-24), 3), (43, .aload_n 0, 1), (44, .getfield 7, 3), (47, .aload_n 0, 1), (48, .getfield 23, 3), (51, .bipush 8, 2), (53, .isub, 1), (54, .if_icmp .eq 11, 3), (57, .aload_n 0, 1), (58, .iconst 0, 1), (59, .invokevirtual 58, 3), (62, .goto (-19), 3), (65, .bipush 56, 2), (67, .istore 5, 2), (69, .iload 5, 2), (71, .ifCond .lt 18, 3), (74, .aload_n 0, 1), (75, .lload_n 3, 1), (76, .iload 5, 2), (78, .lushr, 1), (79, .l2i, 1), (80, .invokevirtual 58, 3), (83, .iinc 5 (-8), 3), (86, .goto (-17), 3), (89, .aload_n 0, 1), (90, .aload_n 1, 1), (91, .iload_n 2, 1), (92, .invokevirtual 62, 3), (95, .return_, 1)]
theorem dk_Dig_finish : fx_dec prog_3_method_11_code dl_Dig_finish = true := by decide +kernel
theorem d_Dig_finish_0 : decode prog_3_method_11_code 0 = .ok (.aload_n 0, 1) := fx_dat dk_Dig_finish 0 rfl
theorem d_Dig_finish_1 : decode prog_3_method_11_code 1 = .ok (.getfield 13, 3) := fx_dat dk_Dig_finish 1 rfl
theorem d_Dig_finish_4 : decode prog_3_method_11_code 4 = .ok (.ldc2_w 56, 3) := fx_dat dk_Dig_finish 2 rfl
theorem d_Dig_finish_7 : decode prog_3_method_11_code 7 = .ok (.lmul, 1) := fx_dat dk_Dig_finish 3 rfl
theorem d_Dig_finish_8 : decode prog_3_method_11_code 8 = .ok (.lstore_n 3, 1) := fx_dat dk_Dig_finish 4 rfl
theorem d_Dig_finish_9 : decode prog_3_method_11_code 9 = .ok (.aload_n 0, 1) := fx_dat dk_Dig_finish 5 rfl
theorem d_Dig_finish_10 : decode prog_3_method_11_code 10 = .ok (.sipush 128, 3) := fx_dat dk_Dig_finish 6 rfl
theorem d_Dig_finish_13 : decode prog_3_method_11_code 13 = .ok (.invokevirtual 58, 3) := fx_dat dk_Dig_finish 7 rfl
theorem d_Dig_finish_16 : decode prog_3_method_11_code 16 = .ok (.aload_n 0, 1) := fx_dat dk_Dig_finish 8 rfl
theorem d_Dig_finish_17 : decode prog_3_method_11_code 17 = .ok (.getfield 7, 3) := fx_dat dk_Dig_finish 9 rfl
theorem d_Dig_finish_20 : decode prog_3_method_11_code 20 = .ok (.aload_n 0, 1) := fx_dat dk_Dig_finish 10 rfl
theorem d_Dig_finish_21 : decode prog_3_method_11_code 21 = .ok (.getfield 23, 3) := fx_dat dk_Dig_finish 11 rfl
theorem d_Dig_finish_24 : decode prog_3_method_11_code 24 = .ok (.aload_n 0, 1) := fx_dat dk_Dig_finish 12 rfl
theorem d_Dig_finish_25 : decode prog_3_method_11_code 25 = .ok (.getfield 23, 3) := fx_dat dk_Dig_finish 13 rfl
theorem d_Dig_finish_28 : decode prog_3_method_11_code 28 = .ok (.bipush 8, 2) := fx_dat dk_Dig_finish 14 rfl
theorem d_Dig_finish_30 : decode prog_3_method_11_code 30 = .ok (.idiv, 1) := fx_dat dk_Dig_finish 15 rfl
theorem d_Dig_finish_31 : decode prog_3_method_11_code 31 = .ok (.isub, 1) := fx_dat dk_Dig_finish 16 rfl
theorem d_Dig_finish_32 : decode prog_3_method_11_code 32 = .ok (.if_icmp .eq 11, 3) := fx_dat dk_Dig_finish 17 rfl
theorem d_Dig_finish_35 : decode prog_3_method_11_code 35 = .ok (.aload_n 0, 1) := fx_dat dk_Dig_finish 18 rfl
theorem d_Dig_finish_36 : decode prog_3_method_11_code 36 = .ok (.iconst 0, 1) := fx_dat dk_Dig_finish 19 rfl
theorem d_Dig_finish_37 : decode prog_3_method_11_code 37 = .ok (.invokevirtual 58, 3) := fx_dat dk_Dig_finish 20 rfl
theorem d_Dig_finish_40 : decode prog_3_method_11_code 40 = .ok (.goto (-24), 3) := fx_dat dk_Dig_finish 21 rfl
theorem d_Dig_finish_43 : decode prog_3_method_11_code 43 = .ok (.aload_n 0, 1) := fx_dat dk_Dig_finish 22 rfl
theorem d_Dig_finish_44 : decode prog_3_method_11_code 44 = .ok (.getfield 7, 3) := fx_dat dk_Dig_finish 23 rfl
theorem d_Dig_finish_47 : decode prog_3_method_11_code 47 = .ok (.aload_n 0, 1) := fx_dat dk_Dig_finish 24 rfl
theorem d_Dig_finish_48 : decode prog_3_method_11_code 48 = .ok (.getfield 23, 3) := fx_dat dk_Dig_finish 25 rfl
theorem d_Dig_finish_51 : decode prog_3_method_11_code 51 = .ok (.bipush 8, 2) := fx_dat dk_Dig_finish 26 rfl
theorem d_Dig_finish_53 : decode prog_3_method_11_code 53 = .ok (.isub, 1) := fx_dat dk_Dig_finish 27 rfl
theorem d_Dig_finish_54 : decode prog_3_method_11_code 54 = .ok (.if_icmp .eq 11, 3) := fx_dat dk_Dig_finish 28 rfl
theorem d_Dig_finish_57 : decode prog_3_method_11_code 57 = .ok (.aload_n 0, 1) := fx_dat dk_Dig_finish 29 rfl
theorem d_Dig_finish_58 : decode prog_3_method_11_code 58 = .ok (.iconst 0, 1) := fx_dat dk_Dig_finish 30 rfl
theorem d_Dig_finish_59 : decode prog_3_method_11_code 59 = .ok (.invokevirtual 58, 3) := fx_dat dk_Dig_finish 31 rfl
theorem d_Dig_finish_62 : decode prog_3_method_11_code 62 = .ok (.goto (-19), 3) := fx_dat dk_Dig_finish 32 rfl
theorem d_Dig_finish_65 : decode prog_3_method_11_code 65 = .ok (.bipush 56, 2) := fx_dat dk_Dig_finish 33 rfl
theorem d_Dig_finish_67 : decode prog_3_method_11_code 67 = .ok (.istore 5, 2) := fx_dat dk_Dig_finish 34 rfl
theorem d_Dig_finish_69 : decode prog_3_method_11_code 69 = .ok (.iload 5, 2) := fx_dat dk_Dig_finish 35 rfl
theorem d_Dig_finish_71 : decode prog_3_method_11_code 71 = .ok (.ifCond .lt 18, 3) := fx_dat dk_Dig_finish 36 rfl
theorem d_Dig_finish_74 : decode prog_3_method_11_code 74 = .ok (.aload_n 0, 1) := fx_dat dk_Dig_finish 37 rfl
theorem d_Dig_finish_75 : decode prog_3_method_11_code 75 = .ok (.lload_n 3, 1) := fx_dat dk_Dig_finish 38 rfl
theorem d_Dig_finish_76 : decode prog_3_method_11_code 76 = .ok (.iload 5, 2) := fx_dat dk_Dig_finish 39 rfl
theorem d_Dig_finish_78 : decode prog_3_method_11_code 78 = .ok (.lushr, 1) := fx_dat dk_Dig_finish 40 rfl
theorem d_Dig_finish_79 : decode prog_3_method_11_code 79 = .ok (.l2i, 1) := fx_dat dk_Dig_finish 41 rfl
theorem d_Dig_finish_80 : decode prog_3_method_11_code 80 = .ok (.invokevirtual 58, 3) := fx_dat dk_Dig_finish 42 rfl
theorem d_Dig_finish_83 : decode prog_3_method_11_code 83 = .ok (.iinc 5 (-8), 3) := fx_dat dk_Dig_finish 43 rfl
theorem d_Dig_finish_86 : decode prog_3_method_11_code 86 = .ok (.goto (-17), 3) := fx_dat dk_Dig_finish 44 rfl
theorem d_Dig_finish_89 : decode prog_3_method_11_code 89 = .ok (.aload_n 0, 1) := fx_dat dk_Dig_finish 45 rfl
theorem d_Dig_finish_90 : decode prog_3_method_11_code 90 = .ok (.aload_n 1, 1) := fx_dat dk_Dig_finish 46 rfl
theorem d_Dig_finish_91 : decode prog_3_method_11_code 91 = .ok (.iload_n 2, 1) := fx_dat dk_Dig_finish 47 rfl
theorem d_Dig_finish_92 : decode prog_3_method_11_code 92 = .ok (.invokevirtual 62, 3) := fx_dat dk_Dig_finish 48 rfl
theorem d_Dig_finish_95 : decode prog_3_method_11_code 95 = .ok (.return_, 1) := fx_dat dk_Dig_finish 49 rfl
def m_Dig_finish_69_b (Q : AH → Prop) (X69 : Int32 × AH → Prop) (r0 : Nat) (r1 : Nat) (x2 : Int32) (w3 : Int64) (x5 : Int32) (h : AH) : Prop := (x5 < 0 → hp_k h r0 = 6 ∧ m_Sha_put (fun h1 => fx_ext h h1 → Q h1) r0 r1 x2 h) ∧ (¬ x5 < 0 → hp_k h r0 = 6 ∧ m_Dig_one (fun h2 => fx_ext h h2 → ∀ v1 : Int32, v1 = (x5 + (-8 : Int32)) → X69 (v1, h2)) r0 (((sh_lu w3 x5)).toInt32) h)
def m_Dig_finish_69 (Q : AH → Prop) (r0 : Nat) (r1 : Nat) (x2 : Int32) (w3 : Int64) (x5 : Int32) (h : AH) : Prop := fx_loop (fun (X69 : Int32 × AH → Prop) (st : Int32 × AH) => m_Dig_finish_69_b Q X69 r0 r1 x2 w3 st.1 st.2) (x5, h)
def m_Dig_finish_43_b (Q : AH → Prop) (X43 : AH → Prop) (r0 : Nat) (r1 : Nat) (x2 : Int32) (w3 : Int64) (h : AH) : Prop := hp_k h r0 = 6 ∧ ((hp_I h r0 5) = ((hp_I h r0 3) - (8 : Int32)) → m_Dig_finish_69 Q r0 r1 x2 w3 (56 : Int32) h) ∧ (¬ (hp_I h r0 5) = ((hp_I h r0 3) - (8 : Int32)) → m_Dig_one (fun h1 => fx_ext h h1 → X43 h1) r0 (0 : Int32) h)
def m_Dig_finish_43 (Q : AH → Prop) (r0 : Nat) (r1 : Nat) (x2 : Int32) (w3 : Int64) (h : AH) : Prop := fx_loop (fun (X43 : AH → Prop) (st : AH) => m_Dig_finish_43_b Q X43 r0 r1 x2 w3 st) (h)
def m_Dig_finish_16_b (Q : AH → Prop) (X16 : AH → Prop) (r0 : Nat) (r1 : Nat) (x2 : Int32) (w3 : Int64) (h : AH) : Prop := hp_k h r0 = 6 ∧ ((hp_I h r0 5) = ((hp_I h r0 3) - ((hp_I h r0 3) / (8 : Int32))) → m_Dig_finish_43 Q r0 r1 x2 w3 h) ∧ (¬ (hp_I h r0 5) = ((hp_I h r0 3) - ((hp_I h r0 3) / (8 : Int32))) → m_Dig_one (fun h1 => fx_ext h h1 → X16 h1) r0 (0 : Int32) h)
def m_Dig_finish_16 (Q : AH → Prop) (r0 : Nat) (r1 : Nat) (x2 : Int32) (w3 : Int64) (h : AH) : Prop := fx_loop (fun (X16 : AH → Prop) (st : AH) => m_Dig_finish_16_b Q X16 r0 r1 x2 w3 st) (h)
def m_Dig_finish (Q : AH → Prop) (r0 : Nat) (r1 : Nat) (x2 : Int32) (h : AH) : Prop := hp_k h r0 = 6 ∧ ∀ u1 : Int64, u1 = ((hp_L h r0 6) * (8 : Int64)) → m_Dig_one (fun h1 => fx_ext h h1 → m_Dig_finish_16 Q r0 r1 x2 u1 h1) r0 (128 : Int32) h
theorem b_Dig_finish_69 {p : Program} {l : Launch} {e : Env} {R : Room} {s : State} {m : MethodId} {args : Array Value} {below : List Frame} {meth : Method} {c : Code} {D : DD} {h0 : AH} {Q : AH → Prop} (C : fx_CX D y_Dig_finish prog_3_method_11_code 6 5 90 (none) [] h0 p R s m meth c) (hl : l.flags = flags0) (r0 : Nat) (r1 : Nat) (x2 : Int32) (w3 : Int64) (x5 : Int32) (h : AH) (hw : m_Dig_finish_69 Q r0 r1 x2 w3 x5 h) : ∀ (ls : Array Slot) (H : Heap) (locs : List Loc) (cells slots : Nat), lv_has ls 6 [(0, .ref r0), (1, .ref r1), (2, .int x2), (3, .long w3), (5, .int x5)] → fx_F D h0 h H locs cells slots → W p l e R s m args below meth c H locs cells slots (fx_Z D below s h0 (fx_oV Q fx_no)) (F0 m 69 ls []) := by
  refine fx_loop.use hw (fun st => ∀ (ls : Array Slot) (H : Heap) (locs : List Loc) (cells slots : Nat), lv_has ls 6 [(0, .ref r0), (1, .ref r1), (2, .int x2), (3, .long w3), (5, .int st.1)] → fx_F D h0 st.2 H locs cells slots → W p l e R s m args below meth c H locs cells slots (fx_Z D below s h0 (fx_oV Q fx_no)) (F0 m 69 ls [])) (fun X69 st hX69 hw => ?_)
  obtain ⟨x5, h⟩ := st
  replace hw : m_Dig_finish_69_b Q X69 r0 r1 x2 w3 x5 h := hw
  unfold m_Dig_finish_69_b at hw
  intro ls H locs cells slots hv F
  refine lv_iload C.ex C.by d_Dig_finish_69 (lv_at hv 4 rfl) ?_
  refine lv_if_lt C.ex C.by d_Dig_finish_71 rfl (fun hc => ?_) (fun hc => ?_)
  · replace hw := hw.1 hc
    refine lv_aload_n C.ex C.by d_Dig_finish_89 rfl (lv_at hv 0 rfl) ?_
    refine lv_aload_n C.ex C.by d_Dig_finish_90 rfl (lv_at hv 1 rfl) ?_
    refine lv_iload_n C.ex C.by d_Dig_finish_91 rfl (lv_at hv 2 rfl) ?_
    obtain ⟨hk1, hw⟩ := hw
    refine fx_callV C F (c_Sha_put hl hw) hm_Sha_put hi_Sha_put hv.1 (by decide) (Nat.le_of_ble_eq_true rfl) (iv_Sha_put_u C F lm_Dig_62 hk1 d_Dig_finish_92) (fx_out0 _) fx_eno (fun h1 H locs cells slots hw hx1 F => ?_)
    replace hw := hw hx1
    have hk1 := (hx1).k hk1
    exact fx_vret C F d_Dig_finish_95 (Or.inl ⟨rfl, hw⟩)
  · replace hw := hw.2 hc
    refine lv_aload_n C.ex C.by d_Dig_finish_74 rfl (lv_at hv 0 rfl) ?_
    refine lv_lload_n C.ex C.by d_Dig_finish_75 rfl (lv_at hv 3 rfl) ?_
    refine lv_iload C.ex C.by d_Dig_finish_76 (lv_at hv 4 rfl) ?_
    refine lv_lushr (v := (sh_lu w3 x5)) C.ex C.by d_Dig_finish_78 rfl ?_
    refine lv_l2i (v := (((sh_lu w3 x5)).toInt32)) C.ex C.by d_Dig_finish_79 rfl ?_
    obtain ⟨hk2, hw⟩ := hw
    refine fx_callV C F (c_Dig_one hl hw) hm_Dig_one hi_Dig_one hv.1 (by decide) (Nat.le_of_ble_eq_true rfl) (iv_Dig_one C F lm_Dig_58 hk2 d_Dig_finish_80) (fx_out0 _) fx_eno (fun h2 H locs cells slots hw hx2 F => ?_)
    replace hw := hw hx2
    have hk2 := (hx2).k hk2
    let v1 : Int32 := (x5 + (-8 : Int32))
    replace hw := hw v1 rfl
    refine lv_iinc (v := v1) (k := 4) (lv' := [(5, .int v1), (0, .ref r0), (1, .ref r1), (2, .int x2), (3, .long w3)]) C.ex C.by d_Dig_finish_83 hv rfl (congrArg (fun z => x5 + z) (by decide)) (by decide) rfl (fun ls hv => ?_)
    refine lv_goto C.ex C.by d_Dig_finish_86 rfl ?_
    exact hX69 _ hw _ _ _ _ _ (lv_sub hv [1, 2, 3, 4, 0] rfl) F
theorem b_Dig_finish_43 {p : Program} {l : Launch} {e : Env} {R : Room} {s : State} {m : MethodId} {args : Array Value} {below : List Frame} {meth : Method} {c : Code} {D : DD} {h0 : AH} {Q : AH → Prop} (C : fx_CX D y_Dig_finish prog_3_method_11_code 6 5 90 (none) [] h0 p R s m meth c) (hl : l.flags = flags0) (r0 : Nat) (r1 : Nat) (x2 : Int32) (w3 : Int64) (h : AH) (hw : m_Dig_finish_43 Q r0 r1 x2 w3 h) : ∀ (ls : Array Slot) (H : Heap) (locs : List Loc) (cells slots : Nat), lv_has ls 6 [(0, .ref r0), (1, .ref r1), (2, .int x2), (3, .long w3)] → fx_F D h0 h H locs cells slots → W p l e R s m args below meth c H locs cells slots (fx_Z D below s h0 (fx_oV Q fx_no)) (F0 m 43 ls []) := by
  refine fx_loop.use hw (fun st => ∀ (ls : Array Slot) (H : Heap) (locs : List Loc) (cells slots : Nat), lv_has ls 6 [(0, .ref r0), (1, .ref r1), (2, .int x2), (3, .long w3)] → fx_F D h0 st H locs cells slots → W p l e R s m args below meth c H locs cells slots (fx_Z D below s h0 (fx_oV Q fx_no)) (F0 m 43 ls [])) (fun X43 h hX43 hw => ?_)
  replace hw : m_Dig_finish_43_b Q X43 r0 r1 x2 w3 h := hw
  unfold m_Dig_finish_43_b at hw
  intro ls H locs cells slots hv F
  refine lv_aload_n C.ex C.by d_Dig_finish_43 rfl (lv_at hv 0 rfl) ?_
  obtain ⟨hk1, hw⟩ := hw
  refine fx_getI C F lf_Dig_7 hk1 rfl d_Dig_finish_44 ?_
  refine lv_aload_n C.ex C.by d_Dig_finish_47 rfl (lv_at hv 0 rfl) ?_
  refine fx_getI C F lf_Dig_23 hk1 rfl d_Dig_finish_48 ?_
  refine lv_bipush (v := (8 : Int32)) C.ex C.by d_Dig_finish_51 (by decide) ?_
  refine lv_isub C.ex C.by d_Dig_finish_53 ?_
  refine lv_icmp_eq C.ex C.by d_Dig_finish_54 rfl (fun hc => ?_) (fun hc => ?_)
  · replace hw := hw.1 hc
    refine lv_bipush (v := (56 : Int32)) C.ex C.by d_Dig_finish_65 (by decide) ?_
    refine lv_istore (lv' := [(5, .int (56 : Int32)), (0, .ref r0), (1, .ref r1), (2, .int x2), (3, .long w3)]) C.ex C.by d_Dig_finish_67 hv (by decide) rfl (fun ls hv => ?_)
    exact b_Dig_finish_69 C hl _ _ _ _ _ _ hw _ _ _ _ _ (lv_sub hv [1, 2, 3, 4, 0] rfl) F
  · replace hw := hw.2 hc
    refine lv_aload_n C.ex C.by d_Dig_finish_57 rfl (lv_at hv 0 rfl) ?_
    refine lv_iconst (v := (0 : Int32)) C.ex C.by d_Dig_finish_58 (by decide) ?_
    refine fx_callV C F (c_Dig_one hl hw) hm_Dig_one hi_Dig_one hv.1 (by decide) (Nat.le_of_ble_eq_true rfl) (iv_Dig_one C F lm_Dig_58 hk1 d_Dig_finish_59) (fx_out0 _) fx_eno (fun h1 H locs cells slots hw hx1 F => ?_)
    replace hw := hw hx1
    have hk1 := (hx1).k hk1
    refine lv_goto C.ex C.by d_Dig_finish_62 rfl ?_
    exact hX43 _ hw _ _ _ _ _ hv F
theorem b_Dig_finish_16 {p : Program} {l : Launch} {e : Env} {R : Room} {s : State} {m : MethodId} {args : Array Value} {below : List Frame} {meth : Method} {c : Code} {D : DD} {h0 : AH} {Q : AH → Prop} (C : fx_CX D y_Dig_finish prog_3_method_11_code 6 5 90 (none) [] h0 p R s m meth c) (hl : l.flags = flags0) (r0 : Nat) (r1 : Nat) (x2 : Int32) (w3 : Int64) (h : AH) (hw : m_Dig_finish_16 Q r0 r1 x2 w3 h) : ∀ (ls : Array Slot) (H : Heap) (locs : List Loc) (cells slots : Nat), lv_has ls 6 [(0, .ref r0), (1, .ref r1), (2, .int x2), (3, .long w3)] → fx_F D h0 h H locs cells slots → W p l e R s m args below meth c H locs cells slots (fx_Z D below s h0 (fx_oV Q fx_no)) (F0 m 16 ls []) := by
  refine fx_loop.use hw (fun st => ∀ (ls : Array Slot) (H : Heap) (locs : List Loc) (cells slots : Nat), lv_has ls 6 [(0, .ref r0), (1, .ref r1), (2, .int x2), (3, .long w3)] → fx_F D h0 st H locs cells slots → W p l e R s m args below meth c H locs cells slots (fx_Z D below s h0 (fx_oV Q fx_no)) (F0 m 16 ls [])) (fun X16 h hX16 hw => ?_)
  replace hw : m_Dig_finish_16_b Q X16 r0 r1 x2 w3 h := hw
  unfold m_Dig_finish_16_b at hw
  intro ls H locs cells slots hv F
  refine lv_aload_n C.ex C.by d_Dig_finish_16 rfl (lv_at hv 0 rfl) ?_
  obtain ⟨hk1, hw⟩ := hw
  refine fx_getI C F lf_Dig_7 hk1 rfl d_Dig_finish_17 ?_
  refine lv_aload_n C.ex C.by d_Dig_finish_20 rfl (lv_at hv 0 rfl) ?_
  refine fx_getI C F lf_Dig_23 hk1 rfl d_Dig_finish_21 ?_
  refine lv_aload_n C.ex C.by d_Dig_finish_24 rfl (lv_at hv 0 rfl) ?_
  refine fx_getI C F lf_Dig_23 hk1 rfl d_Dig_finish_25 ?_
  refine lv_bipush (v := (8 : Int32)) C.ex C.by d_Dig_finish_28 (by decide) ?_
  refine lv_idiv C.ex C.by d_Dig_finish_30 (by decide) ?_
  refine lv_isub C.ex C.by d_Dig_finish_31 ?_
  refine lv_icmp_eq C.ex C.by d_Dig_finish_32 rfl (fun hc => ?_) (fun hc => ?_)
  · replace hw := hw.1 hc
    exact b_Dig_finish_43 C hl _ _ _ _ _ hw _ _ _ _ _ hv F
  · replace hw := hw.2 hc
    refine lv_aload_n C.ex C.by d_Dig_finish_35 rfl (lv_at hv 0 rfl) ?_
    refine lv_iconst (v := (0 : Int32)) C.ex C.by d_Dig_finish_36 (by decide) ?_
    refine fx_callV C F (c_Dig_one hl hw) hm_Dig_one hi_Dig_one hv.1 (by decide) (Nat.le_of_ble_eq_true rfl) (iv_Dig_one C F lm_Dig_58 hk1 d_Dig_finish_37) (fx_out0 _) fx_eno (fun h1 H locs cells slots hw hx1 F => ?_)
    replace hw := hw hx1
    have hk1 := (hx1).k hk1
    refine lv_goto C.ex C.by d_Dig_finish_40 rfl ?_
    exact hX16 _ hw _ _ _ _ _ hv F
theorem b_Dig_finish_0 {p : Program} {l : Launch} {e : Env} {R : Room} {s : State} {m : MethodId} {args : Array Value} {below : List Frame} {meth : Method} {c : Code} {D : DD} {h0 : AH} {Q : AH → Prop} (C : fx_CX D y_Dig_finish prog_3_method_11_code 6 5 90 (none) [] h0 p R s m meth c) (hl : l.flags = flags0) (r0 : Nat) (r1 : Nat) (x2 : Int32) (h : AH) (hw : m_Dig_finish Q r0 r1 x2 h) : ∀ (ls : Array Slot) (H : Heap) (locs : List Loc) (cells slots : Nat), lv_has ls 6 [(0, .ref r0), (1, .ref r1), (2, .int x2)] → fx_F D h0 h H locs cells slots → W p l e R s m args below meth c H locs cells slots (fx_Z D below s h0 (fx_oV Q fx_no)) (F0 m 0 ls []) := by
  unfold m_Dig_finish at hw
  intro ls H locs cells slots hv F
  refine lv_aload_n C.ex C.by d_Dig_finish_0 rfl (lv_at hv 0 rfl) ?_
  obtain ⟨hk1, hw⟩ := hw
  refine fx_getL C F lf_Dig_13 hk1 rfl d_Dig_finish_1 ?_
  refine lv_ldc2 (v := (8 : Int64)) C.ex C.by C.ow (C.tw.at (fx_m4 (List.mem_of_getElem? (i := 196) rfl)) rfl rfl) d_Dig_finish_4 ?_
  refine lv_lmul C.ex C.by d_Dig_finish_7 ?_
  let u1 : Int64 := ((hp_L h r0 6) * (8 : Int64))
  replace hw := hw u1 rfl
  refine lv_lstore_n (lv' := [(3, .long u1), (0, .ref r0), (1, .ref r1), (2, .int x2)]) C.ex C.by d_Dig_finish_8 rfl hv (by decide) rfl (fun ls hv => ?_)
  refine lv_aload_n C.ex C.by d_Dig_finish_9 rfl (lv_at hv 1 rfl) ?_
  refine lv_sipush (v := (128 : Int32)) C.ex C.by d_Dig_finish_10 (by decide) ?_
  refine fx_callV C F (c_Dig_one hl hw) hm_Dig_one hi_Dig_one hv.1 (by decide) (Nat.le_of_ble_eq_true rfl) (iv_Dig_one C F lm_Dig_58 hk1 d_Dig_finish_13) (fx_out0 _) fx_eno (fun h1 H locs cells slots hw hx1 F => ?_)
  replace hw := hw hx1
  have hk1 := (hx1).k hk1
  exact b_Dig_finish_16 C hl _ _ _ _ _ hw _ _ _ _ _ (lv_sub hv [1, 2, 3, 0] rfl) F
theorem hm_Dig_finish : fx_hd y_Dig_finish prog_3_method_11_code 6 (none) [] ∈ tables_1 := (fx_m4 (List.mem_of_getElem? (i := 195) rfl))
theorem hi_Dig_finish : Cond.initialized y_Dig_finish.cls ∈ tables_1 := (fx_m1 (List.mem_of_getElem? (i := 8) rfl))
theorem c_Dig_finish {l : Launch} (hl : l.flags = flags0) {D : DD} {Q : AH → Prop} {r0 : Nat} {r1 : Nat} {x2 : Int32} {h : AH} (hw : m_Dig_finish Q r0 r1 x2 h) : fx_Mt l D y_Dig_finish (fx_hd y_Dig_finish prog_3_method_11_code 6 (none) []) 5 90 [.ref r0, .ref r1, .int x2] h (fx_oV Q fx_no) := by
  refine fx_ofW (plainFor_of_name (by decide)) (fun p e s m below meth c C F => ?_)
  have hv := lv_entry ([.ref r0, .ref r1, .int x2]) (n := 6) (Nat.le_of_ble_eq_true rfl)
  rw [lg_entry_eq]
  generalize (lg_sl ([.ref r0, .ref r1, .int x2]) ++ List.replicate (6 - (lg_sl ([.ref r0, .ref r1, .int x2])).length) Slot.unset).toArray = ls at hv ⊢
  have hv : lv_has ls 6 [(0, .ref r0), (1, .ref r1), (2, .int x2)] := hv
  exact b_Dig_finish_0 C hl _ _ _ _ hw _ _ _ _ _ hv F
/-! ChainJudge$Kdf.begin([BII)V: frames 6, words 107 -/
abbrev y_Kdf_begin : MethodName := ⟨"ChainJudge$Kdf", "begin", "([BII)V"⟩
theorem lm_Kdf_36 : Cond.methodLink "ChainJudge$Kdf" 36 y_Arrs_fill ∈ tables_1 ∨ ∃ host, Cond.methodLinkNest "ChainJudge$Kdf" 36 y_Arrs_fill host ∈ tables_1 := Or.inl (fx_m4 (List.mem_of_getElem? (i := 148) rfl))
theorem lm_Kdf_42 : Cond.methodLink "ChainJudge$Kdf" 42 y_Dig_reset ∈ tables_1 ∨ ∃ host, Cond.methodLinkNest "ChainJudge$Kdf" 42 y_Dig_reset host ∈ tables_1 := Or.inl (fx_m4 (List.mem_of_getElem? (i := 151) rfl))
theorem lm_Kdf_45 : Cond.methodLink "ChainJudge$Kdf" 45 y_Dig_update ∈ tables_1 ∨ ∃ host, Cond.methodLinkNest "ChainJudge$Kdf" 45 y_Dig_update host ∈ tables_1 := Or.inl (fx_m4 (List.mem_of_getElem? (i := 164) rfl))
theorem lm_Kdf_49 : Cond.methodLink "ChainJudge$Kdf" 49 y_Dig_finish ∈ tables_1 ∨ ∃ host, Cond.methodLinkNest "ChainJudge$Kdf" 49 y_Dig_finish host ∈ tables_1 := Or.inl (fx_m4 (List.mem_of_getElem? (i := 191) rfl))
theorem lm_Kdf_59 : Cond.methodLink "ChainJudge$Kdf" 59 y_Dig_one ∈ tables_1 ∨ ∃ host, Cond.methodLinkNest "ChainJudge$Kdf" 59 y_Dig_one host ∈ tables_1 := Or.inl (fx_m4 (List.mem_of_getElem? (i := 209) rfl))
section
variable {p : Program} {l : Launch} {e : Env} {R : Room} {s : State} {m : MethodId} {args : Array Value} {below : List Frame} {meth : Method} {c : Code} {H : Heap} {locs : List Loc} {cells slots : Nat}
variable {D : DD} {y : MethodName} {cc : ByteArray} {nL kf kw : Nat} {ret : Option FieldType} {hh : List (Nat × Nat × Nat × Nat)} {h0 h : AH} {pc : Nat} {ls : Array Slot} {rest : List Value} {b idx : Nat}
theorem iv_Arrs_fill {r0 : Nat} {x1 : Int32} (C : fx_CX D y cc nL kf kw ret hh h0 p R s m meth c) (F : fx_F D h0 h H locs cells slots) (hw1 : Cond.methodLink y.cls idx y_Arrs_fill ∈ tables_1 ∨ ∃ host, Cond.methodLinkNest y.cls idx y_Arrs_fill host ∈ tables_1) (hd : decode cc pc = .ok (.invokestatic idx, 3)) : fx_IV p l e R s m args below meth c H locs cells slots (F0 m pc ls (.int x1 :: .ref r0 :: rest)) rest y_Arrs_fill [.ref r0, .int x1] 3 := fun T hT X => fx_invS (As := [.ref r0, .int x1]) C X hw1 (fx_m4 (List.mem_of_getElem? (i := 149) rfl)) hi_Arrs_fill hm_Arrs_fill ⟨by decide, by decide⟩ rfl (n := 2) (by decide +kernel) rfl rfl hd
theorem iv_Dig_finish {r1 : Nat} {x2 : Int32} (C : fx_CX D y cc nL kf kw ret hh h0 p R s m meth c) (F : fx_F D h0 h H locs cells slots) (hw1 : Cond.methodLink y.cls idx y_Dig_finish ∈ tables_1 ∨ ∃ host, Cond.methodLinkNest y.cls idx y_Dig_finish host ∈ tables_1) (hk : hp_k h b = 6) (hd : decode cc pc = .ok (.invokevirtual idx, 3)) : fx_IV p l e R s m args below meth c H locs cells slots (F0 m pc ls (.int x2 :: .ref r1 :: .ref b :: rest)) rest y_Dig_finish [.ref b, .ref r1, .int x2] 3 := fun T hT X => fx_invV (As := [.ref r1, .int x2]) (Cn := "ChainJudge$Sha256") C X hw1 (fx_m4 (List.mem_of_getElem? (i := 192) rfl)) (fx_selW C (fx_m4 (List.mem_of_getElem? (i := 194) rfl))) hm_Dig_finish ⟨by decide, by decide⟩ (by rw [hT]; exact fx_clsO (ci := 5) (r := ("ChainJudge$Sha256", fx_T5, 8)) C F rfl (by decide) hk) rfl (n := 2) (by decide +kernel) rfl rfl hd
theorem iv_Dig_reset (C : fx_CX D y cc nL kf kw ret hh h0 p R s m meth c) (F : fx_F D h0 h H locs cells slots) (hw1 : Cond.methodLink y.cls idx y_Dig_reset ∈ tables_1 ∨ ∃ host, Cond.methodLinkNest y.cls idx y_Dig_reset host ∈ tables_1) (hk : hp_k h b = 6) (hd : decode cc pc = .ok (.invokevirtual idx, 3)) : fx_IV p l e R s m args below meth c H locs cells slots (F0 m pc ls (.ref b :: rest)) rest y_Dig_reset [.ref b] 3 := fun T hT X => fx_invV (As := []) (Cn := "ChainJudge$Sha256") C X hw1 (fx_m4 (List.mem_of_getElem? (i := 152) rfl)) (fx_selW C (fx_m4 (List.mem_of_getElem? (i := 154) rfl))) hm_Dig_reset ⟨by decide, by decide⟩ (by rw [hT]; exact fx_clsO (ci := 5) (r := ("ChainJudge$Sha256", fx_T5, 8)) C F rfl (by decide) hk) rfl (n := 0) (by decide +kernel) rfl rfl hd
theorem iv_Dig_update {r1 : Nat} {x2 : Int32} {x3 : Int32} (C : fx_CX D y cc nL kf kw ret hh h0 p R s m meth c) (F : fx_F D h0 h H locs cells slots) (hw1 : Cond.methodLink y.cls idx y_Dig_update ∈ tables_1 ∨ ∃ host, Cond.methodLinkNest y.cls idx y_Dig_update host ∈ tables_1) (hk : hp_k h b = 6) (hd : decode cc pc = .ok (.invokevirtual idx, 3)) : fx_IV p l e R s m args below meth c H locs cells slots (F0 m pc ls (.int x3 :: .int x2 :: .ref r1 :: .ref b :: rest)) rest y_Dig_update [.ref b, .ref r1, .int x2, .int x3] 3 := fun T hT X => fx_invV (As := [.ref r1, .int x2, .int x3]) (Cn := "ChainJudge$Sha256") C X hw1 (fx_m4 (List.mem_of_getElem? (i := 165) rfl)) (fx_selW C (fx_m4 (List.mem_of_getElem? (i := 167) rfl))) hm_Dig_update ⟨by decide, by decide⟩ (by rw [hT]; exact fx_clsO (ci := 5) (r := ("ChainJudge$Sha256", fx_T5, 8)) C F rfl (by decide) hk) rfl (n := 3) (by decide +kernel) rfl rfl hd
end
def dl_Kdf_begin : List (Nat × Instr × Nat) := [(0, .aload_n 0, 1), (1, .getfield 26, 3), (4, .iconst 0, 1), (5, .invokestatic 36, 3), (8, .iload_n 3, 1), (9, .aload_n 0, 1), (10, .getfield 26, 3), (13, .arraylength, 1), (14, .if_icmp .le 35, 3), (17, .aload_n 0, 1), (18, .getfield 7, 3), (21, .invokevirtual 42, 3), (24, .aload_n 0, 1), (25, .getfield 7, 3), (28, .aload_n 1, 1), (29, .iload_n 2, 1), (30, .iload_n 3, 1), (31, .invokevirtual 45, 3), (34, .aload_n 0, 1), (35, .getfield 7, 3), (38, .aload_n 0, 1), (39, .getfield 26, 3), (42, .iconst 0, 1), (43, .invokevirtual 49, 3), (46, .goto 14, 3), (49, .aload_n 1, 1), (50, .iload_n 2, 1), (51, .aload_n 0, 1), (52, .getfield 26, 3), (55, .iconst 0, 1), (56, .iload_n 3, 1), (57, .invokestatic 53, 3), (60, .aload_n 0, 1), (61, .getfield 7, 3), (64, .invokevirtual 42, 3), (67, .aload_n 0, 1), (68, .getfield 13, 3), (71, .invokevirtual 42, 3), (74, .iconst 0, 1), (75, .istore 4, 2), (77, .iload 4, 2), (79, .aload_n 0, 1), (80, .getfield 26, 3), (83, .arraylength, 1), (84, .if_icmp .ge 43, 3), (87, .aload_n 0, 1), (88, .getfield 7, 3), (91, .aload_n 0, 1), (92, .getfield 26, 3), (95, .iload 4, 2), (97, .baload, 1), (98, .bipush 54, 2), (100, .ixor, 1), (101, .invokevirtual 59, 3), (104, .aload_n 0, 1), (105, .getfield 13, 3), (108, .aload_n 0, 1), (109, .getfield 26, 3), (112, .iload 4, 2), (114, .baload, 1), (115, .bipush 92, 2), (117, .ixor, 1), (118, .invokevirtual 59, 3), (121, .iinc 4 1, 3), (124, .goto (-47), 3), (127, .return_, 1)]
theorem dk_Kdf_begin : fx_dec prog_6_method_2_code dl_Kdf_begin = true := by decide +kernel
theorem d_Kdf_begin_0 : decode prog_6_method_2_code 0 = .ok (.aload_n 0, 1) := fx_dat dk_Kdf_begin 0 rfl
theorem d_Kdf_begin_1 : decode prog_6_method_2_code 1 = .ok (.getfield 26, 3) := fx_dat dk_Kdf_begin 1 rfl
theorem d_Kdf_begin_4 : decode prog_6_method_2_code 4 = .ok (.iconst 0, 1) := fx_dat dk_Kdf_begin 2 rfl
theorem d_Kdf_begin_5 : decode prog_6_method_2_code 5 = .ok (.invokestatic 36, 3) := fx_dat dk_Kdf_begin 3 rfl
theorem d_Kdf_begin_8 : decode prog_6_method_2_code 8 = .ok (.iload_n 3, 1) := fx_dat dk_Kdf_begin 4 rfl
theorem d_Kdf_begin_9 : decode prog_6_method_2_code 9 = .ok (.aload_n 0, 1) := fx_dat dk_Kdf_begin 5 rfl
theorem d_Kdf_begin_10 : decode prog_6_method_2_code 10 = .ok (.getfield 26, 3) := fx_dat dk_Kdf_begin 6 rfl
theorem d_Kdf_begin_13 : decode prog_6_method_2_code 13 = .ok (.arraylength, 1) := fx_dat dk_Kdf_begin 7 rfl
theorem d_Kdf_begin_14 : decode prog_6_method_2_code 14 = .ok (.if_icmp .le 35, 3) := fx_dat dk_Kdf_begin 8 rfl
theorem d_Kdf_begin_17 : decode prog_6_method_2_code 17 = .ok (.aload_n 0, 1) := fx_dat dk_Kdf_begin 9 rfl
theorem d_Kdf_begin_18 : decode prog_6_method_2_code 18 = .ok (.getfield 7, 3) := fx_dat dk_Kdf_begin 10 rfl
theorem d_Kdf_begin_21 : decode prog_6_method_2_code 21 = .ok (.invokevirtual 42, 3) := fx_dat dk_Kdf_begin 11 rfl
theorem d_Kdf_begin_24 : decode prog_6_method_2_code 24 = .ok (.aload_n 0, 1) := fx_dat dk_Kdf_begin 12 rfl
theorem d_Kdf_begin_25 : decode prog_6_method_2_code 25 = .ok (.getfield 7, 3) := fx_dat dk_Kdf_begin 13 rfl
theorem d_Kdf_begin_28 : decode prog_6_method_2_code 28 = .ok (.aload_n 1, 1) := fx_dat dk_Kdf_begin 14 rfl
theorem d_Kdf_begin_29 : decode prog_6_method_2_code 29 = .ok (.iload_n 2, 1) := fx_dat dk_Kdf_begin 15 rfl
theorem d_Kdf_begin_30 : decode prog_6_method_2_code 30 = .ok (.iload_n 3, 1) := fx_dat dk_Kdf_begin 16 rfl
theorem d_Kdf_begin_31 : decode prog_6_method_2_code 31 = .ok (.invokevirtual 45, 3) := fx_dat dk_Kdf_begin 17 rfl
theorem d_Kdf_begin_34 : decode prog_6_method_2_code 34 = .ok (.aload_n 0, 1) := fx_dat dk_Kdf_begin 18 rfl
theorem d_Kdf_begin_35 : decode prog_6_method_2_code 35 = .ok (.getfield 7, 3) := fx_dat dk_Kdf_begin 19 rfl
theorem d_Kdf_begin_38 : decode prog_6_method_2_code 38 = .ok (.aload_n 0, 1) := fx_dat dk_Kdf_begin 20 rfl
theorem d_Kdf_begin_39 : decode prog_6_method_2_code 39 = .ok (.getfield 26, 3) := fx_dat dk_Kdf_begin 21 rfl
theorem d_Kdf_begin_42 : decode prog_6_method_2_code 42 = .ok (.iconst 0, 1) := fx_dat dk_Kdf_begin 22 rfl
theorem d_Kdf_begin_43 : decode prog_6_method_2_code 43 = .ok (.invokevirtual 49, 3) := fx_dat dk_Kdf_begin 23 rfl
theorem d_Kdf_begin_46 : decode prog_6_method_2_code 46 = .ok (.goto 14, 3) := fx_dat dk_Kdf_begin 24 rfl
theorem d_Kdf_begin_49 : decode prog_6_method_2_code 49 = .ok (.aload_n 1, 1) := fx_dat dk_Kdf_begin 25 rfl
theorem d_Kdf_begin_50 : decode prog_6_method_2_code 50 = .ok (.iload_n 2, 1) := fx_dat dk_Kdf_begin 26 rfl
theorem d_Kdf_begin_51 : decode prog_6_method_2_code 51 = .ok (.aload_n 0, 1) := fx_dat dk_Kdf_begin 27 rfl
theorem d_Kdf_begin_52 : decode prog_6_method_2_code 52 = .ok (.getfield 26, 3) := fx_dat dk_Kdf_begin 28 rfl
theorem d_Kdf_begin_55 : decode prog_6_method_2_code 55 = .ok (.iconst 0, 1) := fx_dat dk_Kdf_begin 29 rfl
theorem d_Kdf_begin_56 : decode prog_6_method_2_code 56 = .ok (.iload_n 3, 1) := fx_dat dk_Kdf_begin 30 rfl
theorem d_Kdf_begin_57 : decode prog_6_method_2_code 57 = .ok (.invokestatic 53, 3) := fx_dat dk_Kdf_begin 31 rfl
theorem d_Kdf_begin_60 : decode prog_6_method_2_code 60 = .ok (.aload_n 0, 1) := fx_dat dk_Kdf_begin 32 rfl
theorem d_Kdf_begin_61 : decode prog_6_method_2_code 61 = .ok (.getfield 7, 3) := fx_dat dk_Kdf_begin 33 rfl
theorem d_Kdf_begin_64 : decode prog_6_method_2_code 64 = .ok (.invokevirtual 42, 3) := fx_dat dk_Kdf_begin 34 rfl
theorem d_Kdf_begin_67 : decode prog_6_method_2_code 67 = .ok (.aload_n 0, 1) := fx_dat dk_Kdf_begin 35 rfl
theorem d_Kdf_begin_68 : decode prog_6_method_2_code 68 = .ok (.getfield 13, 3) := fx_dat dk_Kdf_begin 36 rfl
theorem d_Kdf_begin_71 : decode prog_6_method_2_code 71 = .ok (.invokevirtual 42, 3) := fx_dat dk_Kdf_begin 37 rfl
theorem d_Kdf_begin_74 : decode prog_6_method_2_code 74 = .ok (.iconst 0, 1) := fx_dat dk_Kdf_begin 38 rfl
theorem d_Kdf_begin_75 : decode prog_6_method_2_code 75 = .ok (.istore 4, 2) := fx_dat dk_Kdf_begin 39 rfl
theorem d_Kdf_begin_77 : decode prog_6_method_2_code 77 = .ok (.iload 4, 2) := fx_dat dk_Kdf_begin 40 rfl
theorem d_Kdf_begin_79 : decode prog_6_method_2_code 79 = .ok (.aload_n 0, 1) := fx_dat dk_Kdf_begin 41 rfl
theorem d_Kdf_begin_80 : decode prog_6_method_2_code 80 = .ok (.getfield 26, 3) := fx_dat dk_Kdf_begin 42 rfl
theorem d_Kdf_begin_83 : decode prog_6_method_2_code 83 = .ok (.arraylength, 1) := fx_dat dk_Kdf_begin 43 rfl
theorem d_Kdf_begin_84 : decode prog_6_method_2_code 84 = .ok (.if_icmp .ge 43, 3) := fx_dat dk_Kdf_begin 44 rfl
theorem d_Kdf_begin_87 : decode prog_6_method_2_code 87 = .ok (.aload_n 0, 1) := fx_dat dk_Kdf_begin 45 rfl
theorem d_Kdf_begin_88 : decode prog_6_method_2_code 88 = .ok (.getfield 7, 3) := fx_dat dk_Kdf_begin 46 rfl
theorem d_Kdf_begin_91 : decode prog_6_method_2_code 91 = .ok (.aload_n 0, 1) := fx_dat dk_Kdf_begin 47 rfl
theorem d_Kdf_begin_92 : decode prog_6_method_2_code 92 = .ok (.getfield 26, 3) := fx_dat dk_Kdf_begin 48 rfl
theorem d_Kdf_begin_95 : decode prog_6_method_2_code 95 = .ok (.iload 4, 2) := fx_dat dk_Kdf_begin 49 rfl
theorem d_Kdf_begin_97 : decode prog_6_method_2_code 97 = .ok (.baload, 1) := fx_dat dk_Kdf_begin 50 rfl
theorem d_Kdf_begin_98 : decode prog_6_method_2_code 98 = .ok (.bipush 54, 2) := fx_dat dk_Kdf_begin 51 rfl
theorem d_Kdf_begin_100 : decode prog_6_method_2_code 100 = .ok (.ixor, 1) := fx_dat dk_Kdf_begin 52 rfl
theorem d_Kdf_begin_101 : decode prog_6_method_2_code 101 = .ok (.invokevirtual 59, 3) := fx_dat dk_Kdf_begin 53 rfl
theorem d_Kdf_begin_104 : decode prog_6_method_2_code 104 = .ok (.aload_n 0, 1) := fx_dat dk_Kdf_begin 54 rfl
theorem d_Kdf_begin_105 : decode prog_6_method_2_code 105 = .ok (.getfield 13, 3) := fx_dat dk_Kdf_begin 55 rfl
theorem d_Kdf_begin_108 : decode prog_6_method_2_code 108 = .ok (.aload_n 0, 1) := fx_dat dk_Kdf_begin 56 rfl
theorem d_Kdf_begin_109 : decode prog_6_method_2_code 109 = .ok (.getfield 26, 3) := fx_dat dk_Kdf_begin 57 rfl
theorem d_Kdf_begin_112 : decode prog_6_method_2_code 112 = .ok (.iload 4, 2) := fx_dat dk_Kdf_begin 58 rfl
theorem d_Kdf_begin_114 : decode prog_6_method_2_code 114 = .ok (.baload, 1) := fx_dat dk_Kdf_begin 59 rfl
theorem d_Kdf_begin_115 : decode prog_6_method_2_code 115 = .ok (.bipush 92, 2) := fx_dat dk_Kdf_begin 60 rfl
theorem d_Kdf_begin_117 : decode prog_6_method_2_code 117 = .ok (.ixor, 1) := fx_dat dk_Kdf_begin 61 rfl
theorem d_Kdf_begin_118 : decode prog_6_method_2_code 118 = .ok (.invokevirtual 59, 3) := fx_dat dk_Kdf_begin 62 rfl
theorem d_Kdf_begin_121 : decode prog_6_method_2_code 121 = .ok (.iinc 4 1, 3) := fx_dat dk_Kdf_begin 63 rfl
theorem d_Kdf_begin_124 : decode prog_6_method_2_code 124 = .ok (.goto (-47), 3) := fx_dat dk_Kdf_begin 64 rfl
theorem d_Kdf_begin_127 : decode prog_6_method_2_code 127 = .ok (.return_, 1) := fx_dat dk_Kdf_begin 65 rfl
def m_Kdf_begin_77_b (Q : AH → Prop) (X77 : Int32 × AH → Prop) (r0 : Nat) (x4 : Int32) (h : AH) : Prop := hp_k h r0 = 5 ∧ ∃ b1, hp_R h r0 3 = some b1 ∧ bk (hp_k h b1) ∧ ((nI (hp_n h b1)) ≤ x4 → Q h) ∧ (¬ (nI (hp_n h b1)) ≤ x4 → ∃ b2, hp_R h r0 1 = some b2 ∧ vp_in x4 (hp_n h b1) ∧ (by8 (hp_I h b1 x4.toNatClampNeg) → hp_k h b2 = 6 ∧ m_Dig_one (fun h1 => fx_ext h h1 → ∃ b3, hp_R h1 r0 2 = some b3 ∧ ∃ b4, hp_R h1 r0 3 = some b4 ∧ bk (hp_k h1 b4) ∧ vp_in x4 (hp_n h1 b4) ∧ (by8 (hp_I h1 b4 x4.toNatClampNeg) → hp_k h1 b3 = 6 ∧ m_Dig_one (fun h2 => fx_ext h1 h2 → ∀ v1 : Int32, v1 = (x4 + (1 : Int32)) → X77 (v1, h2)) b3 ((hp_I h1 b4 x4.toNatClampNeg) ^^^ (92 : Int32)) h1)) b2 ((hp_I h b1 x4.toNatClampNeg) ^^^ (54 : Int32)) h))
def m_Kdf_begin_77 (Q : AH → Prop) (r0 : Nat) (x4 : Int32) (h : AH) : Prop := fx_loop (fun (X77 : Int32 × AH → Prop) (st : Int32 × AH) => m_Kdf_begin_77_b Q X77 r0 st.1 st.2) (x4, h)
def m_Kdf_begin_60 (Q : AH → Prop) (r0 : Nat) (h : AH) : Prop := hp_k h r0 = 5 ∧ ∃ b1, hp_R h r0 1 = some b1 ∧ hp_k h b1 = 6 ∧ m_Dig_reset (fun h1 => fx_ext h h1 → ∃ b2, hp_R h1 r0 2 = some b2 ∧ hp_k h1 b2 = 6 ∧ m_Dig_reset (fun h2 => fx_ext h1 h2 → m_Kdf_begin_77 Q r0 (0 : Int32) h2) b2 h1) b1 h
def m_Kdf_begin (Q : AH → Prop) (r0 : Nat) (r1 : Nat) (x2 : Int32) (x3 : Int32) (h : AH) : Prop := hp_k h r0 = 5 ∧ ∃ b1, hp_R h r0 3 = some b1 ∧ m_Arrs_fill (fun h1 => fx_ext h h1 → ∃ b2, hp_R h1 r0 3 = some b2 ∧ bk (hp_k h1 b2) ∧ (x3 ≤ (nI (hp_n h1 b2)) → bk (hp_k h1 r1) ∧ hp_k h1 b2 = 101 ∧ ¬ x2 < 0 ∧ ¬ (0 : Int32) < 0 ∧ ¬ x3 < 0 ∧ x2.toNatClampNeg + x3.toNatClampNeg ≤ hp_n h1 r1 ∧ (0 : Int32).toNatClampNeg + x3.toNatClampNeg ≤ hp_n h1 b2 ∧ ∀ h2 : AH, h2 = up_CI h1 r1 x2.toNatClampNeg b2 (0 : Int32).toNatClampNeg x3.toNatClampNeg → m_Kdf_begin_60 Q r0 h2) ∧ (¬ x3 ≤ (nI (hp_n h1 b2)) → ∃ b3, hp_R h1 r0 1 = some b3 ∧ hp_k h1 b3 = 6 ∧ m_Dig_reset (fun h3 => fx_ext h1 h3 → ∃ b4, hp_R h3 r0 1 = some b4 ∧ hp_k h3 b4 = 6 ∧ m_Dig_update (fun h4 => fx_ext h3 h4 → ∃ b5, hp_R h4 r0 1 = some b5 ∧ ∃ b6, hp_R h4 r0 3 = some b6 ∧ hp_k h4 b5 = 6 ∧ m_Dig_finish (fun h5 => fx_ext h4 h5 → m_Kdf_begin_60 Q r0 h5) b5 b6 (0 : Int32) h4) b4 r1 x2 x3 h3) b3 h1)) b1 (0 : Int32) h
theorem b_Kdf_begin_77 {p : Program} {l : Launch} {e : Env} {R : Room} {s : State} {m : MethodId} {args : Array Value} {below : List Frame} {meth : Method} {c : Code} {D : DD} {h0 : AH} {Q : AH → Prop} (C : fx_CX D y_Kdf_begin prog_6_method_2_code 5 6 107 (none) [] h0 p R s m meth c) (hl : l.flags = flags0) (r0 : Nat) (x4 : Int32) (h : AH) (hw : m_Kdf_begin_77 Q r0 x4 h) : ∀ (ls : Array Slot) (H : Heap) (locs : List Loc) (cells slots : Nat), lv_has ls 5 [(0, .ref r0), (4, .int x4)] → fx_F D h0 h H locs cells slots → W p l e R s m args below meth c H locs cells slots (fx_Z D below s h0 (fx_oV Q fx_no)) (F0 m 77 ls []) := by
  refine fx_loop.use hw (fun st => ∀ (ls : Array Slot) (H : Heap) (locs : List Loc) (cells slots : Nat), lv_has ls 5 [(0, .ref r0), (4, .int st.1)] → fx_F D h0 st.2 H locs cells slots → W p l e R s m args below meth c H locs cells slots (fx_Z D below s h0 (fx_oV Q fx_no)) (F0 m 77 ls [])) (fun X77 st hX77 hw => ?_)
  obtain ⟨x4, h⟩ := st
  replace hw : m_Kdf_begin_77_b Q X77 r0 x4 h := hw
  unfold m_Kdf_begin_77_b at hw
  intro ls H locs cells slots hv F
  refine lv_iload C.ex C.by d_Kdf_begin_77 (lv_at hv 1 rfl) ?_
  refine lv_aload_n C.ex C.by d_Kdf_begin_79 rfl (lv_at hv 0 rfl) ?_
  obtain ⟨hk1, hw⟩ := hw
  obtain ⟨b1, hb1, hw⟩ := hw
  refine fx_getR C F lf_Kdf_26 hk1 rfl hb1 d_Kdf_begin_80 ?_
  obtain ⟨hk2, hw⟩ := hw
  refine fx_alen C F hk2.gt d_Kdf_begin_83 ?_
  refine lv_icmp_ge C.ex C.by d_Kdf_begin_84 rfl (fun hc => ?_) (fun hc => ?_)
  · replace hw := hw.1 hc
    exact fx_vret C F d_Kdf_begin_127 (Or.inl ⟨rfl, hw⟩)
  · replace hw := hw.2 hc
    refine lv_aload_n C.ex C.by d_Kdf_begin_87 rfl (lv_at hv 0 rfl) ?_
    obtain ⟨b2, hb2, hw⟩ := hw
    refine fx_getR C F lf_Kdf_7 hk1 rfl hb2 d_Kdf_begin_88 ?_
    refine lv_aload_n C.ex C.by d_Kdf_begin_91 rfl (lv_at hv 0 rfl) ?_
    refine fx_getR C F lf_Kdf_26 hk1 rfl hb1 d_Kdf_begin_92 ?_
    refine lv_iload C.ex C.by d_Kdf_begin_95 (lv_at hv 1 rfl) ?_
    obtain ⟨hi1, hw⟩ := hw
    refine fx_bald C F hk2 hi1 d_Kdf_begin_97 (fun h8 => ?_)
    replace hw := hw h8
    refine lv_bipush (v := (54 : Int32)) C.ex C.by d_Kdf_begin_98 (by decide) ?_
    refine lv_ixor C.ex C.by d_Kdf_begin_100 ?_
    obtain ⟨hk3, hw⟩ := hw
    refine fx_callV C F (c_Dig_one hl hw) hm_Dig_one hi_Dig_one hv.1 (by decide) (Nat.le_of_ble_eq_true rfl) (iv_Dig_one C F lm_Kdf_59 hk3 d_Kdf_begin_101) (fx_out0 _) fx_eno (fun h1 H locs cells slots hw hx1 F => ?_)
    replace hw := hw hx1
    have hk2 := (hx1).gb hk2
    have hk3 := (hx1).k hk3
    have hk1 := (hx1).k hk1
    refine lv_aload_n C.ex C.by d_Kdf_begin_104 rfl (lv_at hv 0 rfl) ?_
    obtain ⟨b3, hb3, hw⟩ := hw
    refine fx_getR C F lf_Kdf_13 hk1 rfl hb3 d_Kdf_begin_105 ?_
    refine lv_aload_n C.ex C.by d_Kdf_begin_108 rfl (lv_at hv 0 rfl) ?_
    obtain ⟨b4, hb4, hw⟩ := hw
    refine fx_getR C F lf_Kdf_26 hk1 rfl hb4 d_Kdf_begin_109 ?_
    refine lv_iload C.ex C.by d_Kdf_begin_112 (lv_at hv 1 rfl) ?_
    obtain ⟨hk4, hw⟩ := hw
    obtain ⟨hi2, hw⟩ := hw
    refine fx_bald C F hk4 hi2 d_Kdf_begin_114 (fun h8 => ?_)
    replace hw := hw h8
    refine lv_bipush (v := (92 : Int32)) C.ex C.by d_Kdf_begin_115 (by decide) ?_
    refine lv_ixor C.ex C.by d_Kdf_begin_117 ?_
    obtain ⟨hk5, hw⟩ := hw
    refine fx_callV C F (c_Dig_one hl hw) hm_Dig_one hi_Dig_one hv.1 (by decide) (Nat.le_of_ble_eq_true rfl) (iv_Dig_one C F lm_Kdf_59 hk5 d_Kdf_begin_118) (fx_out0 _) fx_eno (fun h2 H locs cells slots hw hx2 F => ?_)
    replace hw := hw hx2
    have hk2 := (hx2).gb hk2
    have hk3 := (hx2).k hk3
    have hk5 := (hx2).k hk5
    have hk4 := (hx2).gb hk4
    have hk1 := (hx2).k hk1
    let v1 : Int32 := (x4 + (1 : Int32))
    replace hw := hw v1 rfl
    refine lv_iinc (v := v1) (k := 1) (lv' := [(4, .int v1), (0, .ref r0)]) C.ex C.by d_Kdf_begin_121 hv rfl (congrArg (fun z => x4 + z) (by decide)) (by decide) rfl (fun ls hv => ?_)
    refine lv_goto C.ex C.by d_Kdf_begin_124 rfl ?_
    exact hX77 _ hw _ _ _ _ _ (lv_sub hv [1, 0] rfl) F
theorem b_Kdf_begin_60 {p : Program} {l : Launch} {e : Env} {R : Room} {s : State} {m : MethodId} {args : Array Value} {below : List Frame} {meth : Method} {c : Code} {D : DD} {h0 : AH} {Q : AH → Prop} (C : fx_CX D y_Kdf_begin prog_6_method_2_code 5 6 107 (none) [] h0 p R s m meth c) (hl : l.flags = flags0) (r0 : Nat) (h : AH) (hw : m_Kdf_begin_60 Q r0 h) : ∀ (ls : Array Slot) (H : Heap) (locs : List Loc) (cells slots : Nat), lv_has ls 5 [(0, .ref r0)] → fx_F D h0 h H locs cells slots → W p l e R s m args below meth c H locs cells slots (fx_Z D below s h0 (fx_oV Q fx_no)) (F0 m 60 ls []) := by
  unfold m_Kdf_begin_60 at hw
  intro ls H locs cells slots hv F
  refine lv_aload_n C.ex C.by d_Kdf_begin_60 rfl (lv_at hv 0 rfl) ?_
  obtain ⟨hk1, hw⟩ := hw
  obtain ⟨b1, hb1, hw⟩ := hw
  refine fx_getR C F lf_Kdf_7 hk1 rfl hb1 d_Kdf_begin_61 ?_
  obtain ⟨hk2, hw⟩ := hw
  refine fx_callV C F (c_Dig_reset hl hw) hm_Dig_reset hi_Dig_reset hv.1 (by decide) (Nat.le_of_ble_eq_true rfl) (iv_Dig_reset C F lm_Kdf_42 hk2 d_Kdf_begin_64) (fx_out0 _) fx_eno (fun h1 H locs cells slots hw hx1 F => ?_)
  replace hw := hw hx1
  have hk2 := (hx1).k hk2
  have hk1 := (hx1).k hk1
  refine lv_aload_n C.ex C.by d_Kdf_begin_67 rfl (lv_at hv 0 rfl) ?_
  obtain ⟨b2, hb2, hw⟩ := hw
  refine fx_getR C F lf_Kdf_13 hk1 rfl hb2 d_Kdf_begin_68 ?_
  obtain ⟨hk3, hw⟩ := hw
  refine fx_callV C F (c_Dig_reset hl hw) hm_Dig_reset hi_Dig_reset hv.1 (by decide) (Nat.le_of_ble_eq_true rfl) (iv_Dig_reset C F lm_Kdf_42 hk3 d_Kdf_begin_71) (fx_out0 _) fx_eno (fun h2 H locs cells slots hw hx2 F => ?_)
  replace hw := hw hx2
  have hk2 := (hx2).k hk2
  have hk3 := (hx2).k hk3
  have hk1 := (hx2).k hk1
  refine lv_iconst (v := (0 : Int32)) C.ex C.by d_Kdf_begin_74 (by decide) ?_
  refine lv_istore (lv' := [(4, .int (0 : Int32)), (0, .ref r0)]) C.ex C.by d_Kdf_begin_75 hv (by decide) rfl (fun ls hv => ?_)
  exact b_Kdf_begin_77 C hl _ _ _ hw _ _ _ _ _ (lv_sub hv [1, 0] rfl) F
theorem b_Kdf_begin_0 {p : Program} {l : Launch} {e : Env} {R : Room} {s : State} {m : MethodId} {args : Array Value} {below : List Frame} {meth : Method} {c : Code} {D : DD} {h0 : AH} {Q : AH → Prop} (C : fx_CX D y_Kdf_begin prog_6_method_2_code 5 6 107 (none) [] h0 p R s m meth c) (hl : l.flags = flags0) (r0 : Nat) (r1 : Nat) (x2 : Int32) (x3 : Int32) (h : AH) (hw : m_Kdf_begin Q r0 r1 x2 x3 h) : ∀ (ls : Array Slot) (H : Heap) (locs : List Loc) (cells slots : Nat), lv_has ls 5 [(0, .ref r0), (1, .ref r1), (2, .int x2), (3, .int x3)] → fx_F D h0 h H locs cells slots → W p l e R s m args below meth c H locs cells slots (fx_Z D below s h0 (fx_oV Q fx_no)) (F0 m 0 ls []) := by
  unfold m_Kdf_begin at hw
  intro ls H locs cells slots hv F
  refine lv_aload_n C.ex C.by d_Kdf_begin_0 rfl (lv_at hv 0 rfl) ?_
  obtain ⟨hk1, hw⟩ := hw
  obtain ⟨b1, hb1, hw⟩ := hw
  refine fx_getR C F lf_Kdf_26 hk1 rfl hb1 d_Kdf_begin_1 ?_
  refine lv_iconst (v := (0 : Int32)) C.ex C.by d_Kdf_begin_4 (by decide) ?_
  refine fx_callV C F (c_Arrs_fill hl hw) hm_Arrs_fill hi_Arrs_fill hv.1 (by decide) (Nat.le_of_ble_eq_true rfl) (iv_Arrs_fill C F lm_Kdf_36 d_Kdf_begin_5) (fx_out0 _) fx_eno (fun h1 H locs cells slots hw hx1 F => ?_)
  replace hw := hw hx1
  have hk1 := (hx1).k hk1
  refine lv_iload_n C.ex C.by d_Kdf_begin_8 rfl (lv_at hv 3 rfl) ?_
  refine lv_aload_n C.ex C.by d_Kdf_begin_9 rfl (lv_at hv 0 rfl) ?_
  obtain ⟨b2, hb2, hw⟩ := hw
  refine fx_getR C F lf_Kdf_26 hk1 rfl hb2 d_Kdf_begin_10 ?_
  obtain ⟨hk2, hw⟩ := hw
  refine fx_alen C F hk2.gt d_Kdf_begin_13 ?_
  refine lv_icmp_le C.ex C.by d_Kdf_begin_14 rfl (fun hc => ?_) (fun hc => ?_)
  · replace hw := hw.1 hc
    refine lv_aload_n C.ex C.by d_Kdf_begin_49 rfl (lv_at hv 1 rfl) ?_
    refine lv_iload_n C.ex C.by d_Kdf_begin_50 rfl (lv_at hv 2 rfl) ?_
    refine lv_aload_n C.ex C.by d_Kdf_begin_51 rfl (lv_at hv 0 rfl) ?_
    refine fx_getR C F lf_Kdf_26 hk1 rfl hb2 d_Kdf_begin_52 ?_
    refine lv_iconst (v := (0 : Int32)) C.ex C.by d_Kdf_begin_55 (by decide) ?_
    refine lv_iload_n C.ex C.by d_Kdf_begin_56 rfl (lv_at hv 3 rfl) ?_
    obtain ⟨hk3, hw⟩ := hw
    obtain ⟨hk4, hw⟩ := hw
    obtain ⟨g1, g2, g3, g4, g5, hw⟩ := hw
    let h2 : AH := up_CI h1 r1 x2.toNatClampNeg b2 (0 : Int32).toNatClampNeg x3.toNatClampNeg
    replace hw := hw h2 rfl
    refine fx_copyB C F (fx_m4 (List.mem_of_getElem? (i := 208) rfl)) (fx_m3 (List.mem_of_getElem? (i := 27) rfl)) (fx_m3 (List.mem_of_getElem? (i := 26) rfl)) (fx_m1 (List.mem_of_getElem? (i := 21) rfl)) hv.1 hk3 hk4 g1 g2 g3 g4 g5 (by decide) (Nat.le_of_ble_eq_true rfl) d_Kdf_begin_57 (fun H locs (F : fx_F D h0 h2 H locs _ _) => ?_)
    exact b_Kdf_begin_60 C hl _ _ hw _ _ _ _ _ (lv_sub hv [0] rfl) F
  · replace hw := hw.2 hc
    refine lv_aload_n C.ex C.by d_Kdf_begin_17 rfl (lv_at hv 0 rfl) ?_
    obtain ⟨b3, hb3, hw⟩ := hw
    refine fx_getR C F lf_Kdf_7 hk1 rfl hb3 d_Kdf_begin_18 ?_
    obtain ⟨hk5, hw⟩ := hw
    refine fx_callV C F (c_Dig_reset hl hw) hm_Dig_reset hi_Dig_reset hv.1 (by decide) (Nat.le_of_ble_eq_true rfl) (iv_Dig_reset C F lm_Kdf_42 hk5 d_Kdf_begin_21) (fx_out0 _) fx_eno (fun h3 H locs cells slots hw hx2 F => ?_)
    replace hw := hw hx2
    have hk2 := (hx2).gb hk2
    have hk5 := (hx2).k hk5
    have hk1 := (hx2).k hk1
    refine lv_aload_n C.ex C.by d_Kdf_begin_24 rfl (lv_at hv 0 rfl) ?_
    obtain ⟨b4, hb4, hw⟩ := hw
    refine fx_getR C F lf_Kdf_7 hk1 rfl hb4 d_Kdf_begin_25 ?_
    refine lv_aload_n C.ex C.by d_Kdf_begin_28 rfl (lv_at hv 1 rfl) ?_
    refine lv_iload_n C.ex C.by d_Kdf_begin_29 rfl (lv_at hv 2 rfl) ?_
    refine lv_iload_n C.ex C.by d_Kdf_begin_30 rfl (lv_at hv 3 rfl) ?_
    obtain ⟨hk6, hw⟩ := hw
    refine fx_callV C F (c_Dig_update hl hw) hm_Dig_update hi_Dig_update hv.1 (by decide) (Nat.le_of_ble_eq_true rfl) (iv_Dig_update C F lm_Kdf_45 hk6 d_Kdf_begin_31) (fx_out0 _) fx_eno (fun h4 H locs cells slots hw hx3 F => ?_)
    replace hw := hw hx3
    have hk2 := (hx3).gb hk2
    have hk5 := (hx3).k hk5
    have hk6 := (hx3).k hk6
    have hk1 := (hx3).k hk1
    refine lv_aload_n C.ex C.by d_Kdf_begin_34 rfl (lv_at hv 0 rfl) ?_
    obtain ⟨b5, hb5, hw⟩ := hw
    refine fx_getR C F lf_Kdf_7 hk1 rfl hb5 d_Kdf_begin_35 ?_
    refine lv_aload_n C.ex C.by d_Kdf_begin_38 rfl (lv_at hv 0 rfl) ?_
    obtain ⟨b6, hb6, hw⟩ := hw
    refine fx_getR C F lf_Kdf_26 hk1 rfl hb6 d_Kdf_begin_39 ?_
    refine lv_iconst (v := (0 : Int32)) C.ex C.by d_Kdf_begin_42 (by decide) ?_
    obtain ⟨hk7, hw⟩ := hw
    refine fx_callV C F (c_Dig_finish hl hw) hm_Dig_finish hi_Dig_finish hv.1 (by decide) (Nat.le_of_ble_eq_true rfl) (iv_Dig_finish C F lm_Kdf_49 hk7 d_Kdf_begin_43) (fx_out0 _) fx_eno (fun h5 H locs cells slots hw hx4 F => ?_)
    replace hw := hw hx4
    have hk2 := (hx4).gb hk2
    have hk5 := (hx4).k hk5
    have hk6 := (hx4).k hk6
    have hk7 := (hx4).k hk7
    have hk1 := (hx4).k hk1
    refine lv_goto C.ex C.by d_Kdf_begin_46 rfl ?_
    exact b_Kdf_begin_60 C hl _ _ hw _ _ _ _ _ (lv_sub hv [0] rfl) F
theorem hm_Kdf_begin : fx_hd y_Kdf_begin prog_6_method_2_code 5 (none) [] ∈ tables_1 := (fx_m4 (List.mem_of_getElem? (i := 147) rfl))
theorem hi_Kdf_begin : Cond.initialized y_Kdf_begin.cls ∈ tables_1 := (fx_m1 (List.mem_of_getElem? (i := 7) rfl))
theorem c_Kdf_begin {l : Launch} (hl : l.flags = flags0) {D : DD} {Q : AH → Prop} {r0 : Nat} {r1 : Nat} {x2 : Int32} {x3 : Int32} {h : AH} (hw : m_Kdf_begin Q r0 r1 x2 x3 h) : fx_Mt l D y_Kdf_begin (fx_hd y_Kdf_begin prog_6_method_2_code 5 (none) []) 6 107 [.ref r0, .ref r1, .int x2, .int x3] h (fx_oV Q fx_no) := by
  refine fx_ofW (plainFor_of_name (by decide)) (fun p e s m below meth c C F => ?_)
  have hv := lv_entry ([.ref r0, .ref r1, .int x2, .int x3]) (n := 5) (Nat.le_of_ble_eq_true rfl)
  rw [lg_entry_eq]
  generalize (lg_sl ([.ref r0, .ref r1, .int x2, .int x3]) ++ List.replicate (5 - (lg_sl ([.ref r0, .ref r1, .int x2, .int x3])).length) Slot.unset).toArray = ls at hv ⊢
  have hv : lv_has ls 5 [(0, .ref r0), (1, .ref r1), (2, .int x2), (3, .int x3)] := hv
  exact b_Kdf_begin_0 C hl _ _ _ _ _ hw _ _ _ _ _ hv F
/-! ChainJudge$Kdf.end([BI)V: frames 6, words 107 -/
abbrev y_Kdf_end : MethodName := ⟨"ChainJudge$Kdf", "end", "([BI)V"⟩
def dl_Kdf_end : List (Nat × Instr × Nat) := [(0, .aload_n 0, 1), (1, .getfield 7, 3), (4, .aload_n 0, 1), (5, .getfield 30, 3), (8, .iconst 0, 1), (9, .invokevirtual 49, 3), (12, .aload_n 0, 1), (13, .getfield 13, 3), (16, .aload_n 0, 1), (17, .getfield 30, 3), (20, .iconst 0, 1), (21, .aload_n 0, 1), (22, .getfield 22, 3), (25, .invokevirtual 45, 3), (28, .aload_n 0, 1), (29, .getfield 13, 3), (32, .aload_n 1, 1), (33, .iload_n 2, 1), (34, .invokevirtual 49, 3), (37, .return_, 1)]
theorem dk_Kdf_end : fx_dec prog_6_method_3_code dl_Kdf_end = true := by decide +kernel
theorem d_Kdf_end_0 : decode prog_6_method_3_code 0 = .ok (.aload_n 0, 1) := fx_dat dk_Kdf_end 0 rfl
theorem d_Kdf_end_1 : decode prog_6_method_3_code 1 = .ok (.getfield 7, 3) := fx_dat dk_Kdf_end 1 rfl
theorem d_Kdf_end_4 : decode prog_6_method_3_code 4 = .ok (.aload_n 0, 1) := fx_dat dk_Kdf_end 2 rfl
theorem d_Kdf_end_5 : decode prog_6_method_3_code 5 = .ok (.getfield 30, 3) := fx_dat dk_Kdf_end 3 rfl
theorem d_Kdf_end_8 : decode prog_6_method_3_code 8 = .ok (.iconst 0, 1) := fx_dat dk_Kdf_end 4 rfl
theorem d_Kdf_end_9 : decode prog_6_method_3_code 9 = .ok (.invokevirtual 49, 3) := fx_dat dk_Kdf_end 5 rfl
theorem d_Kdf_end_12 : decode prog_6_method_3_code 12 = .ok (.aload_n 0, 1) := fx_dat dk_Kdf_end 6 rfl
theorem d_Kdf_end_13 : decode prog_6_method_3_code 13 = .ok (.getfield 13, 3) := fx_dat dk_Kdf_end 7 rfl
theorem d_Kdf_end_16 : decode prog_6_method_3_code 16 = .ok (.aload_n 0, 1) := fx_dat dk_Kdf_end 8 rfl
theorem d_Kdf_end_17 : decode prog_6_method_3_code 17 = .ok (.getfield 30, 3) := fx_dat dk_Kdf_end 9 rfl
theorem d_Kdf_end_20 : decode prog_6_method_3_code 20 = .ok (.iconst 0, 1) := fx_dat dk_Kdf_end 10 rfl
theorem d_Kdf_end_21 : decode prog_6_method_3_code 21 = .ok (.aload_n 0, 1) := fx_dat dk_Kdf_end 11 rfl
theorem d_Kdf_end_22 : decode prog_6_method_3_code 22 = .ok (.getfield 22, 3) := fx_dat dk_Kdf_end 12 rfl
theorem d_Kdf_end_25 : decode prog_6_method_3_code 25 = .ok (.invokevirtual 45, 3) := fx_dat dk_Kdf_end 13 rfl
theorem d_Kdf_end_28 : decode prog_6_method_3_code 28 = .ok (.aload_n 0, 1) := fx_dat dk_Kdf_end 14 rfl
theorem d_Kdf_end_29 : decode prog_6_method_3_code 29 = .ok (.getfield 13, 3) := fx_dat dk_Kdf_end 15 rfl
theorem d_Kdf_end_32 : decode prog_6_method_3_code 32 = .ok (.aload_n 1, 1) := fx_dat dk_Kdf_end 16 rfl
theorem d_Kdf_end_33 : decode prog_6_method_3_code 33 = .ok (.iload_n 2, 1) := fx_dat dk_Kdf_end 17 rfl
theorem d_Kdf_end_34 : decode prog_6_method_3_code 34 = .ok (.invokevirtual 49, 3) := fx_dat dk_Kdf_end 18 rfl
theorem d_Kdf_end_37 : decode prog_6_method_3_code 37 = .ok (.return_, 1) := fx_dat dk_Kdf_end 19 rfl
def m_Kdf_end (Q : AH → Prop) (r0 : Nat) (r1 : Nat) (x2 : Int32) (h : AH) : Prop := hp_k h r0 = 5 ∧ ∃ b1, hp_R h r0 1 = some b1 ∧ ∃ b2, hp_R h r0 4 = some b2 ∧ hp_k h b1 = 6 ∧ m_Dig_finish (fun h1 => fx_ext h h1 → ∃ b3, hp_R h1 r0 2 = some b3 ∧ ∃ b4, hp_R h1 r0 4 = some b4 ∧ hp_k h1 b3 = 6 ∧ m_Dig_update (fun h2 => fx_ext h1 h2 → ∃ b5, hp_R h2 r0 2 = some b5 ∧ hp_k h2 b5 = 6 ∧ m_Dig_finish (fun h3 => fx_ext h2 h3 → Q h3) b5 r1 x2 h2) b3 b4 (0 : Int32) (hp_I h1 r0 0) h1) b1 b2 (0 : Int32) h
theorem b_Kdf_end_0 {p : Program} {l : Launch} {e : Env} {R : Room} {s : State} {m : MethodId} {args : Array Value} {below : List Frame} {meth : Method} {c : Code} {D : DD} {h0 : AH} {Q : AH → Prop} (C : fx_CX D y_Kdf_end prog_6_method_3_code 3 6 107 (none) [] h0 p R s m meth c) (hl : l.flags = flags0) (r0 : Nat) (r1 : Nat) (x2 : Int32) (h : AH) (hw : m_Kdf_end Q r0 r1 x2 h) : ∀ (ls : Array Slot) (H : Heap) (locs : List Loc) (cells slots : Nat), lv_has ls 3 [(0, .ref r0), (1, .ref r1), (2, .int x2)] → fx_F D h0 h H locs cells slots → W p l e R s m args below meth c H locs cells slots (fx_Z D below s h0 (fx_oV Q fx_no)) (F0 m 0 ls []) := by
  unfold m_Kdf_end at hw
  intro ls H locs cells slots hv F
  refine lv_aload_n C.ex C.by d_Kdf_end_0 rfl (lv_at hv 0 rfl) ?_
  obtain ⟨hk1, hw⟩ := hw
  obtain ⟨b1, hb1, hw⟩ := hw
  refine fx_getR C F lf_Kdf_7 hk1 rfl hb1 d_Kdf_end_1 ?_
  refine lv_aload_n C.ex C.by d_Kdf_end_4 rfl (lv_at hv 0 rfl) ?_
  obtain ⟨b2, hb2, hw⟩ := hw
  refine fx_getR C F lf_Kdf_30 hk1 rfl hb2 d_Kdf_end_5 ?_
  refine lv_iconst (v := (0 : Int32)) C.ex C.by d_Kdf_end_8 (by decide) ?_
  obtain ⟨hk2, hw⟩ := hw
  refine fx_callV C F (c_Dig_finish hl hw) hm_Dig_finish hi_Dig_finish hv.1 (by decide) (Nat.le_of_ble_eq_true rfl) (iv_Dig_finish C F lm_Kdf_49 hk2 d_Kdf_end_9) (fx_out0 _) fx_eno (fun h1 H locs cells slots hw hx1 F => ?_)
  replace hw := hw hx1
  have hk2 := (hx1).k hk2
  have hk1 := (hx1).k hk1
  refine lv_aload_n C.ex C.by d_Kdf_end_12 rfl (lv_at hv 0 rfl) ?_
  obtain ⟨b3, hb3, hw⟩ := hw
  refine fx_getR C F lf_Kdf_13 hk1 rfl hb3 d_Kdf_end_13 ?_
  refine lv_aload_n C.ex C.by d_Kdf_end_16 rfl (lv_at hv 0 rfl) ?_
  obtain ⟨b4, hb4, hw⟩ := hw
  refine fx_getR C F lf_Kdf_30 hk1 rfl hb4 d_Kdf_end_17 ?_
  refine lv_iconst (v := (0 : Int32)) C.ex C.by d_Kdf_end_20 (by decide) ?_
  refine lv_aload_n C.ex C.by d_Kdf_end_21 rfl (lv_at hv 0 rfl) ?_
  refine fx_getI C F lf_Kdf_22 hk1 rfl d_Kdf_end_22 ?_
  obtain ⟨hk3, hw⟩ := hw
  refine fx_callV C F (c_Dig_update hl hw) hm_Dig_update hi_Dig_update hv.1 (by decide) (Nat.le_of_ble_eq_true rfl) (iv_Dig_update C F lm_Kdf_45 hk3 d_Kdf_end_25) (fx_out0 _) fx_eno (fun h2 H locs cells slots hw hx2 F => ?_)
  replace hw := hw hx2
  have hk2 := (hx2).k hk2
  have hk3 := (hx2).k hk3
  have hk1 := (hx2).k hk1
  refine lv_aload_n C.ex C.by d_Kdf_end_28 rfl (lv_at hv 0 rfl) ?_
  obtain ⟨b5, hb5, hw⟩ := hw
  refine fx_getR C F lf_Kdf_13 hk1 rfl hb5 d_Kdf_end_29 ?_
  refine lv_aload_n C.ex C.by d_Kdf_end_32 rfl (lv_at hv 1 rfl) ?_
  refine lv_iload_n C.ex C.by d_Kdf_end_33 rfl (lv_at hv 2 rfl) ?_
  obtain ⟨hk4, hw⟩ := hw
  refine fx_callV C F (c_Dig_finish hl hw) hm_Dig_finish hi_Dig_finish hv.1 (by decide) (Nat.le_of_ble_eq_true rfl) (iv_Dig_finish C F lm_Kdf_49 hk4 d_Kdf_end_34) (fx_out0 _) fx_eno (fun h3 H locs cells slots hw hx3 F => ?_)
  replace hw := hw hx3
  have hk2 := (hx3).k hk2
  have hk3 := (hx3).k hk3
  have hk4 := (hx3).k hk4
  have hk1 := (hx3).k hk1
  exact fx_vret C F d_Kdf_end_37 (Or.inl ⟨rfl, hw⟩)
theorem hm_Kdf_end : fx_hd y_Kdf_end prog_6_method_3_code 3 (none) [] ∈ tables_1 := (fx_m4 (List.mem_of_getElem? (i := 213) rfl))
theorem hi_Kdf_end : Cond.initialized y_Kdf_end.cls ∈ tables_1 := (fx_m1 (List.mem_of_getElem? (i := 7) rfl))
theorem c_Kdf_end {l : Launch} (hl : l.flags = flags0) {D : DD} {Q : AH → Prop} {r0 : Nat} {r1 : Nat} {x2 : Int32} {h : AH} (hw : m_Kdf_end Q r0 r1 x2 h) : fx_Mt l D y_Kdf_end (fx_hd y_Kdf_end prog_6_method_3_code 3 (none) []) 6 107 [.ref r0, .ref r1, .int x2] h (fx_oV Q fx_no) := by
  refine fx_ofW (plainFor_of_name (by decide)) (fun p e s m below meth c C F => ?_)
  have hv := lv_entry ([.ref r0, .ref r1, .int x2]) (n := 3) (Nat.le_of_ble_eq_true rfl)
  rw [lg_entry_eq]
  generalize (lg_sl ([.ref r0, .ref r1, .int x2]) ++ List.replicate (3 - (lg_sl ([.ref r0, .ref r1, .int x2])).length) Slot.unset).toArray = ls at hv ⊢
  have hv : lv_has ls 3 [(0, .ref r0), (1, .ref r1), (2, .int x2)] := hv
  exact b_Kdf_end_0 C hl _ _ _ _ hw _ _ _ _ _ hv F
/-! ChainJudge$Kdf.hmac([BII[BII[BI)V: frames 7, words 123 -/
abbrev y_Kdf_hmac : MethodName := ⟨"ChainJudge$Kdf", "hmac", "([BII[BII[BI)V"⟩
theorem lm_Kdf_63 : Cond.methodLink "ChainJudge$Kdf" 63 y_Kdf_begin ∈ tables_1 ∨ ∃ host, Cond.methodLinkNest "ChainJudge$Kdf" 63 y_Kdf_begin host ∈ tables_1 := Or.inl (fx_m4 (List.mem_of_getElem? (i := 144) rfl))
theorem lm_Kdf_66 : Cond.methodLink "ChainJudge$Kdf" 66 y_Kdf_end ∈ tables_1 ∨ ∃ host, Cond.methodLinkNest "ChainJudge$Kdf" 66 y_Kdf_end host ∈ tables_1 := Or.inl (fx_m4 (List.mem_of_getElem? (i := 210) rfl))
section
variable {p : Program} {l : Launch} {e : Env} {R : Room} {s : State} {m : MethodId} {args : Array Value} {below : List Frame} {meth : Method} {c : Code} {H : Heap} {locs : List Loc} {cells slots : Nat}
variable {D : DD} {y : MethodName} {cc : ByteArray} {nL kf kw : Nat} {ret : Option FieldType} {hh : List (Nat × Nat × Nat × Nat)} {h0 h : AH} {pc : Nat} {ls : Array Slot} {rest : List Value} {b idx : Nat}
theorem iv_Kdf_begin {r1 : Nat} {x2 : Int32} {x3 : Int32} (C : fx_CX D y cc nL kf kw ret hh h0 p R s m meth c) (F : fx_F D h0 h H locs cells slots) (hw1 : Cond.methodLink y.cls idx y_Kdf_begin ∈ tables_1 ∨ ∃ host, Cond.methodLinkNest y.cls idx y_Kdf_begin host ∈ tables_1) (hk : hp_k h b = 5) (hd : decode cc pc = .ok (.invokevirtual idx, 3)) : fx_IV p l e R s m args below meth c H locs cells slots (F0 m pc ls (.int x3 :: .int x2 :: .ref r1 :: .ref b :: rest)) rest y_Kdf_begin [.ref b, .ref r1, .int x2, .int x3] 3 := fun T hT X => fx_invV (As := [.ref r1, .int x2, .int x3]) (Cn := "ChainJudge$Kdf") C X hw1 (fx_m4 (List.mem_of_getElem? (i := 145) rfl)) (fx_selW C (fx_m4 (List.mem_of_getElem? (i := 146) rfl))) hm_Kdf_begin ⟨by decide, by decide⟩ (by rw [hT]; exact fx_clsO (ci := 4) (r := ("ChainJudge$Kdf", fx_T4, 6)) C F rfl (by decide) hk) rfl (n := 3) (by decide +kernel) rfl rfl hd
theorem iv_Kdf_end {r1 : Nat} {x2 : Int32} (C : fx_CX D y cc nL kf kw ret hh h0 p R s m meth c) (F : fx_F D h0 h H locs cells slots) (hw1 : Cond.methodLink y.cls idx y_Kdf_end ∈ tables_1 ∨ ∃ host, Cond.methodLinkNest y.cls idx y_Kdf_end host ∈ tables_1) (hk : hp_k h b = 5) (hd : decode cc pc = .ok (.invokevirtual idx, 3)) : fx_IV p l e R s m args below meth c H locs cells slots (F0 m pc ls (.int x2 :: .ref r1 :: .ref b :: rest)) rest y_Kdf_end [.ref b, .ref r1, .int x2] 3 := fun T hT X => fx_invV (As := [.ref r1, .int x2]) (Cn := "ChainJudge$Kdf") C X hw1 (fx_m4 (List.mem_of_getElem? (i := 211) rfl)) (fx_selW C (fx_m4 (List.mem_of_getElem? (i := 212) rfl))) hm_Kdf_end ⟨by decide, by decide⟩ (by rw [hT]; exact fx_clsO (ci := 4) (r := ("ChainJudge$Kdf", fx_T4, 6)) C F rfl (by decide) hk) rfl (n := 2) (by decide +kernel) rfl rfl hd
end
def dl_Kdf_hmac : List (Nat × Instr × Nat) := [(0, .aload_n 0, 1), (1, .aload_n 1, 1), (2, .iload_n 2, 1), (3, .iload_n 3, 1), (4, .invokevirtual 63, 3), (7, .aload_n 0, 1), (8, .getfield 7, 3), (11, .aload 4, 2), (13, .iload 5, 2), (15, .iload 6, 2), (17, .invokevirtual 45, 3), (20, .aload_n 0, 1), (21, .aload 7, 2), (23, .iload 8, 2), (25, .invokevirtual 66, 3), (28, .return_, 1)]
theorem dk_Kdf_hmac : fx_dec prog_6_method_4_code dl_Kdf_hmac = true := by decide +kernel
theorem d_Kdf_hmac_0 : decode prog_6_method_4_code 0 = .ok (.aload_n 0, 1) := fx_dat dk_Kdf_hmac 0 rfl
theorem d_Kdf_hmac_1 : decode prog_6_method_4_code 1 = .ok (.aload_n 1, 1) := fx_dat dk_Kdf_hmac 1 rfl
theorem d_Kdf_hmac_2 : decode prog_6_method_4_code 2 = .ok (.iload_n 2, 1) := fx_dat dk_Kdf_hmac 2 rfl
theorem d_Kdf_hmac_3 : decode prog_6_method_4_code 3 = .ok (.iload_n 3, 1) := fx_dat dk_Kdf_hmac 3 rfl
theorem d_Kdf_hmac_4 : decode prog_6_method_4_code 4 = .ok (.invokevirtual 63, 3) := fx_dat dk_Kdf_hmac 4 rfl
theorem d_Kdf_hmac_7 : decode prog_6_method_4_code 7 = .ok (.aload_n 0, 1) := fx_dat dk_Kdf_hmac 5 rfl
theorem d_Kdf_hmac_8 : decode prog_6_method_4_code 8 = .ok (.getfield 7, 3) := fx_dat dk_Kdf_hmac 6 rfl
theorem d_Kdf_hmac_11 : decode prog_6_method_4_code 11 = .ok (.aload 4, 2) := fx_dat dk_Kdf_hmac 7 rfl
theorem d_Kdf_hmac_13 : decode prog_6_method_4_code 13 = .ok (.iload 5, 2) := fx_dat dk_Kdf_hmac 8 rfl
theorem d_Kdf_hmac_15 : decode prog_6_method_4_code 15 = .ok (.iload 6, 2) := fx_dat dk_Kdf_hmac 9 rfl
theorem d_Kdf_hmac_17 : decode prog_6_method_4_code 17 = .ok (.invokevirtual 45, 3) := fx_dat dk_Kdf_hmac 10 rfl
theorem d_Kdf_hmac_20 : decode prog_6_method_4_code 20 = .ok (.aload_n 0, 1) := fx_dat dk_Kdf_hmac 11 rfl
theorem d_Kdf_hmac_21 : decode prog_6_method_4_code 21 = .ok (.aload 7, 2) := fx_dat dk_Kdf_hmac 12 rfl
theorem d_Kdf_hmac_23 : decode prog_6_method_4_code 23 = .ok (.iload 8, 2) := fx_dat dk_Kdf_hmac 13 rfl
theorem d_Kdf_hmac_25 : decode prog_6_method_4_code 25 = .ok (.invokevirtual 66, 3) := fx_dat dk_Kdf_hmac 14 rfl
theorem d_Kdf_hmac_28 : decode prog_6_method_4_code 28 = .ok (.return_, 1) := fx_dat dk_Kdf_hmac 15 rfl
def m_Kdf_hmac (Q : AH → Prop) (r0 : Nat) (r1 : Nat) (x2 : Int32) (x3 : Int32) (r4 : Nat) (x5 : Int32) (x6 : Int32) (r7 : Nat) (x8 : Int32) (h : AH) : Prop := hp_k h r0 = 5 ∧ m_Kdf_begin (fun h1 => fx_ext h h1 → ∃ b1, hp_R h1 r0 1 = some b1 ∧ hp_k h1 b1 = 6 ∧ m_Dig_update (fun h2 => fx_ext h1 h2 → m_Kdf_end (fun h3 => fx_ext h2 h3 → Q h3) r0 r7 x8 h2) b1 r4 x5 x6 h1) r0 r1 x2 x3 h
theorem b_Kdf_hmac_0 {p : Program} {l : Launch} {e : Env} {R : Room} {s : State} {m : MethodId} {args : Array Value} {below : List Frame} {meth : Method} {c : Code} {D : DD} {h0 : AH} {Q : AH → Prop} (C : fx_CX D y_Kdf_hmac prog_6_method_4_code 9 7 123 (none) [] h0 p R s m meth c) (hl : l.flags = flags0) (r0 : Nat) (r1 : Nat) (x2 : Int32) (x3 : Int32) (r4 : Nat) (x5 : Int32) (x6 : Int32) (r7 : Nat) (x8 : Int32) (h : AH) (hw : m_Kdf_hmac Q r0 r1 x2 x3 r4 x5 x6 r7 x8 h) : ∀ (ls : Array Slot) (H : Heap) (locs : List Loc) (cells slots : Nat), lv_has ls 9 [(0, .ref r0), (1, .ref r1), (2, .int x2), (3, .int x3), (4, .ref r4), (5, .int x5), (6, .int x6), (7, .ref r7), (8, .int x8)] → fx_F D h0 h H locs cells slots → W p l e R s m args below meth c H locs cells slots (fx_Z D below s h0 (fx_oV Q fx_no)) (F0 m 0 ls []) := by
  unfold m_Kdf_hmac at hw
  intro ls H locs cells slots hv F
  refine lv_aload_n C.ex C.by d_Kdf_hmac_0 rfl (lv_at hv 0 rfl) ?_
  refine lv_aload_n C.ex C.by d_Kdf_hmac_1 rfl (lv_at hv 1 rfl) ?_
  refine lv_iload_n C.ex C.by d_Kdf_hmac_2 rfl (lv_at hv 2 rfl) ?_
  refine lv_iload_n C.ex C.by d_Kdf_hmac_3 rfl (lv_at hv 3 rfl) ?_
  obtain ⟨hk1, hw⟩ := hw
  refine fx_callV C F (c_Kdf_begin hl hw) hm_Kdf_begin hi_Kdf_begin hv.1 (by decide) (Nat.le_of_ble_eq_true rfl) (iv_Kdf_begin C F lm_Kdf_63 hk1 d_Kdf_hmac_4) (fx_out0 _) fx_eno (fun h1 H locs cells slots hw hx1 F => ?_)
  replace hw := hw hx1
  have hk1 := (hx1).k hk1
  refine lv_aload_n C.ex C.by d_Kdf_hmac_7 rfl (lv_at hv 0 rfl) ?_
  obtain ⟨b1, hb1, hw⟩ := hw
  refine fx_getR C F lf_Kdf_7 hk1 rfl hb1 d_Kdf_hmac_8 ?_
  refine lv_aload C.ex C.by d_Kdf_hmac_11 (lv_at hv 4 rfl) ?_
  refine lv_iload C.ex C.by d_Kdf_hmac_13 (lv_at hv 5 rfl) ?_
  refine lv_iload C.ex C.by d_Kdf_hmac_15 (lv_at hv 6 rfl) ?_
  obtain ⟨hk2, hw⟩ := hw
  refine fx_callV C F (c_Dig_update hl hw) hm_Dig_update hi_Dig_update hv.1 (by decide) (Nat.le_of_ble_eq_true rfl) (iv_Dig_update C F lm_Kdf_45 hk2 d_Kdf_hmac_17) (fx_out0 _) fx_eno (fun h2 H locs cells slots hw hx2 F => ?_)
  replace hw := hw hx2
  have hk2 := (hx2).k hk2
  have hk1 := (hx2).k hk1
  refine lv_aload_n C.ex C.by d_Kdf_hmac_20 rfl (lv_at hv 0 rfl) ?_
  refine lv_aload C.ex C.by d_Kdf_hmac_21 (lv_at hv 7 rfl) ?_
  refine lv_iload C.ex C.by d_Kdf_hmac_23 (lv_at hv 8 rfl) ?_
  refine fx_callV C F (c_Kdf_end hl hw) hm_Kdf_end hi_Kdf_end hv.1 (by decide) (Nat.le_of_ble_eq_true rfl) (iv_Kdf_end C F lm_Kdf_66 hk1 d_Kdf_hmac_25) (fx_out0 _) fx_eno (fun h3 H locs cells slots hw hx3 F => ?_)
  replace hw := hw hx3
  have hk2 := (hx3).k hk2
  have hk1 := (hx3).k hk1
  exact fx_vret C F d_Kdf_hmac_28 (Or.inl ⟨rfl, hw⟩)
theorem hm_Kdf_hmac : fx_hd y_Kdf_hmac prog_6_method_4_code 9 (none) [] ∈ tables_1 := (fx_m4 (List.mem_of_getElem? (i := 143) rfl))
theorem hi_Kdf_hmac : Cond.initialized y_Kdf_hmac.cls ∈ tables_1 := (fx_m1 (List.mem_of_getElem? (i := 7) rfl))
theorem c_Kdf_hmac {l : Launch} (hl : l.flags = flags0) {D : DD} {Q : AH → Prop} {r0 : Nat} {r1 : Nat} {x2 : Int32} {x3 : Int32} {r4 : Nat} {x5 : Int32} {x6 : Int32} {r7 : Nat} {x8 : Int32} {h : AH} (hw : m_Kdf_hmac Q r0 r1 x2 x3 r4 x5 x6 r7 x8 h) : fx_Mt l D y_Kdf_hmac (fx_hd y_Kdf_hmac prog_6_method_4_code 9 (none) []) 7 123 [.ref r0, .ref r1, .int x2, .int x3, .ref r4, .int x5, .int x6, .ref r7, .int x8] h (fx_oV Q fx_no) := by
  refine fx_ofW (plainFor_of_name (by decide)) (fun p e s m below meth c C F => ?_)
  have hv := lv_entry ([.ref r0, .ref r1, .int x2, .int x3, .ref r4, .int x5, .int x6, .ref r7, .int x8]) (n := 9) (Nat.le_of_ble_eq_true rfl)
  rw [lg_entry_eq]
  generalize (lg_sl ([.ref r0, .ref r1, .int x2, .int x3, .ref r4, .int x5, .int x6, .ref r7, .int x8]) ++ List.replicate (9 - (lg_sl ([.ref r0, .ref r1, .int x2, .int x3, .ref r4, .int x5, .int x6, .ref r7, .int x8])).length) Slot.unset).toArray = ls at hv ⊢
  have hv : lv_has ls 9 [(0, .ref r0), (1, .ref r1), (2, .int x2), (3, .int x3), (4, .ref r4), (5, .int x5), (6, .int x6), (7, .ref r7), (8, .int x8)] := hv
  exact b_Kdf_hmac_0 C hl _ _ _ _ _ _ _ _ _ _ hw _ _ _ _ _ hv F
/-! ChainJudge$KeyedMarks.mark([BI[BII)[B: frames 8, words 143 -/
abbrev y_KM_mark : MethodName := ⟨"ChainJudge$KeyedMarks", "mark", "([BI[BII)[B"⟩
theorem lm_KM_56 : Cond.methodLink "ChainJudge$KeyedMarks" 56 y_Kdf_hmac ∈ tables_1 ∨ ∃ host, Cond.methodLinkNest "ChainJudge$KeyedMarks" 56 y_Kdf_hmac host ∈ tables_1 := Or.inl (fx_m4 (List.mem_of_getElem? (i := 140) rfl))
section
variable {p : Program} {l : Launch} {e : Env} {R : Room} {s : State} {m : MethodId} {args : Array Value} {below : List Frame} {meth : Method} {c : Code} {H : Heap} {locs : List Loc} {cells slots : Nat}
variable {D : DD} {y : MethodName} {cc : ByteArray} {nL kf kw : Nat} {ret : Option FieldType} {hh : List (Nat × Nat × Nat × Nat)} {h0 h : AH} {pc : Nat} {ls : Array Slot} {rest : List Value} {b idx : Nat}
theorem iv_Kdf_hmac {r1 : Nat} {x2 : Int32} {x3 : Int32} {r4 : Nat} {x5 : Int32} {x6 : Int32} {r7 : Nat} {x8 : Int32} (C : fx_CX D y cc nL kf kw ret hh h0 p R s m meth c) (F : fx_F D h0 h H locs cells slots) (hw1 : Cond.methodLink y.cls idx y_Kdf_hmac ∈ tables_1 ∨ ∃ host, Cond.methodLinkNest y.cls idx y_Kdf_hmac host ∈ tables_1) (hk : hp_k h b = 5) (hd : decode cc pc = .ok (.invokevirtual idx, 3)) : fx_IV p l e R s m args below meth c H locs cells slots (F0 m pc ls (.int x8 :: .ref r7 :: .int x6 :: .int x5 :: .ref r4 :: .int x3 :: .int x2 :: .ref r1 :: .ref b :: rest)) rest y_Kdf_hmac [.ref b, .ref r1, .int x2, .int x3, .ref r4, .int x5, .int x6, .ref r7, .int x8] 3 := fun T hT X => fx_invV (As := [.ref r1, .int x2, .int x3, .ref r4, .int x5, .int x6, .ref r7, .int x8]) (Cn := "ChainJudge$Kdf") C X hw1 (fx_m4 (List.mem_of_getElem? (i := 141) rfl)) (fx_selW C (fx_m4 (List.mem_of_getElem? (i := 142) rfl))) hm_Kdf_hmac ⟨by decide, by decide⟩ (by rw [hT]; exact fx_clsO (ci := 4) (r := ("ChainJudge$Kdf", fx_T4, 6)) C F rfl (by decide) hk) rfl (n := 8) (by decide +kernel) rfl rfl hd
end
def dl_KM_mark : List (Nat × Instr × Nat) := [(0, .aload_n 0, 1), (1, .getfield 15, 3), (4, .aload_n 1, 1), (5, .iload_n 2, 1), (6, .bipush 32, 2), (8, .aload_n 3, 1), (9, .iload 4, 2), (11, .iload 5, 2), (13, .aload_n 0, 1), (14, .getfield 21, 3), (17, .iconst 0, 1), (18, .invokevirtual 56, 3), (21, .aload_n 0, 1), (22, .getfield 21, 3), (25, .areturn, 1)]
theorem dk_KM_mark : fx_dec prog_7_method_6_code dl_KM_mark = true := by decide +kernel
theorem d_KM_mark_0 : decode prog_7_method_6_code 0 = .ok (.aload_n 0, 1) := fx_dat dk_KM_mark 0 rfl
theorem d_KM_mark_1 : decode prog_7_method_6_code 1 = .ok (.getfield 15, 3) := fx_dat dk_KM_mark 1 rfl
theorem d_KM_mark_4 : decode prog_7_method_6_code 4 = .ok (.aload_n 1, 1) := fx_dat dk_KM_mark 2 rfl
theorem d_KM_mark_5 : decode prog_7_method_6_code 5 = .ok (.iload_n 2, 1) := fx_dat dk_KM_mark 3 rfl
theorem d_KM_mark_6 : decode prog_7_method_6_code 6 = .ok (.bipush 32, 2) := fx_dat dk_KM_mark 4 rfl
theorem d_KM_mark_8 : decode prog_7_method_6_code 8 = .ok (.aload_n 3, 1) := fx_dat dk_KM_mark 5 rfl
theorem d_KM_mark_9 : decode prog_7_method_6_code 9 = .ok (.iload 4, 2) := fx_dat dk_KM_mark 6 rfl
theorem d_KM_mark_11 : decode prog_7_method_6_code 11 = .ok (.iload 5, 2) := fx_dat dk_KM_mark 7 rfl
theorem d_KM_mark_13 : decode prog_7_method_6_code 13 = .ok (.aload_n 0, 1) := fx_dat dk_KM_mark 8 rfl
theorem d_KM_mark_14 : decode prog_7_method_6_code 14 = .ok (.getfield 21, 3) := fx_dat dk_KM_mark 9 rfl
theorem d_KM_mark_17 : decode prog_7_method_6_code 17 = .ok (.iconst 0, 1) := fx_dat dk_KM_mark 10 rfl
theorem d_KM_mark_18 : decode prog_7_method_6_code 18 = .ok (.invokevirtual 56, 3) := fx_dat dk_KM_mark 11 rfl
theorem d_KM_mark_21 : decode prog_7_method_6_code 21 = .ok (.aload_n 0, 1) := fx_dat dk_KM_mark 12 rfl
theorem d_KM_mark_22 : decode prog_7_method_6_code 22 = .ok (.getfield 21, 3) := fx_dat dk_KM_mark 13 rfl
theorem d_KM_mark_25 : decode prog_7_method_6_code 25 = .ok (.areturn, 1) := fx_dat dk_KM_mark 14 rfl
def m_KM_mark (Q : Nat → AH → Prop) (r0 : Nat) (r1 : Nat) (x2 : Int32) (r3 : Nat) (x4 : Int32) (x5 : Int32) (h : AH) : Prop := hp_k h r0 = 4 ∧ ∃ b1, hp_R h r0 0 = some b1 ∧ ∃ b2, hp_R h r0 1 = some b2 ∧ hp_k h b1 = 5 ∧ m_Kdf_hmac (fun h1 => fx_ext h h1 → ∃ b3, hp_R h1 r0 1 = some b3 ∧ Q b3 h1) b1 r1 x2 (32 : Int32) r3 x4 x5 b2 (0 : Int32) h
theorem b_KM_mark_0 {p : Program} {l : Launch} {e : Env} {R : Room} {s : State} {m : MethodId} {args : Array Value} {below : List Frame} {meth : Method} {c : Code} {D : DD} {h0 : AH} {Q : Nat → AH → Prop} (C : fx_CX D y_KM_mark prog_7_method_6_code 6 8 143 (Option.some (FieldType.array FieldType.byte)) [] h0 p R s m meth c) (hl : l.flags = flags0) (r0 : Nat) (r1 : Nat) (x2 : Int32) (r3 : Nat) (x4 : Int32) (x5 : Int32) (h : AH) (hw : m_KM_mark Q r0 r1 x2 r3 x4 x5 h) : ∀ (ls : Array Slot) (H : Heap) (locs : List Loc) (cells slots : Nat), lv_has ls 6 [(0, .ref r0), (1, .ref r1), (2, .int x2), (3, .ref r3), (4, .int x4), (5, .int x5)] → fx_F D h0 h H locs cells slots → W p l e R s m args below meth c H locs cells slots (fx_Z D below s h0 (fx_oR Q fx_no)) (F0 m 0 ls []) := by
  unfold m_KM_mark at hw
  intro ls H locs cells slots hv F
  refine lv_aload_n C.ex C.by d_KM_mark_0 rfl (lv_at hv 0 rfl) ?_
  obtain ⟨hk1, hw⟩ := hw
  obtain ⟨b1, hb1, hw⟩ := hw
  refine fx_getR C F lf_KM_15 hk1 rfl hb1 d_KM_mark_1 ?_
  refine lv_aload_n C.ex C.by d_KM_mark_4 rfl (lv_at hv 1 rfl) ?_
  refine lv_iload_n C.ex C.by d_KM_mark_5 rfl (lv_at hv 2 rfl) ?_
  refine lv_bipush (v := (32 : Int32)) C.ex C.by d_KM_mark_6 (by decide) ?_
  refine lv_aload_n C.ex C.by d_KM_mark_8 rfl (lv_at hv 3 rfl) ?_
  refine lv_iload C.ex C.by d_KM_mark_9 (lv_at hv 4 rfl) ?_
  refine lv_iload C.ex C.by d_KM_mark_11 (lv_at hv 5 rfl) ?_
  refine lv_aload_n C.ex C.by d_KM_mark_13 rfl (lv_at hv 0 rfl) ?_
  obtain ⟨b2, hb2, hw⟩ := hw
  refine fx_getR C F lf_KM_21 hk1 rfl hb2 d_KM_mark_14 ?_
  refine lv_iconst (v := (0 : Int32)) C.ex C.by d_KM_mark_17 (by decide) ?_
  obtain ⟨hk2, hw⟩ := hw
  refine fx_callV C F (c_Kdf_hmac hl hw) hm_Kdf_hmac hi_Kdf_hmac hv.1 (by decide) (Nat.le_of_ble_eq_true rfl) (iv_Kdf_hmac C F lm_KM_56 hk2 d_KM_mark_18) (fx_out0 _) fx_eno (fun h1 H locs cells slots hw hx1 F => ?_)
  replace hw := hw hx1
  have hk2 := (hx1).k hk2
  have hk1 := (hx1).k hk1
  refine lv_aload_n C.ex C.by d_KM_mark_21 rfl (lv_at hv 0 rfl) ?_
  obtain ⟨b3, hb3, hw⟩ := hw
  refine fx_getR C F lf_KM_21 hk1 rfl hb3 d_KM_mark_22 ?_
  exact fx_aret C F (Or.inr ⟨_, rfl⟩) d_KM_mark_25 (Or.inl ⟨_, rfl, hw⟩)
theorem hm_KM_mark : fx_hd y_KM_mark prog_7_method_6_code 6 (Option.some (FieldType.array FieldType.byte)) [] ∈ tables_1 := (fx_m4 (List.mem_of_getElem? (i := 139) rfl))
theorem hi_KM_mark : Cond.initialized y_KM_mark.cls ∈ tables_1 := (fx_m1 (List.mem_of_getElem? (i := 6) rfl))
theorem c_KM_mark {l : Launch} (hl : l.flags = flags0) {D : DD} {Q : Nat → AH → Prop} {r0 : Nat} {r1 : Nat} {x2 : Int32} {r3 : Nat} {x4 : Int32} {x5 : Int32} {h : AH} (hw : m_KM_mark Q r0 r1 x2 r3 x4 x5 h) : fx_Mt l D y_KM_mark (fx_hd y_KM_mark prog_7_method_6_code 6 (Option.some (FieldType.array FieldType.byte)) []) 8 143 [.ref r0, .ref r1, .int x2, .ref r3, .int x4, .int x5] h (fx_oR Q fx_no) := by
  refine fx_ofW (plainFor_of_name (by decide)) (fun p e s m below meth c C F => ?_)
  have hv := lv_entry ([.ref r0, .ref r1, .int x2, .ref r3, .int x4, .int x5]) (n := 6) (Nat.le_of_ble_eq_true rfl)
  rw [lg_entry_eq]
  generalize (lg_sl ([.ref r0, .ref r1, .int x2, .ref r3, .int x4, .int x5]) ++ List.replicate (6 - (lg_sl ([.ref r0, .ref r1, .int x2, .ref r3, .int x4, .int x5])).length) Slot.unset).toArray = ls at hv ⊢
  have hv : lv_has ls 6 [(0, .ref r0), (1, .ref r1), (2, .int x2), (3, .ref r3), (4, .int x4), (5, .int x5)] := hv
  exact b_KM_mark_0 C hl _ _ _ _ _ _ _ hw _ _ _ _ _ hv F
/-! ChainJudge.roomFor(I)V: frames 6, words 81, throws -/
abbrev y_J_roomFor : MethodName := ⟨"ChainJudge", "roomFor", "(I)V"⟩
def dl_J_roomFor : List (Nat × Instr × Nat) := [(0, .aload_n 0, 1), (1, .getfield 36, 3), (4, .invokevirtual 125, 3), (7, .sipush 1000, 3), (10, .if_icmp .eq 14, 3), (13, .aload_n 0, 1), (14, .getfield 93, 3), (17, .iload_n 1, 1), (18, .iadd, 1), (19, .ldc 142, 2), (21, .if_icmp .le 11, 3), (24, .new 100, 3), (27, .dup, 1), (28, .invokespecial 102, 3), (31, .athrow, 1), (32, .return_, 1)]
theorem dk_J_roomFor : fx_dec prog_1_method_12_code dl_J_roomFor = true := by decide +kernel
theorem d_J_roomFor_0 : decode prog_1_method_12_code 0 = .ok (.aload_n 0, 1) := fx_dat dk_J_roomFor 0 rfl
theorem d_J_roomFor_1 : decode prog_1_method_12_code 1 = .ok (.getfield 36, 3) := fx_dat dk_J_roomFor 1 rfl
theorem d_J_roomFor_4 : decode prog_1_method_12_code 4 = .ok (.invokevirtual 125, 3) := fx_dat dk_J_roomFor 2 rfl
theorem d_J_roomFor_7 : decode prog_1_method_12_code 7 = .ok (.sipush 1000, 3) := fx_dat dk_J_roomFor 3 rfl
theorem d_J_roomFor_10 : decode prog_1_method_12_code 10 = .ok (.if_icmp .eq 14, 3) := fx_dat dk_J_roomFor 4 rfl
theorem d_J_roomFor_13 : decode prog_1_method_12_code 13 = .ok (.aload_n 0, 1) := fx_dat dk_J_roomFor 5 rfl
theorem d_J_roomFor_14 : decode prog_1_method_12_code 14 = .ok (.getfield 93, 3) := fx_dat dk_J_roomFor 6 rfl
theorem d_J_roomFor_17 : decode prog_1_method_12_code 17 = .ok (.iload_n 1, 1) := fx_dat dk_J_roomFor 7 rfl
theorem d_J_roomFor_18 : decode prog_1_method_12_code 18 = .ok (.iadd, 1) := fx_dat dk_J_roomFor 8 rfl
theorem d_J_roomFor_19 : decode prog_1_method_12_code 19 = .ok (.ldc 142, 2) := fx_dat dk_J_roomFor 9 rfl
theorem d_J_roomFor_21 : decode prog_1_method_12_code 21 = .ok (.if_icmp .le 11, 3) := fx_dat dk_J_roomFor 10 rfl
theorem d_J_roomFor_24 : decode prog_1_method_12_code 24 = .ok (.new 100, 3) := fx_dat dk_J_roomFor 11 rfl
theorem d_J_roomFor_27 : decode prog_1_method_12_code 27 = .ok (.dup, 1) := fx_dat dk_J_roomFor 12 rfl
theorem d_J_roomFor_28 : decode prog_1_method_12_code 28 = .ok (.invokespecial 102, 3) := fx_dat dk_J_roomFor 13 rfl
theorem d_J_roomFor_31 : decode prog_1_method_12_code 31 = .ok (.athrow, 1) := fx_dat dk_J_roomFor 14 rfl
theorem d_J_roomFor_32 : decode prog_1_method_12_code 32 = .ok (.return_, 1) := fx_dat dk_J_roomFor 15 rfl
def m_J_roomFor_24 (Q : AH → Prop) (E : Nat → AH → Prop) (h : AH) : Prop := fx_has h 6 ∧ ∀ (_ : fx_wf h) (q1 : Nat), q1 = hp_z h → ∀ h1 : AH, h1 = up_N h 15 0 6 → E q1 h1
def m_J_roomFor (Q : AH → Prop) (E : Nat → AH → Prop) (r0 : Nat) (x1 : Int32) (h : AH) : Prop := hp_k h r0 = 1 ∧ ∃ b1, hp_R h r0 4 = some b1 ∧ hp_k h b1 = 12 ∧ m_AL_size (fun v1 h1 => fx_ext h h1 → (v1 = (1000 : Int32) → m_J_roomFor_24 Q E h1) ∧ (¬ v1 = (1000 : Int32) → (((hp_I h1 r0 15) + x1) ≤ (262144 : Int32) → Q h1) ∧ (¬ ((hp_I h1 r0 15) + x1) ≤ (262144 : Int32) → m_J_roomFor_24 Q E h1))) b1 h
theorem b_J_roomFor_24 {p : Program} {l : Launch} {e : Env} {R : Room} {s : State} {m : MethodId} {args : Array Value} {below : List Frame} {meth : Method} {c : Code} {D : DD} {h0 : AH} {Q : AH → Prop} {E : Nat → AH → Prop} (C : fx_CX D y_J_roomFor prog_1_method_12_code 2 6 81 (none) [] h0 p R s m meth c) (hl : l.flags = flags0) (h : AH) (hw : m_J_roomFor_24 Q E h) : ∀ (ls : Array Slot) (H : Heap) (locs : List Loc) (cells slots : Nat), lv_has ls 2 [] → fx_F D h0 h H locs cells slots → W p l e R s m args below meth c H locs cells slots (fx_Z D below s h0 (fx_oV Q E)) (F0 m 24 ls []) := by
  unfold m_J_roomFor_24 at hw
  intro ls H locs cells slots hv F
  obtain ⟨hs, hw⟩ := hw
  let q1 : Nat := hp_z h
  let h1 : AH := up_N h 15 0 6
  replace hw := hw F.wf q1 rfl h1 rfl
  have hkq1 : hp_k h1 q1 = 15 := fx_nk _ _ _ _
  refine fx_exc (r := ("java/lang/IllegalStateException", fx_T14, 0)) (names := fx_rn) C F rfl rfl (fx_m2 (List.mem_of_getElem? (i := 185) rfl)) (fx_m1 (List.mem_of_getElem? (i := 19) rfl)) (by decide +kernel) (by decide +kernel) ex_J_102 hs hv.1 hl d_J_roomFor_24 d_J_roomFor_27 d_J_roomFor_28 (by decide) (Nat.le_of_ble_eq_true rfl) (fun H locs cells slots (F : fx_F D h0 h1 H locs cells slots) => ?_)
  exact fx_athrow C F (fx_out0 _) d_J_roomFor_31 (Or.inr ⟨_, rfl, hw⟩)
theorem b_J_roomFor_0 {p : Program} {l : Launch} {e : Env} {R : Room} {s : State} {m : MethodId} {args : Array Value} {below : List Frame} {meth : Method} {c : Code} {D : DD} {h0 : AH} {Q : AH → Prop} {E : Nat → AH → Prop} (C : fx_CX D y_J_roomFor prog_1_method_12_code 2 6 81 (none) [] h0 p R s m meth c) (hl : l.flags = flags0) (r0 : Nat) (x1 : Int32) (h : AH) (hw : m_J_roomFor Q E r0 x1 h) : ∀ (ls : Array Slot) (H : Heap) (locs : List Loc) (cells slots : Nat), lv_has ls 2 [(0, .ref r0), (1, .int x1)] → fx_F D h0 h H locs cells slots → W p l e R s m args below meth c H locs cells slots (fx_Z D below s h0 (fx_oV Q E)) (F0 m 0 ls []) := by
  unfold m_J_roomFor at hw
  intro ls H locs cells slots hv F
  refine lv_aload_n C.ex C.by d_J_roomFor_0 rfl (lv_at hv 0 rfl) ?_
  obtain ⟨hk1, hw⟩ := hw
  obtain ⟨b1, hb1, hw⟩ := hw
  refine fx_getR C F lf_J_36 hk1 rfl hb1 d_J_roomFor_1 ?_
  obtain ⟨hk2, hw⟩ := hw
  refine fx_callI C F (c_AL_size hl hw) hm_AL_size hi_AL_size hv.1 (by decide) (Nat.le_of_ble_eq_true rfl) (iv_AL_size C F lm_J_125 hk2 d_J_roomFor_4) (fx_out0 _) fx_eno (fun v1 h1 H locs cells slots hw hx1 F => ?_)
  replace hw := hw hx1
  have hk2 := (hx1).k hk2
  have hk1 := (hx1).k hk1
  refine lv_sipush (v := (1000 : Int32)) C.ex C.by d_J_roomFor_7 (by decide) ?_
  refine lv_icmp_eq C.ex C.by d_J_roomFor_10 rfl (fun hc => ?_) (fun hc => ?_)
  · replace hw := hw.1 hc
    exact b_J_roomFor_24 C hl _ hw _ _ _ _ _ (lv_sub hv [] rfl) F
  · replace hw := hw.2 hc
    refine lv_aload_n C.ex C.by d_J_roomFor_13 rfl (lv_at hv 0 rfl) ?_
    refine fx_getI C F lf_J_93 hk1 rfl d_J_roomFor_14 ?_
    refine lv_iload_n C.ex C.by d_J_roomFor_17 rfl (lv_at hv 1 rfl) ?_
    refine lv_iadd C.ex C.by d_J_roomFor_18 ?_
    refine lv_ldc (v := (262144 : Int32)) C.ex C.by C.ow (C.tw.at (fx_m4 (List.mem_of_getElem? (i := 222) rfl)) rfl rfl) d_J_roomFor_19 ?_
    refine lv_icmp_le C.ex C.by d_J_roomFor_21 rfl (fun hc => ?_) (fun hc => ?_)
    · replace hw := hw.1 hc
      exact fx_vret C F d_J_roomFor_32 (Or.inl ⟨rfl, hw⟩)
    · replace hw := hw.2 hc
      exact b_J_roomFor_24 C hl _ hw _ _ _ _ _ (lv_sub hv [] rfl) F
theorem hm_J_roomFor : fx_hd y_J_roomFor prog_1_method_12_code 2 (none) [] ∈ tables_1 := (fx_m4 (List.mem_of_getElem? (i := 221) rfl))
theorem hi_J_roomFor : Cond.initialized y_J_roomFor.cls ∈ tables_1 := (fx_m1 (List.mem_of_getElem? (i := 1) rfl))
theorem c_J_roomFor {l : Launch} (hl : l.flags = flags0) {D : DD} {Q : AH → Prop} {E : Nat → AH → Prop} {r0 : Nat} {x1 : Int32} {h : AH} (hw : m_J_roomFor Q E r0 x1 h) : fx_Mt l D y_J_roomFor (fx_hd y_J_roomFor prog_1_method_12_code 2 (none) []) 6 81 [.ref r0, .int x1] h (fx_oV Q E) := by
  refine fx_ofW (plainFor_of_name (by decide)) (fun p e s m below meth c C F => ?_)
  have hv := lv_entry ([.ref r0, .int x1]) (n := 2) (Nat.le_of_ble_eq_true rfl)
  rw [lg_entry_eq]
  generalize (lg_sl ([.ref r0, .int x1]) ++ List.replicate (2 - (lg_sl ([.ref r0, .int x1])).length) Slot.unset).toArray = ls at hv ⊢
  have hv : lv_has ls 2 [(0, .ref r0), (1, .int x1)] := hv
  exact b_J_roomFor_0 C hl _ _ _ hw _ _ _ _ _ hv F
/-! ChainJudge$Held.<init>([BIII)V: frames 1, words 18 -/
abbrev y_Held_init : MethodName := ⟨"ChainJudge$Held", "<init>", "([BIII)V"⟩
theorem lf_Held_7 : fx_Lk "ChainJudge$Held" 7 2 0 := fx_Lk.mk (C := "ChainJudge$Held") (T := fx_T2) (N := 2) rfl (by decide) (by decide) (fx_m4 (List.mem_of_getElem? (i := 229) rfl))
theorem lf_Held_19 : fx_Lk "ChainJudge$Held" 19 2 1 := fx_Lk.mk (C := "ChainJudge$Held") (T := fx_T2) (N := 2) rfl (by decide) (by decide) (fx_m4 (List.mem_of_getElem? (i := 231) rfl))
def dl_Held_init : List (Nat × Instr × Nat) := [(0, .aload_n 0, 1), (1, .invokespecial 1, 3), (4, .aload_n 0, 1), (5, .iload_n 3, 1), (6, .newarray .byte, 2), (8, .putfield 7, 3), (11, .aload_n 1, 1), (12, .iload_n 2, 1), (13, .aload_n 0, 1), (14, .getfield 7, 3), (17, .iconst 0, 1), (18, .iload_n 3, 1), (19, .invokestatic 13, 3), (22, .aload_n 0, 1), (23, .iload 4, 2), (25, .putfield 19, 3), (28, .return_, 1)]
theorem dk_Held_init : fx_dec prog_4_method_1_code dl_Held_init = true := by decide +kernel
theorem d_Held_init_0 : decode prog_4_method_1_code 0 = .ok (.aload_n 0, 1) := fx_dat dk_Held_init 0 rfl
theorem d_Held_init_1 : decode prog_4_method_1_code 1 = .ok (.invokespecial 1, 3) := fx_dat dk_Held_init 1 rfl
theorem d_Held_init_4 : decode prog_4_method_1_code 4 = .ok (.aload_n 0, 1) := fx_dat dk_Held_init 2 rfl
theorem d_Held_init_5 : decode prog_4_method_1_code 5 = .ok (.iload_n 3, 1) := fx_dat dk_Held_init 3 rfl
theorem d_Held_init_6 : decode prog_4_method_1_code 6 = .ok (.newarray .byte, 2) := fx_dat dk_Held_init 4 rfl
theorem d_Held_init_8 : decode prog_4_method_1_code 8 = .ok (.putfield 7, 3) := fx_dat dk_Held_init 5 rfl
theorem d_Held_init_11 : decode prog_4_method_1_code 11 = .ok (.aload_n 1, 1) := fx_dat dk_Held_init 6 rfl
theorem d_Held_init_12 : decode prog_4_method_1_code 12 = .ok (.iload_n 2, 1) := fx_dat dk_Held_init 7 rfl
theorem d_Held_init_13 : decode prog_4_method_1_code 13 = .ok (.aload_n 0, 1) := fx_dat dk_Held_init 8 rfl
theorem d_Held_init_14 : decode prog_4_method_1_code 14 = .ok (.getfield 7, 3) := fx_dat dk_Held_init 9 rfl
theorem d_Held_init_17 : decode prog_4_method_1_code 17 = .ok (.iconst 0, 1) := fx_dat dk_Held_init 10 rfl
theorem d_Held_init_18 : decode prog_4_method_1_code 18 = .ok (.iload_n 3, 1) := fx_dat dk_Held_init 11 rfl
theorem d_Held_init_19 : decode prog_4_method_1_code 19 = .ok (.invokestatic 13, 3) := fx_dat dk_Held_init 12 rfl
theorem d_Held_init_22 : decode prog_4_method_1_code 22 = .ok (.aload_n 0, 1) := fx_dat dk_Held_init 13 rfl
theorem d_Held_init_23 : decode prog_4_method_1_code 23 = .ok (.iload 4, 2) := fx_dat dk_Held_init 14 rfl
theorem d_Held_init_25 : decode prog_4_method_1_code 25 = .ok (.putfield 19, 3) := fx_dat dk_Held_init 15 rfl
theorem d_Held_init_28 : decode prog_4_method_1_code 28 = .ok (.return_, 1) := fx_dat dk_Held_init 16 rfl
def m_Held_init (Q : AH → Prop) (r0 : Nat) (r1 : Nat) (x2 : Int32) (x3 : Int32) (x4 : Int32) (h : AH) : Prop := ¬ x3 < 0 ∧ (x3).toNatClampNeg ≤ 536870912 ∧ fx_has h (x3).toNatClampNeg ∧ ∀ (_ : fx_wf h) (q1 : Nat), q1 = hp_z h → ∀ h1 : AH, h1 = up_N h 101 (x3).toNatClampNeg (x3).toNatClampNeg → hp_k h1 r0 = 3 ∧ ∀ h2 : AH, h2 = up_R h1 r0 0 (some q1) → ∃ b1, hp_R h2 r0 0 = some b1 ∧ bk (hp_k h2 r1) ∧ hp_k h2 b1 = 101 ∧ ¬ x2 < 0 ∧ ¬ (0 : Int32) < 0 ∧ ¬ x3 < 0 ∧ x2.toNatClampNeg + x3.toNatClampNeg ≤ hp_n h2 r1 ∧ (0 : Int32).toNatClampNeg + x3.toNatClampNeg ≤ hp_n h2 b1 ∧ ∀ h3 : AH, h3 = up_CI h2 r1 x2.toNatClampNeg b1 (0 : Int32).toNatClampNeg x3.toNatClampNeg → ∀ h4 : AH, h4 = up_I h3 r0 1 x4 → Q h4
theorem b_Held_init_0 {p : Program} {l : Launch} {e : Env} {R : Room} {s : State} {m : MethodId} {args : Array Value} {below : List Frame} {meth : Method} {c : Code} {D : DD} {h0 : AH} {Q : AH → Prop} (C : fx_CX D y_Held_init prog_4_method_1_code 5 1 18 (none) [] h0 p R s m meth c) (hl : l.flags = flags0) (r0 : Nat) (r1 : Nat) (x2 : Int32) (x3 : Int32) (x4 : Int32) (h : AH) (hw : m_Held_init Q r0 r1 x2 x3 x4 h) : ∀ (ls : Array Slot) (H : Heap) (locs : List Loc) (cells slots : Nat), lv_has ls 5 [(0, .ref r0), (1, .ref r1), (2, .int x2), (3, .int x3), (4, .int x4)] → fx_F D h0 h H locs cells slots → W p l e R s m args below meth c H locs cells slots (fx_Z D below s h0 (fx_oV Q fx_no)) (F0 m 0 ls []) := by
  unfold m_Held_init at hw
  intro ls H locs cells slots hv F
  refine lv_aload_n C.ex C.by d_Held_init_0 rfl (lv_at hv 0 rfl) ?_
  refine fx_objI C (fx_m4 (List.mem_of_getElem? (i := 227) rfl)) (fx_m1 (List.mem_of_getElem? (i := 38) rfl)) (fx_m1 (List.mem_of_getElem? (i := 39) rfl)) hv.1 d_Held_init_1 (by decide) (Nat.le_of_ble_eq_true rfl) ?_
  refine lv_aload_n C.ex C.by d_Held_init_4 rfl (lv_at hv 0 rfl) ?_
  refine lv_iload_n C.ex C.by d_Held_init_5 rfl (lv_at hv 3 rfl) ?_
  obtain ⟨hn0, hn1, hs, hw⟩ := hw
  let q1 : Nat := hp_z h
  let h1 : AH := up_N h 101 (x3).toNatClampNeg (x3).toNatClampNeg
  replace hw := hw F.wf q1 rfl h1 rfl
  have hkq1 : hp_k h1 q1 = 101 := fx_nk _ _ _ _
  refine fx_newaB  C F (fx_m1 (List.mem_of_getElem? (i := 55) rfl)) hn0 hn1 hs d_Held_init_6 (fun H cells slots (F : fx_F D h0 h1 H locs cells slots) => ?_)
  obtain ⟨hk1, hw⟩ := hw
  let h2 : AH := up_R h1 r0 0 (some q1)
  replace hw := hw h2 rfl
  refine fx_putR C F lf_Held_7 hk1 rfl rfl (fx_mayF.ini rfl rfl rfl) d_Held_init_8 (fun H locs (F : fx_F D h0 h2 H locs _ _) => ?_)
  refine lv_aload_n C.ex C.by d_Held_init_11 rfl (lv_at hv 1 rfl) ?_
  refine lv_iload_n C.ex C.by d_Held_init_12 rfl (lv_at hv 2 rfl) ?_
  refine lv_aload_n C.ex C.by d_Held_init_13 rfl (lv_at hv 0 rfl) ?_
  obtain ⟨b1, hb1, hw⟩ := hw
  refine fx_getR C F lf_Held_7 hk1 rfl hb1 d_Held_init_14 ?_
  refine lv_iconst (v := (0 : Int32)) C.ex C.by d_Held_init_17 (by decide) ?_
  refine lv_iload_n C.ex C.by d_Held_init_18 rfl (lv_at hv 3 rfl) ?_
  obtain ⟨hk2, hw⟩ := hw
  obtain ⟨hk3, hw⟩ := hw
  obtain ⟨g1, g2, g3, g4, g5, hw⟩ := hw
  let h3 : AH := up_CI h2 r1 x2.toNatClampNeg b1 (0 : Int32).toNatClampNeg x3.toNatClampNeg
  replace hw := hw h3 rfl
  refine fx_copyB C F (fx_m4 (List.mem_of_getElem? (i := 228) rfl)) (fx_m3 (List.mem_of_getElem? (i := 27) rfl)) (fx_m3 (List.mem_of_getElem? (i := 26) rfl)) (fx_m1 (List.mem_of_getElem? (i := 21) rfl)) hv.1 hk2 hk3 g1 g2 g3 g4 g5 (by decide) (Nat.le_of_ble_eq_true rfl) d_Held_init_19 (fun H locs (F : fx_F D h0 h3 H locs _ _) => ?_)
  refine lv_aload_n C.ex C.by d_Held_init_22 rfl (lv_at hv 0 rfl) ?_
  refine lv_iload C.ex C.by d_Held_init_23 (lv_at hv 4 rfl) ?_
  let h4 : AH := up_I h3 r0 1 x4
  replace hw := hw h4 rfl
  refine fx_putI C F lf_Held_19 hk1 rfl rfl (fx_mayF.ini rfl rfl rfl) d_Held_init_25 (fun H locs (F : fx_F D h0 h4 H locs _ _) => ?_)
  exact fx_vret C F d_Held_init_28 (Or.inl ⟨rfl, hw⟩)
theorem hm_Held_init : fx_hd y_Held_init prog_4_method_1_code 5 (none) [] ∈ tables_1 := (fx_m4 (List.mem_of_getElem? (i := 226) rfl))
theorem hi_Held_init : Cond.initialized y_Held_init.cls ∈ tables_1 := (fx_m1 (List.mem_of_getElem? (i := 29) rfl))
theorem c_Held_init {l : Launch} (hl : l.flags = flags0) {D : DD} {Q : AH → Prop} {r0 : Nat} {r1 : Nat} {x2 : Int32} {x3 : Int32} {x4 : Int32} {h : AH} (hw : m_Held_init Q r0 r1 x2 x3 x4 h) : fx_Mt l D y_Held_init (fx_hd y_Held_init prog_4_method_1_code 5 (none) []) 1 18 [.ref r0, .ref r1, .int x2, .int x3, .int x4] h (fx_oV Q fx_no) := by
  refine fx_ofW (plainFor_of_name (by decide)) (fun p e s m below meth c C F => ?_)
  have hv := lv_entry ([.ref r0, .ref r1, .int x2, .int x3, .int x4]) (n := 5) (Nat.le_of_ble_eq_true rfl)
  rw [lg_entry_eq]
  generalize (lg_sl ([.ref r0, .ref r1, .int x2, .int x3, .int x4]) ++ List.replicate (5 - (lg_sl ([.ref r0, .ref r1, .int x2, .int x3, .int x4])).length) Slot.unset).toArray = ls at hv ⊢
  have hv : lv_has ls 5 [(0, .ref r0), (1, .ref r1), (2, .int x2), (3, .int x3), (4, .int x4)] := hv
  exact b_Held_init_0 C hl _ _ _ _ _ _ hw _ _ _ _ _ hv F
/-! jdk/internal/util/ArraysSupport.newLength(III)I: frames 1, words 14 -/
abbrev y_ASup_newLength : MethodName := ⟨"jdk/internal/util/ArraysSupport", "newLength", "(III)I"⟩
theorem lm_ASup_194 : Cond.methodLink "jdk/internal/util/ArraysSupport" 194 y_Math_max ∈ tables_1 ∨ ∃ host, Cond.methodLinkNest "jdk/internal/util/ArraysSupport" 194 y_Math_max host ∈ tables_1 := Or.inl (fx_m5 (List.mem_of_getElem? (i := 17) rfl))
def dl_ASup_newLength : List (Nat × Instr × Nat) := [(0, .iload_n 0, 1), (1, .iload_n 1, 1), (2, .iload_n 2, 1), (3, .invokestatic 194, 3), (6, .iadd, 1), (7, .istore_n 3, 1), (8, .iconst 0, 1), (9, .iload_n 3, 1), (10, .if_icmp .ge 11, 3), (13, .iload_n 3, 1), (14, .ldc 200, 2), (16, .if_icmp .gt 5, 3), (19, .iload_n 3, 1), (20, .ireturn, 1), (21, .iload_n 0, 1), (22, .iload_n 1, 1), (23, .invokestatic 201, 3)]
theorem dk_ASup_newLength : fx_dec prog_39_method_27_code dl_ASup_newLength = true := by decide +kernel
theorem d_ASup_newLength_0 : decode prog_39_method_27_code 0 = .ok (.iload_n 0, 1) := fx_dat dk_ASup_newLength 0 rfl
theorem d_ASup_newLength_1 : decode prog_39_method_27_code 1 = .ok (.iload_n 1, 1) := fx_dat dk_ASup_newLength 1 rfl
theorem d_ASup_newLength_2 : decode prog_39_method_27_code 2 = .ok (.iload_n 2, 1) := fx_dat dk_ASup_newLength 2 rfl
theorem d_ASup_newLength_3 : decode prog_39_method_27_code 3 = .ok (.invokestatic 194, 3) := fx_dat dk_ASup_newLength 3 rfl
theorem d_ASup_newLength_6 : decode prog_39_method_27_code 6 = .ok (.iadd, 1) := fx_dat dk_ASup_newLength 4 rfl
theorem d_ASup_newLength_7 : decode prog_39_method_27_code 7 = .ok (.istore_n 3, 1) := fx_dat dk_ASup_newLength 5 rfl
theorem d_ASup_newLength_8 : decode prog_39_method_27_code 8 = .ok (.iconst 0, 1) := fx_dat dk_ASup_newLength 6 rfl
theorem d_ASup_newLength_9 : decode prog_39_method_27_code 9 = .ok (.iload_n 3, 1) := fx_dat dk_ASup_newLength 7 rfl
theorem d_ASup_newLength_10 : decode prog_39_method_27_code 10 = .ok (.if_icmp .ge 11, 3) := fx_dat dk_ASup_newLength 8 rfl
theorem d_ASup_newLength_13 : decode prog_39_method_27_code 13 = .ok (.iload_n 3, 1) := fx_dat dk_ASup_newLength 9 rfl
theorem d_ASup_newLength_14 : decode prog_39_method_27_code 14 = .ok (.ldc 200, 2) := fx_dat dk_ASup_newLength 10 rfl
theorem d_ASup_newLength_16 : decode prog_39_method_27_code 16 = .ok (.if_icmp .gt 5, 3) := fx_dat dk_ASup_newLength 11 rfl
theorem d_ASup_newLength_19 : decode prog_39_method_27_code 19 = .ok (.iload_n 3, 1) := fx_dat dk_ASup_newLength 12 rfl
theorem d_ASup_newLength_20 : decode prog_39_method_27_code 20 = .ok (.ireturn, 1) := fx_dat dk_ASup_newLength 13 rfl
theorem d_ASup_newLength_21 : decode prog_39_method_27_code 21 = .ok (.iload_n 0, 1) := fx_dat dk_ASup_newLength 14 rfl
theorem d_ASup_newLength_22 : decode prog_39_method_27_code 22 = .ok (.iload_n 1, 1) := fx_dat dk_ASup_newLength 15 rfl
theorem d_ASup_newLength_23 : decode prog_39_method_27_code 23 = .ok (.invokestatic 201, 3) := fx_dat dk_ASup_newLength 16 rfl
def m_ASup_newLength_21 (Q : Int32 → AH → Prop) (x0 : Int32) (x1 : Int32) (h : AH) : Prop := False
def m_ASup_newLength (Q : Int32 → AH → Prop) (x0 : Int32) (x1 : Int32) (x2 : Int32) (h : AH) : Prop := m_Math_max (fun v1 h1 => fx_ext h h1 → ∀ v2 : Int32, v2 = (x0 + v1) → (v2 ≤ (0 : Int32) → m_ASup_newLength_21 Q x0 x1 h1) ∧ (¬ v2 ≤ (0 : Int32) → ((2147483639 : Int32) < v2 → m_ASup_newLength_21 Q x0 x1 h1) ∧ (¬ (2147483639 : Int32) < v2 → Q v2 h1))) x1 x2 h
theorem b_ASup_newLength_21 {p : Program} {l : Launch} {e : Env} {R : Room} {s : State} {m : MethodId} {args : Array Value} {below : List Frame} {meth : Method} {c : Code} {D : DD} {h0 : AH} {Q : Int32 → AH → Prop} (C : fx_CX D y_ASup_newLength prog_39_method_27_code 4 1 14 (Option.some FieldType.int) [] h0 p R s m meth c) (hl : l.flags = flags0) (x0 : Int32) (x1 : Int32) (h : AH) (hw : m_ASup_newLength_21 Q x0 x1 h) : ∀ (ls : Array Slot) (H : Heap) (locs : List Loc) (cells slots : Nat), lv_has ls 4 [(0, .int x0), (1, .int x1)] → fx_F D h0 h H locs cells slots → W p l e R s m args below meth c H locs cells slots (fx_Z D below s h0 (fx_oI Q fx_no)) (F0 m 21 ls []) := by
  unfold m_ASup_newLength_21 at hw
  intro ls H locs cells slots hv F
  refine lv_iload_n C.ex C.by d_ASup_newLength_21 rfl (lv_at hv 0 rfl) ?_
  refine lv_iload_n C.ex C.by d_ASup_newLength_22 rfl (lv_at hv 1 rfl) ?_
  exact hw.elim
theorem b_ASup_newLength_0 {p : Program} {l : Launch} {e : Env} {R : Room} {s : State} {m : MethodId} {args : Array Value} {below : List Frame} {meth : Method} {c : Code} {D : DD} {h0 : AH} {Q : Int32 → AH → Prop} (C : fx_CX D y_ASup_newLength prog_39_method_27_code 4 1 14 (Option.some FieldType.int) [] h0 p R s m meth c) (hl : l.flags = flags0) (x0 : Int32) (x1 : Int32) (x2 : Int32) (h : AH) (hw : m_ASup_newLength Q x0 x1 x2 h) : ∀ (ls : Array Slot) (H : Heap) (locs : List Loc) (cells slots : Nat), lv_has ls 4 [(0, .int x0), (1, .int x1), (2, .int x2)] → fx_F D h0 h H locs cells slots → W p l e R s m args below meth c H locs cells slots (fx_Z D below s h0 (fx_oI Q fx_no)) (F0 m 0 ls []) := by
  unfold m_ASup_newLength at hw
  intro ls H locs cells slots hv F
  refine lv_iload_n C.ex C.by d_ASup_newLength_0 rfl (lv_at hv 0 rfl) ?_
  refine lv_iload_n C.ex C.by d_ASup_newLength_1 rfl (lv_at hv 1 rfl) ?_
  refine lv_iload_n C.ex C.by d_ASup_newLength_2 rfl (lv_at hv 2 rfl) ?_
  refine fx_callI C F (c_Math_max hl hw) hm_Math_max hi_Math_max hv.1 (by decide) (Nat.le_of_ble_eq_true rfl) (iv_Math_max C F lm_ASup_194 d_ASup_newLength_3) (fx_out0 _) fx_eno (fun v1 h1 H locs cells slots hw hx1 F => ?_)
  replace hw := hw hx1
  refine lv_iadd C.ex C.by d_ASup_newLength_6 ?_
  let v2 : Int32 := (x0 + v1)
  replace hw := hw v2 rfl
  refine lv_istore_n (lv' := [(3, .int v2), (0, .int x0), (1, .int x1), (2, .int x2)]) C.ex C.by d_ASup_newLength_7 rfl hv (by decide) rfl (fun ls hv => ?_)
  refine lv_iconst (v := (0 : Int32)) C.ex C.by d_ASup_newLength_8 (by decide) ?_
  refine lv_iload_n C.ex C.by d_ASup_newLength_9 rfl (lv_at hv 0 rfl) ?_
  refine lv_icmp_ge C.ex C.by d_ASup_newLength_10 rfl (fun hc => ?_) (fun hc => ?_)
  · replace hw := hw.1 hc
    exact b_ASup_newLength_21 C hl _ _ _ hw _ _ _ _ _ (lv_sub hv [1, 2] rfl) F
  · replace hw := hw.2 hc
    refine lv_iload_n C.ex C.by d_ASup_newLength_13 rfl (lv_at hv 0 rfl) ?_
    refine lv_ldc (v := (2147483639 : Int32)) C.ex C.by C.ow (C.tw.at (fx_m5 (List.mem_of_getElem? (i := 18) rfl)) rfl rfl) d_ASup_newLength_14 ?_
    refine lv_icmp_gt C.ex C.by d_ASup_newLength_16 rfl (fun hc => ?_) (fun hc => ?_)
    · replace hw := hw.1 hc
      exact b_ASup_newLength_21 C hl _ _ _ hw _ _ _ _ _ (lv_sub hv [1, 2] rfl) F
    · replace hw := hw.2 hc
      refine lv_iload_n C.ex C.by d_ASup_newLength_19 rfl (lv_at hv 0 rfl) ?_
      exact fx_iret C F d_ASup_newLength_20 (Or.inl ⟨_, rfl, hw⟩)
theorem hm_ASup_newLength : fx_hd y_ASup_newLength prog_39_method_27_code 4 (Option.some FieldType.int) [] ∈ tables_1 := (fx_m5 (List.mem_of_getElem? (i := 16) rfl))
theorem hi_ASup_newLength : Cond.initialized y_ASup_newLength.cls ∈ tables_1 := (fx_m1 (List.mem_of_getElem? (i := 30) rfl))
theorem c_ASup_newLength {l : Launch} (hl : l.flags = flags0) {D : DD} {Q : Int32 → AH → Prop} {x0 : Int32} {x1 : Int32} {x2 : Int32} {h : AH} (hw : m_ASup_newLength Q x0 x1 x2 h) : fx_Mt l D y_ASup_newLength (fx_hd y_ASup_newLength prog_39_method_27_code 4 (Option.some FieldType.int) []) 1 14 [.int x0, .int x1, .int x2] h (fx_oI Q fx_no) := by
  refine fx_ofW (by decide +kernel) (fun p e s m below meth c C F => ?_)
  have hv := lv_entry ([.int x0, .int x1, .int x2]) (n := 4) (Nat.le_of_ble_eq_true rfl)
  rw [lg_entry_eq]
  generalize (lg_sl ([.int x0, .int x1, .int x2]) ++ List.replicate (4 - (lg_sl ([.int x0, .int x1, .int x2])).length) Slot.unset).toArray = ls at hv ⊢
  have hv : lv_has ls 4 [(0, .int x0), (1, .int x1), (2, .int x2)] := hv
  exact b_ASup_newLength_0 C hl _ _ _ _ hw _ _ _ _ _ hv F
/-! java/util/Arrays.copyOf([Ljava/lang/Object;ILjava/lang/Class;)[Ljava/lang/Object;: frames 1, words 18 -/
abbrev y_Arrs_copyOf_OIC : MethodName := ⟨"java/util/Arrays", "copyOf", "([Ljava/lang/Object;ILjava/lang/Class;)[Ljava/lang/Object;"⟩
theorem lm_Arrs_304 : Cond.methodLink "java/util/Arrays" 304 y_Math_min ∈ tables_1 ∨ ∃ host, Cond.methodLinkNest "java/util/Arrays" 304 y_Math_min host ∈ tables_1 := Or.inl (fx_m5 (List.mem_of_getElem? (i := 53) rfl))
def dl_Arrs_copyOf_OIC : List (Nat × Instr × Nat) := [(0, .aload_n 2, 1), (1, .ldc 110, 2), (3, .if_acmp .ne 10, 3), (6, .iload_n 1, 1), (7, .anewarray 2, 3), (10, .goto 14, 3), (13, .aload_n 2, 1), (14, .invokevirtual 90, 3), (24, .astore_n 3, 1), (25, .aload_n 0, 1), (26, .iconst 0, 1), (27, .aload_n 3, 1), (28, .iconst 0, 1), (29, .aload_n 0, 1), (30, .arraylength, 1), (31, .iload_n 1, 1), (32, .invokestatic 304, 3), (35, .invokestatic 150, 3), (38, .aload_n 3, 1), (39, .areturn, 1)]
theorem dk_Arrs_copyOf_OIC : fx_dec prog_32_method_120_code dl_Arrs_copyOf_OIC = true := by decide +kernel
theorem d_Arrs_copyOf_OIC_0 : decode prog_32_method_120_code 0 = .ok (.aload_n 2, 1) := fx_dat dk_Arrs_copyOf_OIC 0 rfl
theorem d_Arrs_copyOf_OIC_1 : decode prog_32_method_120_code 1 = .ok (.ldc 110, 2) := fx_dat dk_Arrs_copyOf_OIC 1 rfl
theorem d_Arrs_copyOf_OIC_3 : decode prog_32_method_120_code 3 = .ok (.if_acmp .ne 10, 3) := fx_dat dk_Arrs_copyOf_OIC 2 rfl
theorem d_Arrs_copyOf_OIC_6 : decode prog_32_method_120_code 6 = .ok (.iload_n 1, 1) := fx_dat dk_Arrs_copyOf_OIC 3 rfl
theorem d_Arrs_copyOf_OIC_7 : decode prog_32_method_120_code 7 = .ok (.anewarray 2, 3) := fx_dat dk_Arrs_copyOf_OIC 4 rfl
theorem d_Arrs_copyOf_OIC_10 : decode prog_32_method_120_code 10 = .ok (.goto 14, 3) := fx_dat dk_Arrs_copyOf_OIC 5 rfl
theorem d_Arrs_copyOf_OIC_13 : decode prog_32_method_120_code 13 = .ok (.aload_n 2, 1) := fx_dat dk_Arrs_copyOf_OIC 6 rfl
theorem d_Arrs_copyOf_OIC_14 : decode prog_32_method_120_code 14 = .ok (.invokevirtual 90, 3) := fx_dat dk_Arrs_copyOf_OIC 7 rfl
theorem d_Arrs_copyOf_OIC_24 : decode prog_32_method_120_code 24 = .ok (.astore_n 3, 1) := fx_dat dk_Arrs_copyOf_OIC 8 rfl
theorem d_Arrs_copyOf_OIC_25 : decode prog_32_method_120_code 25 = .ok (.aload_n 0, 1) := fx_dat dk_Arrs_copyOf_OIC 9 rfl
theorem d_Arrs_copyOf_OIC_26 : decode prog_32_method_120_code 26 = .ok (.iconst 0, 1) := fx_dat dk_Arrs_copyOf_OIC 10 rfl
theorem d_Arrs_copyOf_OIC_27 : decode prog_32_method_120_code 27 = .ok (.aload_n 3, 1) := fx_dat dk_Arrs_copyOf_OIC 11 rfl
theorem d_Arrs_copyOf_OIC_28 : decode prog_32_method_120_code 28 = .ok (.iconst 0, 1) := fx_dat dk_Arrs_copyOf_OIC 12 rfl
theorem d_Arrs_copyOf_OIC_29 : decode prog_32_method_120_code 29 = .ok (.aload_n 0, 1) := fx_dat dk_Arrs_copyOf_OIC 13 rfl
theorem d_Arrs_copyOf_OIC_30 : decode prog_32_method_120_code 30 = .ok (.arraylength, 1) := fx_dat dk_Arrs_copyOf_OIC 14 rfl
theorem d_Arrs_copyOf_OIC_31 : decode prog_32_method_120_code 31 = .ok (.iload_n 1, 1) := fx_dat dk_Arrs_copyOf_OIC 15 rfl
theorem d_Arrs_copyOf_OIC_32 : decode prog_32_method_120_code 32 = .ok (.invokestatic 304, 3) := fx_dat dk_Arrs_copyOf_OIC 16 rfl
theorem d_Arrs_copyOf_OIC_35 : decode prog_32_method_120_code 35 = .ok (.invokestatic 150, 3) := fx_dat dk_Arrs_copyOf_OIC 17 rfl
theorem d_Arrs_copyOf_OIC_38 : decode prog_32_method_120_code 38 = .ok (.aload_n 3, 1) := fx_dat dk_Arrs_copyOf_OIC 18 rfl
theorem d_Arrs_copyOf_OIC_39 : decode prog_32_method_120_code 39 = .ok (.areturn, 1) := fx_dat dk_Arrs_copyOf_OIC 19 rfl
def m_Arrs_copyOf_OIC (Q : Nat → AH → Prop) (r0 : Nat) (x1 : Int32) (r2 : Nat) (h : AH) : Prop := (¬ (some r2) = (some (hp_c h 12)) → False) ∧ ((some r2) = (some (hp_c h 12)) → ¬ x1 < 0 ∧ (x1).toNatClampNeg * 4 ≤ 536870912 ∧ fx_has h (x1).toNatClampNeg ∧ ∀ (_ : fx_wf h) (q1 : Nat), q1 = hp_z h → ∀ h1 : AH, h1 = up_N h 104 (x1).toNatClampNeg (x1).toNatClampNeg → ok (hp_k h1 r0) ∧ m_Math_min (fun v1 h2 => fx_ext h1 h2 → hp_k h2 r0 = 104 ∧ ¬ (0 : Int32) < 0 ∧ ¬ (0 : Int32) < 0 ∧ ¬ v1 < 0 ∧ (0 : Int32).toNatClampNeg + v1.toNatClampNeg ≤ hp_n h2 r0 ∧ (0 : Int32).toNatClampNeg + v1.toNatClampNeg ≤ hp_n h2 q1 ∧ (∀ i, i < v1.toNatClampNeg → ∀ b, hp_R h2 r0 ((0 : Int32).toNatClampNeg + i) = some b → hp_k h2 b = 3 ∨ hp_k h2 b = 8) ∧ ∀ h3 : AH, h3 = up_CR h2 r0 (0 : Int32).toNatClampNeg q1 (0 : Int32).toNatClampNeg v1.toNatClampNeg → Q q1 h3) (nI (hp_n h1 r0)) x1 h1)
theorem b_Arrs_copyOf_OIC_0 {p : Program} {l : Launch} {e : Env} {R : Room} {s : State} {m : MethodId} {args : Array Value} {below : List Frame} {meth : Method} {c : Code} {D : DD} {h0 : AH} {Q : Nat → AH → Prop} (C : fx_CX D y_Arrs_copyOf_OIC prog_32_method_120_code 4 1 18 (Option.some (FieldType.array (FieldType.object "java/lang/Object"))) [] h0 p R s m meth c) (hl : l.flags = flags0) (r0 : Nat) (x1 : Int32) (r2 : Nat) (h : AH) (hw : m_Arrs_copyOf_OIC Q r0 x1 r2 h) : ∀ (ls : Array Slot) (H : Heap) (locs : List Loc) (cells slots : Nat), lv_has ls 4 [(0, .ref r0), (1, .int x1), (2, .ref r2)] → fx_F D h0 h H locs cells slots → W p l e R s m args below meth c H locs cells slots (fx_Z D below s h0 (fx_oR Q fx_no)) (F0 m 0 ls []) := by
  unfold m_Arrs_copyOf_OIC at hw
  intro ls H locs cells slots hv F
  refine lv_aload_n C.ex C.by d_Arrs_copyOf_OIC_0 rfl (lv_at hv 2 rfl) ?_
  refine fx_ldcM C F (fx_m5 (List.mem_of_getElem? (i := 50) rfl)) d_Arrs_copyOf_OIC_1 ?_
  refine lv_acmp_ne (rx := (some r2)) (ry := (some (hp_c h 12))) C.ex C.by d_Arrs_copyOf_OIC_3 rfl (fun hc => ?_) (fun hc => ?_)
  · replace hw := hw.1 hc
    refine lv_aload_n C.ex C.by d_Arrs_copyOf_OIC_13 rfl (lv_at hv 2 rfl) ?_
    exact hw.elim
  · replace hw := hw.2 hc
    refine lv_iload_n C.ex C.by d_Arrs_copyOf_OIC_6 rfl (lv_at hv 1 rfl) ?_
    obtain ⟨hn0, hn1, hs, hw⟩ := hw
    let q1 : Nat := hp_z h
    let h1 : AH := up_N h 104 (x1).toNatClampNeg (x1).toNatClampNeg
    replace hw := hw F.wf q1 rfl h1 rfl
    have hkq1 : hp_k h1 q1 = 104 := fx_nk _ _ _ _
    refine fx_anewO  C F (fx_m5 (List.mem_of_getElem? (i := 52) rfl)) (fx_m5 (List.mem_of_getElem? (i := 51) rfl)) hn0 hn1 hs d_Arrs_copyOf_OIC_7 (fun H cells slots (F : fx_F D h0 h1 H locs cells slots) => ?_)
    refine lv_goto C.ex C.by d_Arrs_copyOf_OIC_10 rfl ?_
    refine lv_astore_n (lv' := [(3, .ref q1), (0, .ref r0), (1, .int x1), (2, .ref r2)]) C.ex C.by d_Arrs_copyOf_OIC_24 rfl hv (by decide) rfl (fun ls hv => ?_)
    refine lv_aload_n C.ex C.by d_Arrs_copyOf_OIC_25 rfl (lv_at hv 1 rfl) ?_
    refine lv_iconst (v := (0 : Int32)) C.ex C.by d_Arrs_copyOf_OIC_26 (by decide) ?_
    refine lv_aload_n C.ex C.by d_Arrs_copyOf_OIC_27 rfl (lv_at hv 0 rfl) ?_
    refine lv_iconst (v := (0 : Int32)) C.ex C.by d_Arrs_copyOf_OIC_28 (by decide) ?_
    refine lv_aload_n C.ex C.by d_Arrs_copyOf_OIC_29 rfl (lv_at hv 1 rfl) ?_
    obtain ⟨hk1, hw⟩ := hw
    refine fx_alen C F hk1.gt d_Arrs_copyOf_OIC_30 ?_
    refine lv_iload_n C.ex C.by d_Arrs_copyOf_OIC_31 rfl (lv_at hv 2 rfl) ?_
    refine fx_callI C F (c_Math_min hl hw) hm_Math_min hi_Math_min hv.1 (by decide) (Nat.le_of_ble_eq_true rfl) (iv_Math_min C F lm_Arrs_304 d_Arrs_copyOf_OIC_32) (fx_out0 _) fx_eno (fun v1 h2 H locs cells slots hw hx1 F => ?_)
    replace hw := hw hx1
    have hkq1 := (hx1).k hkq1
    have hk1 := (hx1).go hk1
    obtain ⟨hk2, hw⟩ := hw
    obtain ⟨g1, g2, g3, g4, g5, g6, hw⟩ := hw
    let h3 : AH := up_CR h2 r0 (0 : Int32).toNatClampNeg q1 (0 : Int32).toNatClampNeg v1.toNatClampNeg
    replace hw := hw h3 rfl
    refine fx_copyR C F (fx_m5 (List.mem_of_getElem? (i := 54) rfl)) (fx_m3 (List.mem_of_getElem? (i := 27) rfl)) (fx_m3 (List.mem_of_getElem? (i := 26) rfl)) (fx_m1 (List.mem_of_getElem? (i := 21) rfl)) (fx_m8 (List.mem_of_getElem? (i := 23) rfl)) (fx_m8 (List.mem_of_getElem? (i := 18) rfl)) hv.1 hk2 hkq1 g1 g2 g3 g4 g5 g6 (by decide) (Nat.le_of_ble_eq_true rfl) d_Arrs_copyOf_OIC_35 (fun H locs (F : fx_F D h0 h3 H locs _ _) => ?_)
    refine lv_aload_n C.ex C.by d_Arrs_copyOf_OIC_38 rfl (lv_at hv 0 rfl) ?_
    exact fx_aret C F (Or.inr ⟨_, rfl⟩) d_Arrs_copyOf_OIC_39 (Or.inl ⟨_, rfl, hw⟩)
theorem hm_Arrs_copyOf_OIC : fx_hd y_Arrs_copyOf_OIC prog_32_method_120_code 4 (Option.some (FieldType.array (FieldType.object "java/lang/Object"))) [] ∈ tables_1 := (fx_m5 (List.mem_of_getElem? (i := 49) rfl))
theorem hi_Arrs_copyOf_OIC : Cond.initialized y_Arrs_copyOf_OIC.cls ∈ tables_1 := (fx_m1 (List.mem_of_getElem? (i := 28) rfl))
theorem c_Arrs_copyOf_OIC {l : Launch} (hl : l.flags = flags0) {D : DD} {Q : Nat → AH → Prop} {r0 : Nat} {x1 : Int32} {r2 : Nat} {h : AH} (hw : m_Arrs_copyOf_OIC Q r0 x1 r2 h) : fx_Mt l D y_Arrs_copyOf_OIC (fx_hd y_Arrs_copyOf_OIC prog_32_method_120_code 4 (Option.some (FieldType.array (FieldType.object "java/lang/Object"))) []) 1 18 [.ref r0, .int x1, .ref r2] h (fx_oR Q fx_no) := by
  refine fx_ofW (by decide +kernel) (fun p e s m below meth c C F => ?_)
  have hv := lv_entry ([.ref r0, .int x1, .ref r2]) (n := 4) (Nat.le_of_ble_eq_true rfl)
  rw [lg_entry_eq]
  generalize (lg_sl ([.ref r0, .int x1, .ref r2]) ++ List.replicate (4 - (lg_sl ([.ref r0, .int x1, .ref r2])).length) Slot.unset).toArray = ls at hv ⊢
  have hv : lv_has ls 4 [(0, .ref r0), (1, .int x1), (2, .ref r2)] := hv
  exact b_Arrs_copyOf_OIC_0 C hl _ _ _ _ hw _ _ _ _ _ hv F
/-! java/util/Arrays.copyOf([Ljava/lang/Object;I)[Ljava/lang/Object;: frames 2, words 33 -/
abbrev y_Arrs_copyOf_OI : MethodName := ⟨"java/util/Arrays", "copyOf", "([Ljava/lang/Object;I)[Ljava/lang/Object;"⟩
theorem lm_Arrs_300 : Cond.methodLink "java/util/Arrays" 300 y_Arrs_copyOf_OIC ∈ tables_1 ∨ ∃ host, Cond.methodLinkNest "java/util/Arrays" 300 y_Arrs_copyOf_OIC host ∈ tables_1 := Or.inl (fx_m5 (List.mem_of_getElem? (i := 47) rfl))
section
variable {p : Program} {l : Launch} {e : Env} {R : Room} {s : State} {m : MethodId} {args : Array Value} {below : List Frame} {meth : Method} {c : Code} {H : Heap} {locs : List Loc} {cells slots : Nat}
variable {D : DD} {y : MethodName} {cc : ByteArray} {nL kf kw : Nat} {ret : Option FieldType} {hh : List (Nat × Nat × Nat × Nat)} {h0 h : AH} {pc : Nat} {ls : Array Slot} {rest : List Value} {b idx : Nat}
theorem iv_Arrs_copyOf_OIC {r0 : Nat} {x1 : Int32} {r2 : Nat} (C : fx_CX D y cc nL kf kw ret hh h0 p R s m meth c) (F : fx_F D h0 h H locs cells slots) (hw1 : Cond.methodLink y.cls idx y_Arrs_copyOf_OIC ∈ tables_1 ∨ ∃ host, Cond.methodLinkNest y.cls idx y_Arrs_copyOf_OIC host ∈ tables_1) (hd : decode cc pc = .ok (.invokestatic idx, 3)) : fx_IV p l e R s m args below meth c H locs cells slots (F0 m pc ls (.ref r2 :: .int x1 :: .ref r0 :: rest)) rest y_Arrs_copyOf_OIC [.ref r0, .int x1, .ref r2] 3 := fun T hT X => fx_invS (As := [.ref r0, .int x1, .ref r2]) C X hw1 (fx_m5 (List.mem_of_getElem? (i := 48) rfl)) hi_Arrs_copyOf_OIC hm_Arrs_copyOf_OIC ⟨by decide, by decide⟩ rfl (n := 3) (by decide +kernel) rfl rfl hd
end
def dl_Arrs_copyOf_OI : List (Nat × Instr × Nat) := [(0, .aload_n 0, 1), (1, .iload_n 1, 1), (2, .aload_n 0, 1), (3, .invokevirtual 86, 3), (6, .invokestatic 300, 3), (9, .areturn, 1)]
theorem dk_Arrs_copyOf_OI : fx_dec prog_32_method_119_code dl_Arrs_copyOf_OI = true := by decide +kernel
theorem d_Arrs_copyOf_OI_0 : decode prog_32_method_119_code 0 = .ok (.aload_n 0, 1) := fx_dat dk_Arrs_copyOf_OI 0 rfl
theorem d_Arrs_copyOf_OI_1 : decode prog_32_method_119_code 1 = .ok (.iload_n 1, 1) := fx_dat dk_Arrs_copyOf_OI 1 rfl
theorem d_Arrs_copyOf_OI_2 : decode prog_32_method_119_code 2 = .ok (.aload_n 0, 1) := fx_dat dk_Arrs_copyOf_OI 2 rfl
theorem d_Arrs_copyOf_OI_3 : decode prog_32_method_119_code 3 = .ok (.invokevirtual 86, 3) := fx_dat dk_Arrs_copyOf_OI 3 rfl
theorem d_Arrs_copyOf_OI_6 : decode prog_32_method_119_code 6 = .ok (.invokestatic 300, 3) := fx_dat dk_Arrs_copyOf_OI 4 rfl
theorem d_Arrs_copyOf_OI_9 : decode prog_32_method_119_code 9 = .ok (.areturn, 1) := fx_dat dk_Arrs_copyOf_OI 5 rfl
def m_Arrs_copyOf_OI (Q : Nat → AH → Prop) (r0 : Nat) (x1 : Int32) (h : AH) : Prop := hp_k h r0 = 104 ∧ m_Arrs_copyOf_OIC (fun q1 h1 => fx_ext h h1 → Q q1 h1) r0 x1 (hp_c h 12) h
theorem b_Arrs_copyOf_OI_0 {p : Program} {l : Launch} {e : Env} {R : Room} {s : State} {m : MethodId} {args : Array Value} {below : List Frame} {meth : Method} {c : Code} {D : DD} {h0 : AH} {Q : Nat → AH → Prop} (C : fx_CX D y_Arrs_copyOf_OI prog_32_method_119_code 2 2 33 (Option.some (FieldType.array (FieldType.object "java/lang/Object"))) [] h0 p R s m meth c) (hl : l.flags = flags0) (r0 : Nat) (x1 : Int32) (h : AH) (hw : m_Arrs_copyOf_OI Q r0 x1 h) : ∀ (ls : Array Slot) (H : Heap) (locs : List Loc) (cells slots : Nat), lv_has ls 2 [(0, .ref r0), (1, .int x1)] → fx_F D h0 h H locs cells slots → W p l e R s m args below meth c H locs cells slots (fx_Z D below s h0 (fx_oR Q fx_no)) (F0 m 0 ls []) := by
  unfold m_Arrs_copyOf_OI at hw
  intro ls H locs cells slots hv F
  refine lv_aload_n C.ex C.by d_Arrs_copyOf_OI_0 rfl (lv_at hv 0 rfl) ?_
  refine lv_iload_n C.ex C.by d_Arrs_copyOf_OI_1 rfl (lv_at hv 1 rfl) ?_
  refine lv_aload_n C.ex C.by d_Arrs_copyOf_OI_2 rfl (lv_at hv 0 rfl) ?_
  obtain ⟨hk1, hw⟩ := hw
  refine fx_getC C F hk1 (fx_m5 (List.mem_of_getElem? (i := 25) rfl)) (fx_m8 (List.mem_of_getElem? (i := 11) rfl)) (fx_m8 (List.mem_of_getElem? (i := 10) rfl)) (fx_m5 (List.mem_of_getElem? (i := 26) rfl)) (fx_m5 (List.mem_of_getElem? (i := 46) rfl)) hv.1 (by decide) (Nat.le_of_ble_eq_true rfl) d_Arrs_copyOf_OI_3 ?_
  refine fx_callR C F (c_Arrs_copyOf_OIC hl hw) hm_Arrs_copyOf_OIC hi_Arrs_copyOf_OIC hv.1 (by decide) (Nat.le_of_ble_eq_true rfl) (iv_Arrs_copyOf_OIC C F lm_Arrs_300 d_Arrs_copyOf_OI_6) (fx_out0 _) fx_eno (fun q1 h1 H locs cells slots hw hx1 F => ?_)
  replace hw := hw hx1
  have hk1 := (hx1).k hk1
  exact fx_aret C F (Or.inr ⟨_, rfl⟩) d_Arrs_copyOf_OI_9 (Or.inl ⟨_, rfl, hw⟩)
theorem hm_Arrs_copyOf_OI : fx_hd y_Arrs_copyOf_OI prog_32_method_119_code 2 (Option.some (FieldType.array (FieldType.object "java/lang/Object"))) [] ∈ tables_1 := (fx_m5 (List.mem_of_getElem? (i := 24) rfl))
theorem hi_Arrs_copyOf_OI : Cond.initialized y_Arrs_copyOf_OI.cls ∈ tables_1 := (fx_m1 (List.mem_of_getElem? (i := 28) rfl))
theorem c_Arrs_copyOf_OI {l : Launch} (hl : l.flags = flags0) {D : DD} {Q : Nat → AH → Prop} {r0 : Nat} {x1 : Int32} {h : AH} (hw : m_Arrs_copyOf_OI Q r0 x1 h) : fx_Mt l D y_Arrs_copyOf_OI (fx_hd y_Arrs_copyOf_OI prog_32_method_119_code 2 (Option.some (FieldType.array (FieldType.object "java/lang/Object"))) []) 2 33 [.ref r0, .int x1] h (fx_oR Q fx_no) := by
  refine fx_ofW (by decide +kernel) (fun p e s m below meth c C F => ?_)
  have hv := lv_entry ([.ref r0, .int x1]) (n := 2) (Nat.le_of_ble_eq_true rfl)
  rw [lg_entry_eq]
  generalize (lg_sl ([.ref r0, .int x1]) ++ List.replicate (2 - (lg_sl ([.ref r0, .int x1])).length) Slot.unset).toArray = ls at hv ⊢
  have hv : lv_has ls 2 [(0, .ref r0), (1, .int x1)] := hv
  exact b_Arrs_copyOf_OI_0 C hl _ _ _ hw _ _ _ _ _ hv F
