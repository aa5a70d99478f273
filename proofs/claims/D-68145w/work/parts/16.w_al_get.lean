set_option maxRecDepth 10000
/-! java/util/ArrayList.get(I)Ljava/lang/Object;: frames 2, words 27 -/
abbrev y_AL_get : MethodName := ⟨"java/util/ArrayList", "get", "(I)Ljava/lang/Object;"⟩
theorem lm_AL_118 : Cond.methodLink "java/util/ArrayList" 118 y_Objs_checkIndex ∈ tables_1 ∨ ∃ host, Cond.methodLinkNest "java/util/ArrayList" 118 y_Objs_checkIndex host ∈ tables_1 := Or.inl (fx_m3 (List.mem_of_getElem? (i := 98) rfl))
theorem lm_AL_123 : Cond.methodLink "java/util/ArrayList" 123 y_AL_elementData ∈ tables_1 ∨ ∃ host, Cond.methodLinkNest "java/util/ArrayList" 123 y_AL_elementData host ∈ tables_1 := Or.inl (fx_m3 (List.mem_of_getElem? (i := 104) rfl))
section
variable {p : Program} {l : Launch} {e : Env} {R : Room} {s : State} {m : MethodId} {args : Array Value} {below : List Frame} {meth : Method} {c : Code} {H : Heap} {locs : List Loc} {cells slots : Nat}
variable {D : DD} {y : MethodName} {cc : ByteArray} {nL kf kw : Nat} {ret : Option FieldType} {hh : List (Nat × Nat × Nat × Nat)} {h0 h : AH} {pc : Nat} {ls : Array Slot} {rest : List Value} {b idx : Nat}
theorem iv_Objs_checkIndex {x0 : Int32} {x1 : Int32} (C : fx_CX D y cc nL kf kw ret hh h0 p R s m meth c) (F : fx_F D h0 h H locs cells slots) (hw1 : Cond.methodLink y.cls idx y_Objs_checkIndex ∈ tables_1 ∨ ∃ host, Cond.methodLinkNest y.cls idx y_Objs_checkIndex host ∈ tables_1) (hd : decode cc pc = .ok (.invokestatic idx, 3)) : fx_IV p l e R s m args below meth c H locs cells slots (F0 m pc ls (.int x1 :: .int x0 :: rest)) rest y_Objs_checkIndex [.int x0, .int x1] 3 := fun T hT X => fx_invS (As := [.int x0, .int x1]) C X hw1 (fx_m3 (List.mem_of_getElem? (i := 99) rfl)) hi_Objs_checkIndex hm_Objs_checkIndex ⟨by decide, by decide⟩ rfl (n := 2) (by decide +kernel) rfl rfl hd
theorem iv_AL_elementData {x1 : Int32} (C : fx_CX D y cc nL kf kw ret hh h0 p R s m meth c) (F : fx_F D h0 h H locs cells slots) (hw1 : Cond.methodLink y.cls idx y_AL_elementData ∈ tables_1 ∨ ∃ host, Cond.methodLinkNest y.cls idx y_AL_elementData host ∈ tables_1) (hk : hp_k h b = 12) (hd : decode cc pc = .ok (.invokevirtual idx, 3)) : fx_IV p l e R s m args below meth c H locs cells slots (F0 m pc ls (.int x1 :: .ref b :: rest)) rest y_AL_elementData [.ref b, .int x1] 3 := fun T hT X => fx_invV (As := [.int x1]) (Cn := "java/util/ArrayList") C X hw1 (fx_m3 (List.mem_of_getElem? (i := 105) rfl)) (fx_selW C (fx_m3 (List.mem_of_getElem? (i := 106) rfl))) hm_AL_elementData ⟨by decide, by decide⟩ (by rw [hT]; exact fx_clsO (ci := 11) (r := ("java/util/ArrayList", fx_T11, 3)) C F rfl (by decide) hk) rfl (n := 1) (by decide +kernel) rfl rfl hd
end
def dl_AL_get : List (Nat × Instr × Nat) := [(0, .iload_n 1, 1), (1, .aload_n 0, 1), (2, .getfield 48, 3), (5, .invokestatic 118, 3), (8, .pop, 1), (9, .aload_n 0, 1), (10, .iload_n 1, 1), (11, .invokevirtual 123, 3), (14, .areturn, 1)]
theorem dk_AL_get : fx_dec prog_31_method_20_code dl_AL_get = true := by decide +kernel
theorem d_AL_get_0 : decode prog_31_method_20_code 0 = .ok (.iload_n 1, 1) := fx_dat dk_AL_get 0 rfl
theorem d_AL_get_1 : decode prog_31_method_20_code 1 = .ok (.aload_n 0, 1) := fx_dat dk_AL_get 1 rfl
theorem d_AL_get_2 : decode prog_31_method_20_code 2 = .ok (.getfield 48, 3) := fx_dat dk_AL_get 2 rfl
theorem d_AL_get_5 : decode prog_31_method_20_code 5 = .ok (.invokestatic 118, 3) := fx_dat dk_AL_get 3 rfl
theorem d_AL_get_8 : decode prog_31_method_20_code 8 = .ok (.pop, 1) := fx_dat dk_AL_get 4 rfl
theorem d_AL_get_9 : decode prog_31_method_20_code 9 = .ok (.aload_n 0, 1) := fx_dat dk_AL_get 5 rfl
theorem d_AL_get_10 : decode prog_31_method_20_code 10 = .ok (.iload_n 1, 1) := fx_dat dk_AL_get 6 rfl
theorem d_AL_get_11 : decode prog_31_method_20_code 11 = .ok (.invokevirtual 123, 3) := fx_dat dk_AL_get 7 rfl
theorem d_AL_get_14 : decode prog_31_method_20_code 14 = .ok (.areturn, 1) := fx_dat dk_AL_get 8 rfl
def m_AL_get (Q : Nat → AH → Prop) (r0 : Nat) (x1 : Int32) (h : AH) : Prop := hp_k h r0 = 12 ∧ m_Objs_checkIndex (fun v1 h1 => fx_ext h h1 → m_AL_elementData (fun q1 h2 => fx_ext h1 h2 → Q q1 h2) r0 x1 h1) x1 (hp_I h r0 1) h
theorem b_AL_get_0 {p : Program} {l : Launch} {e : Env} {R : Room} {s : State} {m : MethodId} {args : Array Value} {below : List Frame} {meth : Method} {c : Code} {D : DD} {h0 : AH} {Q : Nat → AH → Prop} (C : fx_CX D y_AL_get prog_31_method_20_code 2 2 27 (Option.some (FieldType.object "java/lang/Object")) [] h0 p R s m meth c) (hl : l.flags = flags0) (r0 : Nat) (x1 : Int32) (h : AH) (hw : m_AL_get Q r0 x1 h) : ∀ (ls : Array Slot) (H : Heap) (locs : List Loc) (cells slots : Nat), lv_has ls 2 [(0, .ref r0), (1, .int x1)] → fx_F D h0 h H locs cells slots → W p l e R s m args below meth c H locs cells slots (fx_Z D below s h0 (fx_oR Q fx_no)) (F0 m 0 ls []) := by
  unfold m_AL_get at hw
  intro ls H locs cells slots hv F
  refine lv_iload_n C.ex C.by d_AL_get_0 rfl (lv_at hv 1 rfl) ?_
  refine lv_aload_n C.ex C.by d_AL_get_1 rfl (lv_at hv 0 rfl) ?_
  obtain ⟨hk1, hw⟩ := hw
  refine fx_getI C F lf_AL_48 hk1 rfl d_AL_get_2 ?_
  refine fx_callI C F (c_Objs_checkIndex hl hw) hm_Objs_checkIndex hi_Objs_checkIndex hv.1 (by decide) (Nat.le_of_ble_eq_true rfl) (iv_Objs_checkIndex C F lm_AL_118 d_AL_get_5) (fx_out0 _) fx_eno (fun v1 h1 H locs cells slots hw hx1 F => ?_)
  replace hw := hw hx1
  have hk1 := (hx1).k hk1
  refine lv_pop C.ex C.by d_AL_get_8 rfl ?_
  refine lv_aload_n C.ex C.by d_AL_get_9 rfl (lv_at hv 0 rfl) ?_
  refine lv_iload_n C.ex C.by d_AL_get_10 rfl (lv_at hv 1 rfl) ?_
  refine fx_callR C F (c_AL_elementData hl hw) hm_AL_elementData hi_AL_elementData hv.1 (by decide) (Nat.le_of_ble_eq_true rfl) (iv_AL_elementData C F lm_AL_123 hk1 d_AL_get_11) (fx_out0 _) fx_eno (fun q1 h2 H locs cells slots hw hx2 F => ?_)
  replace hw := hw hx2
  have hk1 := (hx2).k hk1
  exact fx_aret C F (Or.inl ⟨_, rfl⟩) d_AL_get_14 (Or.inl ⟨_, rfl, hw⟩)
theorem hm_AL_get : fx_hd y_AL_get prog_31_method_20_code 2 (Option.some (FieldType.object "java/lang/Object")) [] ∈ tables_1 := (fx_m3 (List.mem_of_getElem? (i := 97) rfl))
theorem hi_AL_get : Cond.initialized y_AL_get.cls ∈ tables_1 := (fx_m1 (List.mem_of_getElem? (i := 5) rfl))
theorem c_AL_get {l : Launch} (hl : l.flags = flags0) {D : DD} {Q : Nat → AH → Prop} {r0 : Nat} {x1 : Int32} {h : AH} (hw : m_AL_get Q r0 x1 h) : fx_Mt l D y_AL_get (fx_hd y_AL_get prog_31_method_20_code 2 (Option.some (FieldType.object "java/lang/Object")) []) 2 27 [.ref r0, .int x1] h (fx_oR Q fx_no) := by
  refine fx_ofW (by decide +kernel) (fun p e s m below meth c C F => ?_)
  have hv := lv_entry ([.ref r0, .int x1]) (n := 2) (Nat.le_of_ble_eq_true rfl)
  rw [lg_entry_eq]
  generalize (lg_sl ([.ref r0, .int x1]) ++ List.replicate (2 - (lg_sl ([.ref r0, .int x1])).length) Slot.unset).toArray = ls at hv ⊢
  have hv : lv_has ls 2 [(0, .ref r0), (1, .int x1)] := hv
  exact b_AL_get_0 C hl _ _ _ hw _ _ _ _ _ hv F
/-! ChainJudge$Reader.tag(I)I: frames 0, words 0 -/
abbrev y_Rd_tag : MethodName := ⟨"ChainJudge$Reader", "tag", "(I)I"⟩
def dl_Rd_tag : List (Nat × Instr × Nat) := [(0, .aload_n 0, 1), (1, .getfield 13, 3), (4, .iload_n 1, 1), (5, .if_icmp .ge 19, 3), (8, .aload_n 0, 1), (9, .getfield 7, 3), (12, .aload_n 0, 1), (13, .getfield 13, 3), (16, .baload, 1), (17, .sipush 255, 3), (20, .iand, 1), (21, .goto 4, 3), (24, .iconst (-1), 1), (25, .ireturn, 1)]
theorem dk_Rd_tag : fx_dec prog_10_method_3_code dl_Rd_tag = true := by decide +kernel
theorem d_Rd_tag_0 : decode prog_10_method_3_code 0 = .ok (.aload_n 0, 1) := fx_dat dk_Rd_tag 0 rfl
theorem d_Rd_tag_1 : decode prog_10_method_3_code 1 = .ok (.getfield 13, 3) := fx_dat dk_Rd_tag 1 rfl
theorem d_Rd_tag_4 : decode prog_10_method_3_code 4 = .ok (.iload_n 1, 1) := fx_dat dk_Rd_tag 2 rfl
theorem d_Rd_tag_5 : decode prog_10_method_3_code 5 = .ok (.if_icmp .ge 19, 3) := fx_dat dk_Rd_tag 3 rfl
theorem d_Rd_tag_8 : decode prog_10_method_3_code 8 = .ok (.aload_n 0, 1) := fx_dat dk_Rd_tag 4 rfl
theorem d_Rd_tag_9 : decode prog_10_method_3_code 9 = .ok (.getfield 7, 3) := fx_dat dk_Rd_tag 5 rfl
theorem d_Rd_tag_12 : decode prog_10_method_3_code 12 = .ok (.aload_n 0, 1) := fx_dat dk_Rd_tag 6 rfl
theorem d_Rd_tag_13 : decode prog_10_method_3_code 13 = .ok (.getfield 13, 3) := fx_dat dk_Rd_tag 7 rfl
theorem d_Rd_tag_16 : decode prog_10_method_3_code 16 = .ok (.baload, 1) := fx_dat dk_Rd_tag 8 rfl
theorem d_Rd_tag_17 : decode prog_10_method_3_code 17 = .ok (.sipush 255, 3) := fx_dat dk_Rd_tag 9 rfl
theorem d_Rd_tag_20 : decode prog_10_method_3_code 20 = .ok (.iand, 1) := fx_dat dk_Rd_tag 10 rfl
theorem d_Rd_tag_21 : decode prog_10_method_3_code 21 = .ok (.goto 4, 3) := fx_dat dk_Rd_tag 11 rfl
theorem d_Rd_tag_24 : decode prog_10_method_3_code 24 = .ok (.iconst (-1), 1) := fx_dat dk_Rd_tag 12 rfl
theorem d_Rd_tag_25 : decode prog_10_method_3_code 25 = .ok (.ireturn, 1) := fx_dat dk_Rd_tag 13 rfl
def m_Rd_tag_25 (Q : Int32 → AH → Prop) (sx0 : Int32) (h : AH) : Prop := Q sx0 h
def m_Rd_tag (Q : Int32 → AH → Prop) (r0 : Nat) (x1 : Int32) (h : AH) : Prop := hp_k h r0 = 9 ∧ (x1 ≤ (hp_I h r0 1) → m_Rd_tag_25 Q (-1 : Int32) h) ∧ (¬ x1 ≤ (hp_I h r0 1) → ∃ b1, hp_R h r0 0 = some b1 ∧ bk (hp_k h b1) ∧ vp_in (hp_I h r0 1) (hp_n h b1) ∧ (by8 (hp_I h b1 ((hp_I h r0 1)).toNatClampNeg) → m_Rd_tag_25 Q ((hp_I h b1 ((hp_I h r0 1)).toNatClampNeg) &&& (255 : Int32)) h))
theorem b_Rd_tag_25 {p : Program} {l : Launch} {e : Env} {R : Room} {s : State} {m : MethodId} {args : Array Value} {below : List Frame} {meth : Method} {c : Code} {D : DD} {h0 : AH} {Q : Int32 → AH → Prop} (C : fx_CX D y_Rd_tag prog_10_method_3_code 2 0 0 (Option.some FieldType.int) [] h0 p R s m meth c) (hl : l.flags = flags0) (sx0 : Int32) (h : AH) (hw : m_Rd_tag_25 Q sx0 h) : ∀ (ls : Array Slot) (H : Heap) (locs : List Loc) (cells slots : Nat), lv_has ls 2 [] → fx_F D h0 h H locs cells slots → W p l e R s m args below meth c H locs cells slots (fx_Z D below s h0 (fx_oI Q fx_no)) (F0 m 25 ls [.int sx0]) := by
  unfold m_Rd_tag_25 at hw
  intro ls H locs cells slots hv F
  exact fx_iret C F d_Rd_tag_25 (Or.inl ⟨_, rfl, hw⟩)
theorem b_Rd_tag_0 {p : Program} {l : Launch} {e : Env} {R : Room} {s : State} {m : MethodId} {args : Array Value} {below : List Frame} {meth : Method} {c : Code} {D : DD} {h0 : AH} {Q : Int32 → AH → Prop} (C : fx_CX D y_Rd_tag prog_10_method_3_code 2 0 0 (Option.some FieldType.int) [] h0 p R s m meth c) (hl : l.flags = flags0) (r0 : Nat) (x1 : Int32) (h : AH) (hw : m_Rd_tag Q r0 x1 h) : ∀ (ls : Array Slot) (H : Heap) (locs : List Loc) (cells slots : Nat), lv_has ls 2 [(0, .ref r0), (1, .int x1)] → fx_F D h0 h H locs cells slots → W p l e R s m args below meth c H locs cells slots (fx_Z D below s h0 (fx_oI Q fx_no)) (F0 m 0 ls []) := by
  unfold m_Rd_tag at hw
  intro ls H locs cells slots hv F
  refine lv_aload_n C.ex C.by d_Rd_tag_0 rfl (lv_at hv 0 rfl) ?_
  obtain ⟨hk1, hw⟩ := hw
  refine fx_getI C F lf_Rd_13 hk1 rfl d_Rd_tag_1 ?_
  refine lv_iload_n C.ex C.by d_Rd_tag_4 rfl (lv_at hv 1 rfl) ?_
  refine lv_icmp_ge C.ex C.by d_Rd_tag_5 rfl (fun hc => ?_) (fun hc => ?_)
  · replace hw := hw.1 hc
    refine lv_iconst (v := (-1 : Int32)) C.ex C.by d_Rd_tag_24 (by decide) ?_
    exact b_Rd_tag_25 C hl _ _ hw _ _ _ _ _ (lv_sub hv [] rfl) F
  · replace hw := hw.2 hc
    refine lv_aload_n C.ex C.by d_Rd_tag_8 rfl (lv_at hv 0 rfl) ?_
    obtain ⟨b1, hb1, hw⟩ := hw
    refine fx_getR C F lf_Rd_7 hk1 rfl hb1 d_Rd_tag_9 ?_
    refine lv_aload_n C.ex C.by d_Rd_tag_12 rfl (lv_at hv 0 rfl) ?_
    refine fx_getI C F lf_Rd_13 hk1 rfl d_Rd_tag_13 ?_
    obtain ⟨hk2, hw⟩ := hw
    obtain ⟨hi1, hw⟩ := hw
    refine fx_bald C F hk2 hi1 d_Rd_tag_16 (fun h8 => ?_)
    replace hw := hw h8
    refine lv_sipush (v := (255 : Int32)) C.ex C.by d_Rd_tag_17 (by decide) ?_
    refine lv_iand C.ex C.by d_Rd_tag_20 ?_
    refine lv_goto C.ex C.by d_Rd_tag_21 rfl ?_
    exact b_Rd_tag_25 C hl _ _ hw _ _ _ _ _ (lv_sub hv [] rfl) F
theorem hm_Rd_tag : fx_hd y_Rd_tag prog_10_method_3_code 2 (Option.some FieldType.int) [] ∈ tables_1 := (fx_m3 (List.mem_of_getElem? (i := 129) rfl))
theorem hi_Rd_tag : Cond.initialized y_Rd_tag.cls ∈ tables_1 := (fx_m1 (List.mem_of_getElem? (i := 12) rfl))
theorem c_Rd_tag {l : Launch} (hl : l.flags = flags0) {D : DD} {Q : Int32 → AH → Prop} {r0 : Nat} {x1 : Int32} {h : AH} (hw : m_Rd_tag Q r0 x1 h) : fx_Mt l D y_Rd_tag (fx_hd y_Rd_tag prog_10_method_3_code 2 (Option.some FieldType.int) []) 0 0 [.ref r0, .int x1] h (fx_oI Q fx_no) := by
  refine fx_ofW (plainFor_of_name (by decide)) (fun p e s m below meth c C F => ?_)
  have hv := lv_entry ([.ref r0, .int x1]) (n := 2) (Nat.le_of_ble_eq_true rfl)
  rw [lg_entry_eq]
  generalize (lg_sl ([.ref r0, .int x1]) ++ List.replicate (2 - (lg_sl ([.ref r0, .int x1])).length) Slot.unset).toArray = ls at hv ⊢
  have hv : lv_has ls 2 [(0, .ref r0), (1, .int x1)] := hv
  exact b_Rd_tag_0 C hl _ _ _ hw _ _ _ _ _ hv F
/-! ChainJudge$Reader.bad()Ljava/lang/IllegalArgumentException;: frames 6, words 81 -/
abbrev y_Rd_bad : MethodName := ⟨"ChainJudge$Reader", "bad", "()Ljava/lang/IllegalArgumentException;"⟩
theorem ex_Rd_19 : fx_eW "ChainJudge$Reader" 19 "java/lang/IllegalArgumentException" fx_rn := fx_eWmk (fx_m3 (List.mem_of_getElem? (i := 46) rfl)) (fx_m3 (List.mem_of_getElem? (i := 47) rfl)) (fx_m3 (List.mem_of_getElem? (i := 48) rfl)) (fx_m3 (List.mem_of_getElem? (i := 134) rfl)) (fx_m3 (List.mem_of_getElem? (i := 37) rfl)) (fx_m3 (List.mem_of_getElem? (i := 38) rfl)) (fx_m3 (List.mem_of_getElem? (i := 39) rfl)) (fx_m2 (List.mem_of_getElem? (i := 218) rfl)) (fx_m3 (List.mem_of_getElem? (i := 40) rfl)) (fx_m3 (List.mem_of_getElem? (i := 41) rfl)) (fx_m3 (List.mem_of_getElem? (i := 42) rfl)) (fx_m3 (List.mem_of_getElem? (i := 43) rfl)) (fx_m3 (List.mem_of_getElem? (i := 44) rfl))
def dl_Rd_bad : List (Nat × Instr × Nat) := [(0, .new 17, 3), (3, .dup, 1), (4, .invokespecial 19, 3), (7, .areturn, 1)]
theorem dk_Rd_bad : fx_dec prog_10_method_2_code dl_Rd_bad = true := by decide +kernel
theorem d_Rd_bad_0 : decode prog_10_method_2_code 0 = .ok (.new 17, 3) := fx_dat dk_Rd_bad 0 rfl
theorem d_Rd_bad_3 : decode prog_10_method_2_code 3 = .ok (.dup, 1) := fx_dat dk_Rd_bad 1 rfl
theorem d_Rd_bad_4 : decode prog_10_method_2_code 4 = .ok (.invokespecial 19, 3) := fx_dat dk_Rd_bad 2 rfl
theorem d_Rd_bad_7 : decode prog_10_method_2_code 7 = .ok (.areturn, 1) := fx_dat dk_Rd_bad 3 rfl
def m_Rd_bad (Q : Nat → AH → Prop) (h : AH) : Prop := fx_has h 6 ∧ ∀ (_ : fx_wf h) (q1 : Nat), q1 = hp_z h → ∀ h1 : AH, h1 = up_N h 14 0 6 → Q q1 h1
theorem b_Rd_bad_0 {p : Program} {l : Launch} {e : Env} {R : Room} {s : State} {m : MethodId} {args : Array Value} {below : List Frame} {meth : Method} {c : Code} {D : DD} {h0 : AH} {Q : Nat → AH → Prop} (C : fx_CX D y_Rd_bad prog_10_method_2_code 0 6 81 (Option.some (FieldType.object "java/lang/IllegalArgumentException")) [] h0 p R s m meth c) (hl : l.flags = flags0) (h : AH) (hw : m_Rd_bad Q h) : ∀ (ls : Array Slot) (H : Heap) (locs : List Loc) (cells slots : Nat), lv_has ls 0 [] → fx_F D h0 h H locs cells slots → W p l e R s m args below meth c H locs cells slots (fx_Z D below s h0 (fx_oR Q fx_no)) (F0 m 0 ls []) := by
  unfold m_Rd_bad at hw
  intro ls H locs cells slots hv F
  obtain ⟨hs, hw⟩ := hw
  let q1 : Nat := hp_z h
  let h1 : AH := up_N h 14 0 6
  replace hw := hw F.wf q1 rfl h1 rfl
  have hkq1 : hp_k h1 q1 = 14 := fx_nk _ _ _ _
  refine fx_exc (r := ("java/lang/IllegalArgumentException", fx_T13, 0)) (names := fx_rn) C F rfl rfl (fx_m3 (List.mem_of_getElem? (i := 133) rfl)) (fx_m1 (List.mem_of_getElem? (i := 22) rfl)) (by decide +kernel) (by decide +kernel) ex_Rd_19 hs hv.1 hl d_Rd_bad_0 d_Rd_bad_3 d_Rd_bad_4 (by decide) (Nat.le_of_ble_eq_true rfl) (fun H locs cells slots (F : fx_F D h0 h1 H locs cells slots) => ?_)
  exact fx_aret C F (Or.inl ⟨_, rfl⟩) d_Rd_bad_7 (Or.inl ⟨_, rfl, hw⟩)
theorem hm_Rd_bad : fx_hd y_Rd_bad prog_10_method_2_code 0 (Option.some (FieldType.object "java/lang/IllegalArgumentException")) [] ∈ tables_1 := (fx_m3 (List.mem_of_getElem? (i := 132) rfl))
theorem hi_Rd_bad : Cond.initialized y_Rd_bad.cls ∈ tables_1 := (fx_m1 (List.mem_of_getElem? (i := 12) rfl))
theorem c_Rd_bad {l : Launch} (hl : l.flags = flags0) {D : DD} {Q : Nat → AH → Prop} {h : AH} (hw : m_Rd_bad Q h) : fx_Mt l D y_Rd_bad (fx_hd y_Rd_bad prog_10_method_2_code 0 (Option.some (FieldType.object "java/lang/IllegalArgumentException")) []) 6 81 [] h (fx_oR Q fx_no) := by
  refine fx_ofW (plainFor_of_name (by decide)) (fun p e s m below meth c C F => ?_)
  have hv := lv_entry ([]) (n := 0) (Nat.le_of_ble_eq_true rfl)
  rw [lg_entry_eq]
  generalize (lg_sl ([]) ++ List.replicate (0 - (lg_sl ([])).length) Slot.unset).toArray = ls at hv ⊢
  have hv : lv_has ls 0 [] := hv
  exact b_Rd_bad_0 C hl _ hw _ _ _ _ _ hv F
/-! ChainJudge.number([BII)J: frames 0, words 0 -/
abbrev y_J_number : MethodName := ⟨"ChainJudge", "number", "([BII)J"⟩
def dl_J_number : List (Nat × Instr × Nat) := [(0, .lconst 0, 1), (1, .lstore_n 3, 1), (2, .iconst 0, 1), (3, .istore 5, 2), (5, .iload 5, 2), (7, .iload_n 2, 1), (8, .if_icmp .ge 26, 3), (11, .lload_n 3, 1), (12, .bipush 8, 2), (14, .lshl, 1), (15, .aload_n 0, 1), (16, .iload_n 1, 1), (17, .iload 5, 2), (19, .iadd, 1), (20, .baload, 1), (21, .sipush 255, 3), (24, .iand, 1), (25, .i2l, 1), (26, .lor, 1), (27, .lstore_n 3, 1), (28, .iinc 5 1, 3), (31, .goto (-26), 3), (34, .lload_n 3, 1), (35, .lreturn, 1)]
theorem dk_J_number : fx_dec prog_1_method_1_code dl_J_number = true := by decide +kernel
theorem d_J_number_0 : decode prog_1_method_1_code 0 = .ok (.lconst 0, 1) := fx_dat dk_J_number 0 rfl
theorem d_J_number_1 : decode prog_1_method_1_code 1 = .ok (.lstore_n 3, 1) := fx_dat dk_J_number 1 rfl
theorem d_J_number_2 : decode prog_1_method_1_code 2 = .ok (.iconst 0, 1) := fx_dat dk_J_number 2 rfl
theorem d_J_number_3 : decode prog_1_method_1_code 3 = .ok (.istore 5, 2) := fx_dat dk_J_number 3 rfl
theorem d_J_number_5 : decode prog_1_method_1_code 5 = .ok (.iload 5, 2) := fx_dat dk_J_number 4 rfl
theorem d_J_number_7 : decode prog_1_method_1_code 7 = .ok (.iload_n 2, 1) := fx_dat dk_J_number 5 rfl
theorem d_J_number_8 : decode prog_1_method_1_code 8 = .ok (.if_icmp .ge 26, 3) := fx_dat dk_J_number 6 rfl
theorem d_J_number_11 : decode prog_1_method_1_code 11 = .ok (.lload_n 3, 1) := fx_dat dk_J_number 7 rfl
theorem d_J_number_12 : decode prog_1_method_1_code 12 = .ok (.bipush 8, 2) := fx_dat dk_J_number 8 rfl
theorem d_J_number_14 : decode prog_1_method_1_code 14 = .ok (.lshl, 1) := fx_dat dk_J_number 9 rfl
theorem d_J_number_15 : decode prog_1_method_1_code 15 = .ok (.aload_n 0, 1) := fx_dat dk_J_number 10 rfl
theorem d_J_number_16 : decode prog_1_method_1_code 16 = .ok (.iload_n 1, 1) := fx_dat dk_J_number 11 rfl
theorem d_J_number_17 : decode prog_1_method_1_code 17 = .ok (.iload 5, 2) := fx_dat dk_J_number 12 rfl
theorem d_J_number_19 : decode prog_1_method_1_code 19 = .ok (.iadd, 1) := fx_dat dk_J_number 13 rfl
theorem d_J_number_20 : decode prog_1_method_1_code 20 = .ok (.baload, 1) := fx_dat dk_J_number 14 rfl
theorem d_J_number_21 : decode prog_1_method_1_code 21 = .ok (.sipush 255, 3) := fx_dat dk_J_number 15 rfl
theorem d_J_number_24 : decode prog_1_method_1_code 24 = .ok (.iand, 1) := fx_dat dk_J_number 16 rfl
theorem d_J_number_25 : decode prog_1_method_1_code 25 = .ok (.i2l, 1) := fx_dat dk_J_number 17 rfl
theorem d_J_number_26 : decode prog_1_method_1_code 26 = .ok (.lor, 1) := fx_dat dk_J_number 18 rfl
theorem d_J_number_27 : decode prog_1_method_1_code 27 = .ok (.lstore_n 3, 1) := fx_dat dk_J_number 19 rfl
theorem d_J_number_28 : decode prog_1_method_1_code 28 = .ok (.iinc 5 1, 3) := fx_dat dk_J_number 20 rfl
theorem d_J_number_31 : decode prog_1_method_1_code 31 = .ok (.goto (-26), 3) := fx_dat dk_J_number 21 rfl
theorem d_J_number_34 : decode prog_1_method_1_code 34 = .ok (.lload_n 3, 1) := fx_dat dk_J_number 22 rfl
theorem d_J_number_35 : decode prog_1_method_1_code 35 = .ok (.lreturn, 1) := fx_dat dk_J_number 23 rfl
def m_J_number_5_b (Q : Int64 → AH → Prop) (X5 : Int64 × Int32 × AH → Prop) (r0 : Nat) (x1 : Int32) (x2 : Int32) (w3 : Int64) (x5 : Int32) (h : AH) : Prop := (x2 ≤ x5 → Q w3 h) ∧ (¬ x2 ≤ x5 → bk (hp_k h r0) ∧ vp_in (x1 + x5) (hp_n h r0) ∧ (by8 (hp_I h r0 ((x1 + x5)).toNatClampNeg) → ∀ u1 : Int64, u1 = ((sh_ll w3 (8 : Int32)) ||| ((((hp_I h r0 ((x1 + x5)).toNatClampNeg) &&& (255 : Int32))).toInt64)) → ∀ v1 : Int32, v1 = (x5 + (1 : Int32)) → X5 (u1, v1, h)))
def m_J_number_5 (Q : Int64 → AH → Prop) (r0 : Nat) (x1 : Int32) (x2 : Int32) (w3 : Int64) (x5 : Int32) (h : AH) : Prop := fx_loop (fun (X5 : Int64 × Int32 × AH → Prop) (st : Int64 × Int32 × AH) => m_J_number_5_b Q X5 r0 x1 x2 st.1 st.2.1 st.2.2) (w3, x5, h)
def m_J_number (Q : Int64 → AH → Prop) (r0 : Nat) (x1 : Int32) (x2 : Int32) (h : AH) : Prop := m_J_number_5 Q r0 x1 x2 (0 : Int64) (0 : Int32) h
theorem b_J_number_5 {p : Program} {l : Launch} {e : Env} {R : Room} {s : State} {m : MethodId} {args : Array Value} {below : List Frame} {meth : Method} {c : Code} {D : DD} {h0 : AH} {Q : Int64 → AH → Prop} (C : fx_CX D y_J_number prog_1_method_1_code 6 0 0 (Option.some FieldType.long) [] h0 p R s m meth c) (hl : l.flags = flags0) (r0 : Nat) (x1 : Int32) (x2 : Int32) (w3 : Int64) (x5 : Int32) (h : AH) (hw : m_J_number_5 Q r0 x1 x2 w3 x5 h) : ∀ (ls : Array Slot) (H : Heap) (locs : List Loc) (cells slots : Nat), lv_has ls 6 [(0, .ref r0), (1, .int x1), (2, .int x2), (3, .long w3), (5, .int x5)] → fx_F D h0 h H locs cells slots → W p l e R s m args below meth c H locs cells slots (fx_Z D below s h0 (fx_oL Q fx_no)) (F0 m 5 ls []) := by
  refine fx_loop.use hw (fun st => ∀ (ls : Array Slot) (H : Heap) (locs : List Loc) (cells slots : Nat), lv_has ls 6 [(0, .ref r0), (1, .int x1), (2, .int x2), (3, .long st.1), (5, .int st.2.1)] → fx_F D h0 st.2.2 H locs cells slots → W p l e R s m args below meth c H locs cells slots (fx_Z D below s h0 (fx_oL Q fx_no)) (F0 m 5 ls [])) (fun X5 st hX5 hw => ?_)
  obtain ⟨w3, x5, h⟩ := st
  replace hw : m_J_number_5_b Q X5 r0 x1 x2 w3 x5 h := hw
  unfold m_J_number_5_b at hw
  intro ls H locs cells slots hv F
  refine lv_iload C.ex C.by d_J_number_5 (lv_at hv 4 rfl) ?_
  refine lv_iload_n C.ex C.by d_J_number_7 rfl (lv_at hv 2 rfl) ?_
  refine lv_icmp_ge C.ex C.by d_J_number_8 rfl (fun hc => ?_) (fun hc => ?_)
  · replace hw := hw.1 hc
    refine lv_lload_n C.ex C.by d_J_number_34 rfl (lv_at hv 3 rfl) ?_
    exact fx_lret C F d_J_number_35 (Or.inl ⟨_, rfl, hw⟩)
  · replace hw := hw.2 hc
    refine lv_lload_n C.ex C.by d_J_number_11 rfl (lv_at hv 3 rfl) ?_
    refine lv_bipush (v := (8 : Int32)) C.ex C.by d_J_number_12 (by decide) ?_
    refine lv_lshl (v := (sh_ll w3 (8 : Int32))) C.ex C.by d_J_number_14 rfl ?_
    refine lv_aload_n C.ex C.by d_J_number_15 rfl (lv_at hv 0 rfl) ?_
    refine lv_iload_n C.ex C.by d_J_number_16 rfl (lv_at hv 1 rfl) ?_
    refine lv_iload C.ex C.by d_J_number_17 (lv_at hv 4 rfl) ?_
    refine lv_iadd C.ex C.by d_J_number_19 ?_
    obtain ⟨hk1, hw⟩ := hw
    obtain ⟨hi1, hw⟩ := hw
    refine fx_bald C F hk1 hi1 d_J_number_20 (fun h8 => ?_)
    replace hw := hw h8
    refine lv_sipush (v := (255 : Int32)) C.ex C.by d_J_number_21 (by decide) ?_
    refine lv_iand C.ex C.by d_J_number_24 ?_
    refine lv_i2l (v := ((((hp_I h r0 ((x1 + x5)).toNatClampNeg) &&& (255 : Int32))).toInt64)) C.ex C.by d_J_number_25 rfl ?_
    refine lv_lor C.ex C.by d_J_number_26 ?_
    let u1 : Int64 := ((sh_ll w3 (8 : Int32)) ||| ((((hp_I h r0 ((x1 + x5)).toNatClampNeg) &&& (255 : Int32))).toInt64))
    replace hw := hw u1 rfl
    refine lv_lstore_n (lv' := [(3, .long u1), (0, .ref r0), (1, .int x1), (2, .int x2), (5, .int x5)]) C.ex C.by d_J_number_27 rfl hv (by decide) rfl (fun ls hv => ?_)
    let v1 : Int32 := (x5 + (1 : Int32))
    replace hw := hw v1 rfl
    refine lv_iinc (v := v1) (k := 4) (lv' := [(5, .int v1), (3, .long u1), (0, .ref r0), (1, .int x1), (2, .int x2)]) C.ex C.by d_J_number_28 hv rfl (congrArg (fun z => x5 + z) (by decide)) (by decide) rfl (fun ls hv => ?_)
    refine lv_goto C.ex C.by d_J_number_31 rfl ?_
    exact hX5 _ hw _ _ _ _ _ (lv_sub hv [2, 3, 4, 1, 0] rfl) F
theorem b_J_number_0 {p : Program} {l : Launch} {e : Env} {R : Room} {s : State} {m : MethodId} {args : Array Value} {below : List Frame} {meth : Method} {c : Code} {D : DD} {h0 : AH} {Q : Int64 → AH → Prop} (C : fx_CX D y_J_number prog_1_method_1_code 6 0 0 (Option.some FieldType.long) [] h0 p R s m meth c) (hl : l.flags = flags0) (r0 : Nat) (x1 : Int32) (x2 : Int32) (h : AH) (hw : m_J_number Q r0 x1 x2 h) : ∀ (ls : Array Slot) (H : Heap) (locs : List Loc) (cells slots : Nat), lv_has ls 6 [(0, .ref r0), (1, .int x1), (2, .int x2)] → fx_F D h0 h H locs cells slots → W p l e R s m args below meth c H locs cells slots (fx_Z D below s h0 (fx_oL Q fx_no)) (F0 m 0 ls []) := by
  unfold m_J_number at hw
  intro ls H locs cells slots hv F
  refine lv_lconst (v := (0 : Int64)) C.ex C.by d_J_number_0 (by decide) ?_
  refine lv_lstore_n (lv' := [(3, .long (0 : Int64)), (0, .ref r0), (1, .int x1), (2, .int x2)]) C.ex C.by d_J_number_1 rfl hv (by decide) rfl (fun ls hv => ?_)
  refine lv_iconst (v := (0 : Int32)) C.ex C.by d_J_number_2 (by decide) ?_
  refine lv_istore (lv' := [(5, .int (0 : Int32)), (3, .long (0 : Int64)), (0, .ref r0), (1, .int x1), (2, .int x2)]) C.ex C.by d_J_number_3 hv (by decide) rfl (fun ls hv => ?_)
  exact b_J_number_5 C hl _ _ _ _ _ _ hw _ _ _ _ _ (lv_sub hv [2, 3, 4, 1, 0] rfl) F
theorem hm_J_number : fx_hd y_J_number prog_1_method_1_code 6 (Option.some FieldType.long) [] ∈ tables_1 := (fx_m3 (List.mem_of_getElem? (i := 137) rfl))
theorem hi_J_number : Cond.initialized y_J_number.cls ∈ tables_1 := (fx_m1 (List.mem_of_getElem? (i := 1) rfl))
theorem c_J_number {l : Launch} (hl : l.flags = flags0) {D : DD} {Q : Int64 → AH → Prop} {r0 : Nat} {x1 : Int32} {x2 : Int32} {h : AH} (hw : m_J_number Q r0 x1 x2 h) : fx_Mt l D y_J_number (fx_hd y_J_number prog_1_method_1_code 6 (Option.some FieldType.long) []) 0 0 [.ref r0, .int x1, .int x2] h (fx_oL Q fx_no) := by
  refine fx_ofW (plainFor_of_name (by decide)) (fun p e s m below meth c C F => ?_)
  have hv := lv_entry ([.ref r0, .int x1, .int x2]) (n := 6) (Nat.le_of_ble_eq_true rfl)
  rw [lg_entry_eq]
  generalize (lg_sl ([.ref r0, .int x1, .int x2]) ++ List.replicate (6 - (lg_sl ([.ref r0, .int x1, .int x2])).length) Slot.unset).toArray = ls at hv ⊢
  have hv : lv_has ls 6 [(0, .ref r0), (1, .int x1), (2, .int x2)] := hv
  exact b_J_number_0 C hl _ _ _ _ hw _ _ _ _ _ hv F
/-! ChainJudge$Reader.enter(II)I: frames 7, words 92, throws -/
abbrev y_Rd_enter : MethodName := ⟨"ChainJudge$Reader", "enter", "(II)I"⟩
theorem lm_Rd_20 : Cond.methodLink "ChainJudge$Reader" 20 y_Rd_tag ∈ tables_1 ∨ ∃ host, Cond.methodLinkNest "ChainJudge$Reader" 20 y_Rd_tag host ∈ tables_1 := Or.inl (fx_m3 (List.mem_of_getElem? (i := 126) rfl))
theorem lm_Rd_24 : Cond.methodLink "ChainJudge$Reader" 24 y_Rd_bad ∈ tables_1 ∨ ∃ host, Cond.methodLinkNest "ChainJudge$Reader" 24 y_Rd_bad host ∈ tables_1 := Or.inl (fx_m3 (List.mem_of_getElem? (i := 130) rfl))
theorem lm_Rd_28 : Cond.methodLink "ChainJudge$Reader" 28 y_J_number ∈ tables_1 ∨ ∃ host, Cond.methodLinkNest "ChainJudge$Reader" 28 y_J_number host ∈ tables_1 := Or.inr ⟨_, (fx_m3 (List.mem_of_getElem? (i := 135) rfl))⟩
section
variable {p : Program} {l : Launch} {e : Env} {R : Room} {s : State} {m : MethodId} {args : Array Value} {below : List Frame} {meth : Method} {c : Code} {H : Heap} {locs : List Loc} {cells slots : Nat}
variable {D : DD} {y : MethodName} {cc : ByteArray} {nL kf kw : Nat} {ret : Option FieldType} {hh : List (Nat × Nat × Nat × Nat)} {h0 h : AH} {pc : Nat} {ls : Array Slot} {rest : List Value} {b idx : Nat}
theorem iv_J_number {r0 : Nat} {x1 : Int32} {x2 : Int32} (C : fx_CX D y cc nL kf kw ret hh h0 p R s m meth c) (F : fx_F D h0 h H locs cells slots) (hw1 : Cond.methodLink y.cls idx y_J_number ∈ tables_1 ∨ ∃ host, Cond.methodLinkNest y.cls idx y_J_number host ∈ tables_1) (hd : decode cc pc = .ok (.invokestatic idx, 3)) : fx_IV p l e R s m args below meth c H locs cells slots (F0 m pc ls (.int x2 :: .int x1 :: .ref r0 :: rest)) rest y_J_number [.ref r0, .int x1, .int x2] 3 := fun T hT X => fx_invS (As := [.ref r0, .int x1, .int x2]) C X hw1 (fx_m3 (List.mem_of_getElem? (i := 136) rfl)) hi_J_number hm_J_number ⟨by decide, by decide⟩ rfl (n := 3) (by decide +kernel) rfl rfl hd
theorem iv_Rd_bad (C : fx_CX D y cc nL kf kw ret hh h0 p R s m meth c) (F : fx_F D h0 h H locs cells slots) (hw1 : Cond.methodLink y.cls idx y_Rd_bad ∈ tables_1 ∨ ∃ host, Cond.methodLinkNest y.cls idx y_Rd_bad host ∈ tables_1) (hd : decode cc pc = .ok (.invokestatic idx, 3)) : fx_IV p l e R s m args below meth c H locs cells slots (F0 m pc ls (rest)) rest y_Rd_bad [] 3 := fun T hT X => fx_invS (As := []) C X hw1 (fx_m3 (List.mem_of_getElem? (i := 131) rfl)) hi_Rd_bad hm_Rd_bad ⟨by decide, by decide⟩ rfl (n := 0) (by decide +kernel) rfl rfl hd
theorem iv_Rd_tag {x1 : Int32} (C : fx_CX D y cc nL kf kw ret hh h0 p R s m meth c) (F : fx_F D h0 h H locs cells slots) (hw1 : Cond.methodLink y.cls idx y_Rd_tag ∈ tables_1 ∨ ∃ host, Cond.methodLinkNest y.cls idx y_Rd_tag host ∈ tables_1) (hk : hp_k h b = 9) (hd : decode cc pc = .ok (.invokevirtual idx, 3)) : fx_IV p l e R s m args below meth c H locs cells slots (F0 m pc ls (.int x1 :: .ref b :: rest)) rest y_Rd_tag [.ref b, .int x1] 3 := fun T hT X => fx_invV (As := [.int x1]) (Cn := "ChainJudge$Reader") C X hw1 (fx_m3 (List.mem_of_getElem? (i := 127) rfl)) (fx_selW C (fx_m3 (List.mem_of_getElem? (i := 128) rfl))) hm_Rd_tag ⟨by decide, by decide⟩ (by rw [hT]; exact fx_clsO (ci := 8) (r := ("ChainJudge$Reader", fx_T8, 2)) C F rfl (by decide) hk) rfl (n := 1) (by decide +kernel) rfl rfl hd
end
def dl_Rd_enter : List (Nat × Instr × Nat) := [(0, .aload_n 0, 1), (1, .iload_n 2, 1), (2, .invokevirtual 20, 3), (5, .iload_n 1, 1), (6, .if_icmp .ne 13, 3), (9, .aload_n 0, 1), (10, .getfield 13, 3), (13, .iconst 2, 1), (14, .iadd, 1), (15, .iload_n 2, 1), (16, .if_icmp .le 7, 3), (19, .invokestatic 24, 3), (22, .athrow, 1), (23, .aload_n 0, 1), (24, .getfield 7, 3), (27, .aload_n 0, 1), (28, .getfield 13, 3), (31, .iconst 1, 1), (32, .iadd, 1), (33, .baload, 1), (34, .sipush 255, 3), (37, .iand, 1), (38, .istore_n 3, 1), (39, .aload_n 0, 1), (40, .dup, 1), (41, .getfield 13, 3), (44, .iconst 2, 1), (45, .iadd, 1), (46, .putfield 13, 3), (49, .iload_n 3, 1), (50, .sipush 128, 3), (53, .if_icmp .lt 87, 3), (56, .iload_n 3, 1), (57, .sipush 128, 3), (60, .isub, 1), (61, .istore 4, 2), (63, .iload 4, 2), (65, .iconst 1, 1), (66, .if_icmp .lt 20, 3), (69, .iload 4, 2), (71, .iconst 3, 1), (72, .if_icmp .gt 14, 3), (75, .iload 4, 2), (77, .iload_n 2, 1), (78, .aload_n 0, 1), (79, .getfield 13, 3), (82, .isub, 1), (83, .if_icmp .le 7, 3), (86, .invokestatic 24, 3), (89, .athrow, 1), (90, .aload_n 0, 1), (91, .getfield 7, 3), (94, .aload_n 0, 1), (95, .getfield 13, 3), (98, .iload 4, 2), (100, .invokestatic 28, 3), (103, .l2i, 1), (104, .istore_n 3, 1), (105, .iload_n 3, 1), (106, .sipush 128, 3), (109, .if_icmp .lt 16, 3), (112, .iload_n 3, 1), (113, .bipush 8, 2), (115, .iload 4, 2), (117, .imul, 1), (118, .bipush 8, 2), (120, .isub, 1), (121, .iushr, 1), (122, .ifCond .ne 7, 3), (125, .invokestatic 24, 3), (128, .athrow, 1), (129, .aload_n 0, 1), (130, .dup, 1), (131, .getfield 13, 3), (134, .iload 4, 2), (136, .iadd, 1), (137, .putfield 13, 3), (140, .iload_n 3, 1), (141, .iload_n 2, 1), (142, .aload_n 0, 1), (143, .getfield 13, 3), (146, .isub, 1), (147, .if_icmp .le 7, 3), (150, .invokestatic 24, 3), (153, .athrow, 1), (154, .aload_n 0, 1), (155, .getfield 13, 3), (158, .iload_n 3, 1), (159, .iadd, 1), (160, .ireturn, 1)]
theorem dk_Rd_enter : fx_dec prog_10_method_4_code dl_Rd_enter = true := by decide +kernel
theorem d_Rd_enter_0 : decode prog_10_method_4_code 0 = .ok (.aload_n 0, 1) := fx_dat dk_Rd_enter 0 rfl
theorem d_Rd_enter_1 : decode prog_10_method_4_code 1 = .ok (.iload_n 2, 1) := fx_dat dk_Rd_enter 1 rfl
theorem d_Rd_enter_2 : decode prog_10_method_4_code 2 = .ok (.invokevirtual 20, 3) := fx_dat dk_Rd_enter 2 rfl
theorem d_Rd_enter_5 : decode prog_10_method_4_code 5 = .ok (.iload_n 1, 1) := fx_dat dk_Rd_enter 3 rfl
theorem d_Rd_enter_6 : decode prog_10_method_4_code 6 = .ok (.if_icmp .ne 13, 3) := fx_dat dk_Rd_enter 4 rfl
theorem d_Rd_enter_9 : decode prog_10_method_4_code 9 = .ok (.aload_n 0, 1) := fx_dat dk_Rd_enter 5 rfl
theorem d_Rd_enter_10 : decode prog_10_method_4_code 10 = .ok (.getfield 13, 3) := fx_dat dk_Rd_enter 6 rfl
theorem d_Rd_enter_13 : decode prog_10_method_4_code 13 = .ok (.iconst 2, 1) := fx_dat dk_Rd_enter 7 rfl
theorem d_Rd_enter_14 : decode prog_10_method_4_code 14 = .ok (.iadd, 1) := fx_dat dk_Rd_enter 8 rfl
theorem d_Rd_enter_15 : decode prog_10_method_4_code 15 = .ok (.iload_n 2, 1) := fx_dat dk_Rd_enter 9 rfl
theorem d_Rd_enter_16 : decode prog_10_method_4_code 16 = .ok (.if_icmp .le 7, 3) := fx_dat dk_Rd_enter 10 rfl
theorem d_Rd_enter_19 : decode prog_10_method_4_code 19 = .ok (.invokestatic 24, 3) := fx_dat dk_Rd_enter 11 rfl
theorem d_Rd_enter_22 : decode prog_10_method_4_code 22 = .ok (.athrow, 1) := fx_dat dk_Rd_enter 12 rfl
theorem d_Rd_enter_23 : decode prog_10_method_4_code 23 = .ok (.aload_n 0, 1) := fx_dat dk_Rd_enter 13 rfl
theorem d_Rd_enter_24 : decode prog_10_method_4_code 24 = .ok (.getfield 7, 3) := fx_dat dk_Rd_enter 14 rfl
theorem d_Rd_enter_27 : decode prog_10_method_4_code 27 = .ok (.aload_n 0, 1) := fx_dat dk_Rd_enter 15 rfl
theorem d_Rd_enter_28 : decode prog_10_method_4_code 28 = .ok (.getfield 13, 3) := fx_dat dk_Rd_enter 16 rfl
theorem d_Rd_enter_31 : decode prog_10_method_4_code 31 = .ok (.iconst 1, 1) := fx_dat dk_Rd_enter 17 rfl
theorem d_Rd_enter_32 : decode prog_10_method_4_code 32 = .ok (.iadd, 1) := fx_dat dk_Rd_enter 18 rfl
theorem d_Rd_enter_33 : decode prog_10_method_4_code 33 = .ok (.baload, 1) := fx_dat dk_Rd_enter 19 rfl
theorem d_Rd_enter_34 : decode prog_10_method_4_code 34 = .ok (.sipush 255, 3) := fx_dat dk_Rd_enter 20 rfl
theorem d_Rd_enter_37 : decode prog_10_method_4_code 37 = .ok (.iand, 1) := fx_dat dk_Rd_enter 21 rfl
theorem d_Rd_enter_38 : decode prog_10_method_4_code 38 = .ok (.istore_n 3, 1) := fx_dat dk_Rd_enter 22 rfl
theorem d_Rd_enter_39 : decode prog_10_method_4_code 39 = .ok (.aload_n 0, 1) := fx_dat dk_Rd_enter 23 rfl
theorem d_Rd_enter_40 : decode prog_10_method_4_code 40 = .ok (.dup, 1) := fx_dat dk_Rd_enter 24 rfl
theorem d_Rd_enter_41 : decode prog_10_method_4_code 41 = .ok (.getfield 13, 3) := fx_dat dk_Rd_enter 25 rfl
theorem d_Rd_enter_44 : decode prog_10_method_4_code 44 = .ok (.iconst 2, 1) := fx_dat dk_Rd_enter 26 rfl
theorem d_Rd_enter_45 : decode prog_10_method_4_code 45 = .ok (.iadd, 1) := fx_dat dk_Rd_enter 27 rfl
theorem d_Rd_enter_46 : decode prog_10_method_4_code 46 = .ok (.putfield 13, 3) := fx_dat dk_Rd_enter 28 rfl
theorem d_Rd_enter_49 : decode prog_10_method_4_code 49 = .ok (.iload_n 3, 1) := fx_dat dk_Rd_enter 29 rfl
theorem d_Rd_enter_50 : decode prog_10_method_4_code 50 = .ok (.sipush 128, 3) := fx_dat dk_Rd_enter 30 rfl
theorem d_Rd_enter_53 : decode prog_10_method_4_code 53 = .ok (.if_icmp .lt 87, 3) := fx_dat dk_Rd_enter 31 rfl
theorem d_Rd_enter_56 : decode prog_10_method_4_code 56 = .ok (.iload_n 3, 1) := fx_dat dk_Rd_enter 32 rfl
theorem d_Rd_enter_57 : decode prog_10_method_4_code 57 = .ok (.sipush 128, 3) := fx_dat dk_Rd_enter 33 rfl
theorem d_Rd_enter_60 : decode prog_10_method_4_code 60 = .ok (.isub, 1) := fx_dat dk_Rd_enter 34 rfl
theorem d_Rd_enter_61 : decode prog_10_method_4_code 61 = .ok (.istore 4, 2) := fx_dat dk_Rd_enter 35 rfl
theorem d_Rd_enter_63 : decode prog_10_method_4_code 63 = .ok (.iload 4, 2) := fx_dat dk_Rd_enter 36 rfl
theorem d_Rd_enter_65 : decode prog_10_method_4_code 65 = .ok (.iconst 1, 1) := fx_dat dk_Rd_enter 37 rfl
theorem d_Rd_enter_66 : decode prog_10_method_4_code 66 = .ok (.if_icmp .lt 20, 3) := fx_dat dk_Rd_enter 38 rfl
theorem d_Rd_enter_69 : decode prog_10_method_4_code 69 = .ok (.iload 4, 2) := fx_dat dk_Rd_enter 39 rfl
theorem d_Rd_enter_71 : decode prog_10_method_4_code 71 = .ok (.iconst 3, 1) := fx_dat dk_Rd_enter 40 rfl
theorem d_Rd_enter_72 : decode prog_10_method_4_code 72 = .ok (.if_icmp .gt 14, 3) := fx_dat dk_Rd_enter 41 rfl
theorem d_Rd_enter_75 : decode prog_10_method_4_code 75 = .ok (.iload 4, 2) := fx_dat dk_Rd_enter 42 rfl
theorem d_Rd_enter_77 : decode prog_10_method_4_code 77 = .ok (.iload_n 2, 1) := fx_dat dk_Rd_enter 43 rfl
theorem d_Rd_enter_78 : decode prog_10_method_4_code 78 = .ok (.aload_n 0, 1) := fx_dat dk_Rd_enter 44 rfl
theorem d_Rd_enter_79 : decode prog_10_method_4_code 79 = .ok (.getfield 13, 3) := fx_dat dk_Rd_enter 45 rfl
theorem d_Rd_enter_82 : decode prog_10_method_4_code 82 = .ok (.isub, 1) := fx_dat dk_Rd_enter 46 rfl
theorem d_Rd_enter_83 : decode prog_10_method_4_code 83 = .ok (.if_icmp .le 7, 3) := fx_dat dk_Rd_enter 47 rfl
theorem d_Rd_enter_86 : decode prog_10_method_4_code 86 = .ok (.invokestatic 24, 3) := fx_dat dk_Rd_enter 48 rfl
theorem d_Rd_enter_89 : decode prog_10_method_4_code 89 = .ok (.athrow, 1) := fx_dat dk_Rd_enter 49 rfl
theorem d_Rd_enter_90 : decode prog_10_method_4_code 90 = .ok (.aload_n 0, 1) := fx_dat dk_Rd_enter 50 rfl
theorem d_Rd_enter_91 : decode prog_10_method_4_code 91 = .ok (.getfield 7, 3) := fx_dat dk_Rd_enter 51 rfl
theorem d_Rd_enter_94 : decode prog_10_method_4_code 94 = .ok (.aload_n 0, 1) := fx_dat dk_Rd_enter 52 rfl
theorem d_Rd_enter_95 : decode prog_10_method_4_code 95 = .ok (.getfield 13, 3) := fx_dat dk_Rd_enter 53 rfl
theorem d_Rd_enter_98 : decode prog_10_method_4_code 98 = .ok (.iload 4, 2) := fx_dat dk_Rd_enter 54 rfl
theorem d_Rd_enter_100 : decode prog_10_method_4_code 100 = .ok (.invokestatic 28, 3) := fx_dat dk_Rd_enter 55 rfl
theorem d_Rd_enter_103 : decode prog_10_method_4_code 103 = .ok (.l2i, 1) := fx_dat dk_Rd_enter 56 rfl
theorem d_Rd_enter_104 : decode prog_10_method_4_code 104 = .ok (.istore_n 3, 1) := fx_dat dk_Rd_enter 57 rfl
theorem d_Rd_enter_105 : decode prog_10_method_4_code 105 = .ok (.iload_n 3, 1) := fx_dat dk_Rd_enter 58 rfl
theorem d_Rd_enter_106 : decode prog_10_method_4_code 106 = .ok (.sipush 128, 3) := fx_dat dk_Rd_enter 59 rfl
theorem d_Rd_enter_109 : decode prog_10_method_4_code 109 = .ok (.if_icmp .lt 16, 3) := fx_dat dk_Rd_enter 60 rfl
theorem d_Rd_enter_112 : decode prog_10_method_4_code 112 = .ok (.iload_n 3, 1) := fx_dat dk_Rd_enter 61 rfl
theorem d_Rd_enter_113 : decode prog_10_method_4_code 113 = .ok (.bipush 8, 2) := fx_dat dk_Rd_enter 62 rfl
theorem d_Rd_enter_115 : decode prog_10_method_4_code 115 = .ok (.iload 4, 2) := fx_dat dk_Rd_enter 63 rfl
theorem d_Rd_enter_117 : decode prog_10_method_4_code 117 = .ok (.imul, 1) := fx_dat dk_Rd_enter 64 rfl
theorem d_Rd_enter_118 : decode prog_10_method_4_code 118 = .ok (.bipush 8, 2) := fx_dat dk_Rd_enter 65 rfl
theorem d_Rd_enter_120 : decode prog_10_method_4_code 120 = .ok (.isub, 1) := fx_dat dk_Rd_enter 66 rfl
theorem d_Rd_enter_121 : decode prog_10_method_4_code 121 = .ok (.iushr, 1) := fx_dat dk_Rd_enter 67 rfl
theorem d_Rd_enter_122 : decode prog_10_method_4_code 122 = .ok (.ifCond .ne 7, 3) := fx_dat dk_Rd_enter 68 rfl
theorem d_Rd_enter_125 : decode prog_10_method_4_code 125 = .ok (.invokestatic 24, 3) := fx_dat dk_Rd_enter 69 rfl
theorem d_Rd_enter_128 : decode prog_10_method_4_code 128 = .ok (.athrow, 1) := fx_dat dk_Rd_enter 70 rfl
theorem d_Rd_enter_129 : decode prog_10_method_4_code 129 = .ok (.aload_n 0, 1) := fx_dat dk_Rd_enter 71 rfl
theorem d_Rd_enter_130 : decode prog_10_method_4_code 130 = .ok (.dup, 1) := fx_dat dk_Rd_enter 72 rfl
theorem d_Rd_enter_131 : decode prog_10_method_4_code 131 = .ok (.getfield 13, 3) := fx_dat dk_Rd_enter 73 rfl
theorem d_Rd_enter_134 : decode prog_10_method_4_code 134 = .ok (.iload 4, 2) := fx_dat dk_Rd_enter 74 rfl
theorem d_Rd_enter_136 : decode prog_10_method_4_code 136 = .ok (.iadd, 1) := fx_dat dk_Rd_enter 75 rfl
theorem d_Rd_enter_137 : decode prog_10_method_4_code 137 = .ok (.putfield 13, 3) := fx_dat dk_Rd_enter 76 rfl
theorem d_Rd_enter_140 : decode prog_10_method_4_code 140 = .ok (.iload_n 3, 1) := fx_dat dk_Rd_enter 77 rfl
theorem d_Rd_enter_141 : decode prog_10_method_4_code 141 = .ok (.iload_n 2, 1) := fx_dat dk_Rd_enter 78 rfl
theorem d_Rd_enter_142 : decode prog_10_method_4_code 142 = .ok (.aload_n 0, 1) := fx_dat dk_Rd_enter 79 rfl
theorem d_Rd_enter_143 : decode prog_10_method_4_code 143 = .ok (.getfield 13, 3) := fx_dat dk_Rd_enter 80 rfl
theorem d_Rd_enter_146 : decode prog_10_method_4_code 146 = .ok (.isub, 1) := fx_dat dk_Rd_enter 81 rfl
theorem d_Rd_enter_147 : decode prog_10_method_4_code 147 = .ok (.if_icmp .le 7, 3) := fx_dat dk_Rd_enter 82 rfl
theorem d_Rd_enter_150 : decode prog_10_method_4_code 150 = .ok (.invokestatic 24, 3) := fx_dat dk_Rd_enter 83 rfl
theorem d_Rd_enter_153 : decode prog_10_method_4_code 153 = .ok (.athrow, 1) := fx_dat dk_Rd_enter 84 rfl
theorem d_Rd_enter_154 : decode prog_10_method_4_code 154 = .ok (.aload_n 0, 1) := fx_dat dk_Rd_enter 85 rfl
theorem d_Rd_enter_155 : decode prog_10_method_4_code 155 = .ok (.getfield 13, 3) := fx_dat dk_Rd_enter 86 rfl
theorem d_Rd_enter_158 : decode prog_10_method_4_code 158 = .ok (.iload_n 3, 1) := fx_dat dk_Rd_enter 87 rfl
theorem d_Rd_enter_159 : decode prog_10_method_4_code 159 = .ok (.iadd, 1) := fx_dat dk_Rd_enter 88 rfl
theorem d_Rd_enter_160 : decode prog_10_method_4_code 160 = .ok (.ireturn, 1) := fx_dat dk_Rd_enter 89 rfl
def m_Rd_enter_19 (Q : Int32 → AH → Prop) (E : Nat → AH → Prop) (h : AH) : Prop := m_Rd_bad (fun q1 h1 => fx_ext h h1 → E q1 h1) h
def m_Rd_enter_140 (Q : Int32 → AH → Prop) (E : Nat → AH → Prop) (r0 : Nat) (x2 : Int32) (x3 : Int32) (h : AH) : Prop := hp_k h r0 = 9 ∧ (x3 ≤ (x2 - (hp_I h r0 1)) → Q ((hp_I h r0 1) + x3) h) ∧ (¬ x3 ≤ (x2 - (hp_I h r0 1)) → m_Rd_bad (fun q1 h1 => fx_ext h h1 → E q1 h1) h)
def m_Rd_enter_86 (Q : Int32 → AH → Prop) (E : Nat → AH → Prop) (h : AH) : Prop := m_Rd_bad (fun q1 h1 => fx_ext h h1 → E q1 h1) h
def m_Rd_enter_125 (Q : Int32 → AH → Prop) (E : Nat → AH → Prop) (h : AH) : Prop := m_Rd_bad (fun q1 h1 => fx_ext h h1 → E q1 h1) h
def m_Rd_enter (Q : Int32 → AH → Prop) (E : Nat → AH → Prop) (r0 : Nat) (x1 : Int32) (x2 : Int32) (h : AH) : Prop := hp_k h r0 = 9 ∧ m_Rd_tag (fun v1 h1 => fx_ext h h1 → (¬ v1 = x1 → m_Rd_enter_19 Q E h1) ∧ (v1 = x1 → (((hp_I h1 r0 1) + (2 : Int32)) ≤ x2 → ∃ b1, hp_R h1 r0 0 = some b1 ∧ bk (hp_k h1 b1) ∧ vp_in ((hp_I h1 r0 1) + (1 : Int32)) (hp_n h1 b1) ∧ (by8 (hp_I h1 b1 (((hp_I h1 r0 1) + (1 : Int32))).toNatClampNeg) → ∀ v2 : Int32, v2 = ((hp_I h1 b1 (((hp_I h1 r0 1) + (1 : Int32))).toNatClampNeg) &&& (255 : Int32)) → ∀ h2 : AH, h2 = up_I h1 r0 1 ((hp_I h1 r0 1) + (2 : Int32)) → (v2 < (128 : Int32) → m_Rd_enter_140 Q E r0 x2 v2 h2) ∧ (¬ v2 < (128 : Int32) → ∀ v3 : Int32, v3 = (v2 - (128 : Int32)) → (v3 < (1 : Int32) → m_Rd_enter_86 Q E h2) ∧ (¬ v3 < (1 : Int32) → ((3 : Int32) < v3 → m_Rd_enter_86 Q E h2) ∧ (¬ (3 : Int32) < v3 → (v3 ≤ (x2 - (hp_I h2 r0 1)) → m_J_number (fun u1 h3 => fx_ext h2 h3 → ∀ v4 : Int32, v4 = ((u1).toInt32) → (v4 < (128 : Int32) → m_Rd_enter_125 Q E h3) ∧ (¬ v4 < (128 : Int32) → (¬ (sh_iu v4 (((8 : Int32) * v3) - (8 : Int32))) = 0 → ∀ h4 : AH, h4 = up_I h3 r0 1 ((hp_I h3 r0 1) + v3) → m_Rd_enter_140 Q E r0 x2 v4 h4) ∧ ((sh_iu v4 (((8 : Int32) * v3) - (8 : Int32))) = 0 → m_Rd_enter_125 Q E h3))) b1 (hp_I h2 r0 1) v3 h2) ∧ (¬ v3 ≤ (x2 - (hp_I h2 r0 1)) → m_Rd_enter_86 Q E h2)))))) ∧ (¬ ((hp_I h1 r0 1) + (2 : Int32)) ≤ x2 → m_Rd_enter_19 Q E h1))) r0 x2 h
theorem b_Rd_enter_19 {p : Program} {l : Launch} {e : Env} {R : Room} {s : State} {m : MethodId} {args : Array Value} {below : List Frame} {meth : Method} {c : Code} {D : DD} {h0 : AH} {Q : Int32 → AH → Prop} {E : Nat → AH → Prop} (C : fx_CX D y_Rd_enter prog_10_method_4_code 5 7 92 (Option.some FieldType.int) [] h0 p R s m meth c) (hl : l.flags = flags0) (h : AH) (hw : m_Rd_enter_19 Q E h) : ∀ (ls : Array Slot) (H : Heap) (locs : List Loc) (cells slots : Nat), lv_has ls 5 [] → fx_F D h0 h H locs cells slots → W p l e R s m args below meth c H locs cells slots (fx_Z D below s h0 (fx_oI Q E)) (F0 m 19 ls []) := by
  unfold m_Rd_enter_19 at hw
  intro ls H locs cells slots hv F
  refine fx_callR C F (c_Rd_bad hl hw) hm_Rd_bad hi_Rd_bad hv.1 (by decide) (Nat.le_of_ble_eq_true rfl) (iv_Rd_bad C F lm_Rd_24 d_Rd_enter_19) (fx_out0 _) fx_eno (fun q1 h1 H locs cells slots hw hx1 F => ?_)
  replace hw := hw hx1
  exact fx_athrow C F (fx_out0 _) d_Rd_enter_22 (Or.inr ⟨_, rfl, hw⟩)
theorem b_Rd_enter_140 {p : Program} {l : Launch} {e : Env} {R : Room} {s : State} {m : MethodId} {args : Array Value} {below : List Frame} {meth : Method} {c : Code} {D : DD} {h0 : AH} {Q : Int32 → AH → Prop} {E : Nat → AH → Prop} (C : fx_CX D y_Rd_enter prog_10_method_4_code 5 7 92 (Option.some FieldType.int) [] h0 p R s m meth c) (hl : l.flags = flags0) (r0 : Nat) (x2 : Int32) (x3 : Int32) (h : AH) (hw : m_Rd_enter_140 Q E r0 x2 x3 h) : ∀ (ls : Array Slot) (H : Heap) (locs : List Loc) (cells slots : Nat), lv_has ls 5 [(0, .ref r0), (2, .int x2), (3, .int x3)] → fx_F D h0 h H locs cells slots → W p l e R s m args below meth c H locs cells slots (fx_Z D below s h0 (fx_oI Q E)) (F0 m 140 ls []) := by
  unfold m_Rd_enter_140 at hw
  intro ls H locs cells slots hv F
  refine lv_iload_n C.ex C.by d_Rd_enter_140 rfl (lv_at hv 2 rfl) ?_
  refine lv_iload_n C.ex C.by d_Rd_enter_141 rfl (lv_at hv 1 rfl) ?_
  refine lv_aload_n C.ex C.by d_Rd_enter_142 rfl (lv_at hv 0 rfl) ?_
  obtain ⟨hk1, hw⟩ := hw
  refine fx_getI C F lf_Rd_13 hk1 rfl d_Rd_enter_143 ?_
  refine lv_isub C.ex C.by d_Rd_enter_146 ?_
  refine lv_icmp_le C.ex C.by d_Rd_enter_147 rfl (fun hc => ?_) (fun hc => ?_)
  · replace hw := hw.1 hc
    refine lv_aload_n C.ex C.by d_Rd_enter_154 rfl (lv_at hv 0 rfl) ?_
    refine fx_getI C F lf_Rd_13 hk1 rfl d_Rd_enter_155 ?_
    refine lv_iload_n C.ex C.by d_Rd_enter_158 rfl (lv_at hv 2 rfl) ?_
    refine lv_iadd C.ex C.by d_Rd_enter_159 ?_
    exact fx_iret C F d_Rd_enter_160 (Or.inl ⟨_, rfl, hw⟩)
  · replace hw := hw.2 hc
    refine fx_callR C F (c_Rd_bad hl hw) hm_Rd_bad hi_Rd_bad hv.1 (by decide) (Nat.le_of_ble_eq_true rfl) (iv_Rd_bad C F lm_Rd_24 d_Rd_enter_150) (fx_out0 _) fx_eno (fun q1 h1 H locs cells slots hw hx1 F => ?_)
    replace hw := hw hx1
    have hk1 := (hx1).k hk1
    exact fx_athrow C F (fx_out0 _) d_Rd_enter_153 (Or.inr ⟨_, rfl, hw⟩)
theorem b_Rd_enter_86 {p : Program} {l : Launch} {e : Env} {R : Room} {s : State} {m : MethodId} {args : Array Value} {below : List Frame} {meth : Method} {c : Code} {D : DD} {h0 : AH} {Q : Int32 → AH → Prop} {E : Nat → AH → Prop} (C : fx_CX D y_Rd_enter prog_10_method_4_code 5 7 92 (Option.some FieldType.int) [] h0 p R s m meth c) (hl : l.flags = flags0) (h : AH) (hw : m_Rd_enter_86 Q E h) : ∀ (ls : Array Slot) (H : Heap) (locs : List Loc) (cells slots : Nat), lv_has ls 5 [] → fx_F D h0 h H locs cells slots → W p l e R s m args below meth c H locs cells slots (fx_Z D below s h0 (fx_oI Q E)) (F0 m 86 ls []) := by
  unfold m_Rd_enter_86 at hw
  intro ls H locs cells slots hv F
  refine fx_callR C F (c_Rd_bad hl hw) hm_Rd_bad hi_Rd_bad hv.1 (by decide) (Nat.le_of_ble_eq_true rfl) (iv_Rd_bad C F lm_Rd_24 d_Rd_enter_86) (fx_out0 _) fx_eno (fun q1 h1 H locs cells slots hw hx1 F => ?_)
  replace hw := hw hx1
  exact fx_athrow C F (fx_out0 _) d_Rd_enter_89 (Or.inr ⟨_, rfl, hw⟩)
theorem b_Rd_enter_125 {p : Program} {l : Launch} {e : Env} {R : Room} {s : State} {m : MethodId} {args : Array Value} {below : List Frame} {meth : Method} {c : Code} {D : DD} {h0 : AH} {Q : Int32 → AH → Prop} {E : Nat → AH → Prop} (C : fx_CX D y_Rd_enter prog_10_method_4_code 5 7 92 (Option.some FieldType.int) [] h0 p R s m meth c) (hl : l.flags = flags0) (h : AH) (hw : m_Rd_enter_125 Q E h) : ∀ (ls : Array Slot) (H : Heap) (locs : List Loc) (cells slots : Nat), lv_has ls 5 [] → fx_F D h0 h H locs cells slots → W p l e R s m args below meth c H locs cells slots (fx_Z D below s h0 (fx_oI Q E)) (F0 m 125 ls []) := by
  unfold m_Rd_enter_125 at hw
  intro ls H locs cells slots hv F
  refine fx_callR C F (c_Rd_bad hl hw) hm_Rd_bad hi_Rd_bad hv.1 (by decide) (Nat.le_of_ble_eq_true rfl) (iv_Rd_bad C F lm_Rd_24 d_Rd_enter_125) (fx_out0 _) fx_eno (fun q1 h1 H locs cells slots hw hx1 F => ?_)
  replace hw := hw hx1
  exact fx_athrow C F (fx_out0 _) d_Rd_enter_128 (Or.inr ⟨_, rfl, hw⟩)
theorem b_Rd_enter_0 {p : Program} {l : Launch} {e : Env} {R : Room} {s : State} {m : MethodId} {args : Array Value} {below : List Frame} {meth : Method} {c : Code} {D : DD} {h0 : AH} {Q : Int32 → AH → Prop} {E : Nat → AH → Prop} (C : fx_CX D y_Rd_enter prog_10_method_4_code 5 7 92 (Option.some FieldType.int) [] h0 p R s m meth c) (hl : l.flags = flags0) (r0 : Nat) (x1 : Int32) (x2 : Int32) (h : AH) (hw : m_Rd_enter Q E r0 x1 x2 h) : ∀ (ls : Array Slot) (H : Heap) (locs : List Loc) (cells slots : Nat), lv_has ls 5 [(0, .ref r0), (1, .int x1), (2, .int x2)] → fx_F D h0 h H locs cells slots → W p l e R s m args below meth c H locs cells slots (fx_Z D below s h0 (fx_oI Q E)) (F0 m 0 ls []) := by
  unfold m_Rd_enter at hw
  intro ls H locs cells slots hv F
  refine lv_aload_n C.ex C.by d_Rd_enter_0 rfl (lv_at hv 0 rfl) ?_
  refine lv_iload_n C.ex C.by d_Rd_enter_1 rfl (lv_at hv 2 rfl) ?_
  obtain ⟨hk1, hw⟩ := hw
  refine fx_callI C F (c_Rd_tag hl hw) hm_Rd_tag hi_Rd_tag hv.1 (by decide) (Nat.le_of_ble_eq_true rfl) (iv_Rd_tag C F lm_Rd_20 hk1 d_Rd_enter_2) (fx_out0 _) fx_eno (fun v1 h1 H locs cells slots hw hx1 F => ?_)
  replace hw := hw hx1
  have hk1 := (hx1).k hk1
  refine lv_iload_n C.ex C.by d_Rd_enter_5 rfl (lv_at hv 1 rfl) ?_
  refine lv_icmp_ne C.ex C.by d_Rd_enter_6 rfl (fun hc => ?_) (fun hc => ?_)
  · replace hw := hw.1 hc
    exact b_Rd_enter_19 C hl _ hw _ _ _ _ _ (lv_sub hv [] rfl) F
  · replace hw := hw.2 hc
    refine lv_aload_n C.ex C.by d_Rd_enter_9 rfl (lv_at hv 0 rfl) ?_
    refine fx_getI C F lf_Rd_13 hk1 rfl d_Rd_enter_10 ?_
    refine lv_iconst (v := (2 : Int32)) C.ex C.by d_Rd_enter_13 (by decide) ?_
    refine lv_iadd C.ex C.by d_Rd_enter_14 ?_
    refine lv_iload_n C.ex C.by d_Rd_enter_15 rfl (lv_at hv 2 rfl) ?_
    refine lv_icmp_le C.ex C.by d_Rd_enter_16 rfl (fun hc => ?_) (fun hc => ?_)
    · replace hw := hw.1 hc
      refine lv_aload_n C.ex C.by d_Rd_enter_23 rfl (lv_at hv 0 rfl) ?_
      obtain ⟨b1, hb1, hw⟩ := hw
      refine fx_getR C F lf_Rd_7 hk1 rfl hb1 d_Rd_enter_24 ?_
      refine lv_aload_n C.ex C.by d_Rd_enter_27 rfl (lv_at hv 0 rfl) ?_
      refine fx_getI C F lf_Rd_13 hk1 rfl d_Rd_enter_28 ?_
      refine lv_iconst (v := (1 : Int32)) C.ex C.by d_Rd_enter_31 (by decide) ?_
      refine lv_iadd C.ex C.by d_Rd_enter_32 ?_
      obtain ⟨hk2, hw⟩ := hw
      obtain ⟨hi1, hw⟩ := hw
      refine fx_bald C F hk2 hi1 d_Rd_enter_33 (fun h8 => ?_)
      replace hw := hw h8
      refine lv_sipush (v := (255 : Int32)) C.ex C.by d_Rd_enter_34 (by decide) ?_
      refine lv_iand C.ex C.by d_Rd_enter_37 ?_
      let v2 : Int32 := ((hp_I h1 b1 (((hp_I h1 r0 1) + (1 : Int32))).toNatClampNeg) &&& (255 : Int32))
      replace hw := hw v2 rfl
      refine lv_istore_n (lv' := [(3, .int v2), (0, .ref r0), (1, .int x1), (2, .int x2)]) C.ex C.by d_Rd_enter_38 rfl hv (by decide) rfl (fun ls hv => ?_)
      refine lv_aload_n C.ex C.by d_Rd_enter_39 rfl (lv_at hv 1 rfl) ?_
      refine lv_dup C.ex C.by d_Rd_enter_40 rfl ?_
      refine fx_getI C F lf_Rd_13 hk1 rfl d_Rd_enter_41 ?_
      refine lv_iconst (v := (2 : Int32)) C.ex C.by d_Rd_enter_44 (by decide) ?_
      refine lv_iadd C.ex C.by d_Rd_enter_45 ?_
      let h2 : AH := up_I h1 r0 1 ((hp_I h1 r0 1) + (2 : Int32))
      replace hw := hw h2 rfl
      refine fx_putI C F lf_Rd_13 hk1 rfl rfl (fx_mayF.no rfl rfl) d_Rd_enter_46 (fun H locs (F : fx_F D h0 h2 H locs _ _) => ?_)
      refine lv_iload_n C.ex C.by d_Rd_enter_49 rfl (lv_at hv 0 rfl) ?_
      refine lv_sipush (v := (128 : Int32)) C.ex C.by d_Rd_enter_50 (by decide) ?_
      refine lv_icmp_lt C.ex C.by d_Rd_enter_53 rfl (fun hc => ?_) (fun hc => ?_)
      · replace hw := hw.1 hc
        exact b_Rd_enter_140 C hl _ _ _ _ hw _ _ _ _ _ (lv_sub hv [1, 3, 0] rfl) F
      · replace hw := hw.2 hc
        refine lv_iload_n C.ex C.by d_Rd_enter_56 rfl (lv_at hv 0 rfl) ?_
        refine lv_sipush (v := (128 : Int32)) C.ex C.by d_Rd_enter_57 (by decide) ?_
        refine lv_isub C.ex C.by d_Rd_enter_60 ?_
        let v3 : Int32 := (v2 - (128 : Int32))
        replace hw := hw v3 rfl
        refine lv_istore (lv' := [(4, .int v3), (3, .int v2), (0, .ref r0), (1, .int x1), (2, .int x2)]) C.ex C.by d_Rd_enter_61 hv (by decide) rfl (fun ls hv => ?_)
        refine lv_iload C.ex C.by d_Rd_enter_63 (lv_at hv 0 rfl) ?_
        refine lv_iconst (v := (1 : Int32)) C.ex C.by d_Rd_enter_65 (by decide) ?_
        refine lv_icmp_lt C.ex C.by d_Rd_enter_66 rfl (fun hc => ?_) (fun hc => ?_)
        · replace hw := hw.1 hc
          exact b_Rd_enter_86 C hl _ hw _ _ _ _ _ (lv_sub hv [] rfl) F
        · replace hw := hw.2 hc
          refine lv_iload C.ex C.by d_Rd_enter_69 (lv_at hv 0 rfl) ?_
          refine lv_iconst (v := (3 : Int32)) C.ex C.by d_Rd_enter_71 (by decide) ?_
          refine lv_icmp_gt C.ex C.by d_Rd_enter_72 rfl (fun hc => ?_) (fun hc => ?_)
          · replace hw := hw.1 hc
            exact b_Rd_enter_86 C hl _ hw _ _ _ _ _ (lv_sub hv [] rfl) F
          · replace hw := hw.2 hc
            refine lv_iload C.ex C.by d_Rd_enter_75 (lv_at hv 0 rfl) ?_
            refine lv_iload_n C.ex C.by d_Rd_enter_77 rfl (lv_at hv 4 rfl) ?_
            refine lv_aload_n C.ex C.by d_Rd_enter_78 rfl (lv_at hv 2 rfl) ?_
            refine fx_getI C F lf_Rd_13 hk1 rfl d_Rd_enter_79 ?_
            refine lv_isub C.ex C.by d_Rd_enter_82 ?_
            refine lv_icmp_le C.ex C.by d_Rd_enter_83 rfl (fun hc => ?_) (fun hc => ?_)
            · replace hw := hw.1 hc
              refine lv_aload_n C.ex C.by d_Rd_enter_90 rfl (lv_at hv 2 rfl) ?_
              refine fx_getR C F lf_Rd_7 hk1 rfl hb1 d_Rd_enter_91 ?_
              refine lv_aload_n C.ex C.by d_Rd_enter_94 rfl (lv_at hv 2 rfl) ?_
              refine fx_getI C F lf_Rd_13 hk1 rfl d_Rd_enter_95 ?_
              refine lv_iload C.ex C.by d_Rd_enter_98 (lv_at hv 0 rfl) ?_
              refine fx_callL C F (c_J_number hl hw) hm_J_number hi_J_number hv.1 (by decide) (Nat.le_of_ble_eq_true rfl) (iv_J_number C F lm_Rd_28 d_Rd_enter_100) (fx_out0 _) fx_eno (fun u1 h3 H locs cells slots hw hx2 F => ?_)
              replace hw := hw hx2
              have hk2 := (hx2).gb hk2
              have hk1 := (hx2).k hk1
              refine lv_l2i (v := ((u1).toInt32)) C.ex C.by d_Rd_enter_103 rfl ?_
              let v4 : Int32 := ((u1).toInt32)
              replace hw := hw v4 rfl
              refine lv_istore_n (lv' := [(3, .int v4), (4, .int v3), (0, .ref r0), (1, .int x1), (2, .int x2)]) C.ex C.by d_Rd_enter_104 rfl hv (by decide) rfl (fun ls hv => ?_)
              refine lv_iload_n C.ex C.by d_Rd_enter_105 rfl (lv_at hv 0 rfl) ?_
              refine lv_sipush (v := (128 : Int32)) C.ex C.by d_Rd_enter_106 (by decide) ?_
              refine lv_icmp_lt C.ex C.by d_Rd_enter_109 rfl (fun hc => ?_) (fun hc => ?_)
              · replace hw := hw.1 hc
                exact b_Rd_enter_125 C hl _ hw _ _ _ _ _ (lv_sub hv [] rfl) F
              · replace hw := hw.2 hc
                refine lv_iload_n C.ex C.by d_Rd_enter_112 rfl (lv_at hv 0 rfl) ?_
                refine lv_bipush (v := (8 : Int32)) C.ex C.by d_Rd_enter_113 (by decide) ?_
                refine lv_iload C.ex C.by d_Rd_enter_115 (lv_at hv 1 rfl) ?_
                refine lv_imul C.ex C.by d_Rd_enter_117 ?_
                refine lv_bipush (v := (8 : Int32)) C.ex C.by d_Rd_enter_118 (by decide) ?_
                refine lv_isub C.ex C.by d_Rd_enter_120 ?_
                refine lv_iushr (v := (sh_iu v4 (((8 : Int32) * v3) - (8 : Int32)))) C.ex C.by d_Rd_enter_121 rfl ?_
                refine lv_if_ne C.ex C.by d_Rd_enter_122 rfl (fun hc => ?_) (fun hc => ?_)
                · replace hw := hw.1 hc
                  refine lv_aload_n C.ex C.by d_Rd_enter_129 rfl (lv_at hv 2 rfl) ?_
                  refine lv_dup C.ex C.by d_Rd_enter_130 rfl ?_
                  refine fx_getI C F lf_Rd_13 hk1 rfl d_Rd_enter_131 ?_
                  refine lv_iload C.ex C.by d_Rd_enter_134 (lv_at hv 1 rfl) ?_
                  refine lv_iadd C.ex C.by d_Rd_enter_136 ?_
                  let h4 : AH := up_I h3 r0 1 ((hp_I h3 r0 1) + v3)
                  replace hw := hw h4 rfl
                  refine fx_putI C F lf_Rd_13 hk1 rfl rfl (fx_mayF.no rfl rfl) d_Rd_enter_137 (fun H locs (F : fx_F D h0 h4 H locs _ _) => ?_)
                  exact b_Rd_enter_140 C hl _ _ _ _ hw _ _ _ _ _ (lv_sub hv [2, 4, 0] rfl) F
                · replace hw := hw.2 hc
                  exact b_Rd_enter_125 C hl _ hw _ _ _ _ _ (lv_sub hv [] rfl) F
            · replace hw := hw.2 hc
              exact b_Rd_enter_86 C hl _ hw _ _ _ _ _ (lv_sub hv [] rfl) F
    · replace hw := hw.2 hc
      exact b_Rd_enter_19 C hl _ hw _ _ _ _ _ (lv_sub hv [] rfl) F
theorem hm_Rd_enter : fx_hd y_Rd_enter prog_10_method_4_code 5 (Option.some FieldType.int) [] ∈ tables_1 := (fx_m3 (List.mem_of_getElem? (i := 125) rfl))
theorem hi_Rd_enter : Cond.initialized y_Rd_enter.cls ∈ tables_1 := (fx_m1 (List.mem_of_getElem? (i := 12) rfl))
theorem c_Rd_enter {l : Launch} (hl : l.flags = flags0) {D : DD} {Q : Int32 → AH → Prop} {E : Nat → AH → Prop} {r0 : Nat} {x1 : Int32} {x2 : Int32} {h : AH} (hw : m_Rd_enter Q E r0 x1 x2 h) : fx_Mt l D y_Rd_enter (fx_hd y_Rd_enter prog_10_method_4_code 5 (Option.some FieldType.int) []) 7 92 [.ref r0, .int x1, .int x2] h (fx_oI Q E) := by
  refine fx_ofW (plainFor_of_name (by decide)) (fun p e s m below meth c C F => ?_)
  have hv := lv_entry ([.ref r0, .int x1, .int x2]) (n := 5) (Nat.le_of_ble_eq_true rfl)
  rw [lg_entry_eq]
  generalize (lg_sl ([.ref r0, .int x1, .int x2]) ++ List.replicate (5 - (lg_sl ([.ref r0, .int x1, .int x2])).length) Slot.unset).toArray = ls at hv ⊢
  have hv : lv_has ls 5 [(0, .ref r0), (1, .int x1), (2, .int x2)] := hv
  exact b_Rd_enter_0 C hl _ _ _ _ hw _ _ _ _ _ hv F
/-! ChainJudge$Reader.leave(I)V: frames 7, words 92, throws -/
abbrev y_Rd_leave : MethodName := ⟨"ChainJudge$Reader", "leave", "(I)V"⟩
def dl_Rd_leave : List (Nat × Instr × Nat) := [(0, .aload_n 0, 1), (1, .getfield 13, 3), (4, .iload_n 1, 1), (5, .if_icmp .eq 7, 3), (8, .invokestatic 24, 3), (11, .athrow, 1), (12, .return_, 1)]
theorem dk_Rd_leave : fx_dec prog_10_method_5_code dl_Rd_leave = true := by decide +kernel
theorem d_Rd_leave_0 : decode prog_10_method_5_code 0 = .ok (.aload_n 0, 1) := fx_dat dk_Rd_leave 0 rfl
theorem d_Rd_leave_1 : decode prog_10_method_5_code 1 = .ok (.getfield 13, 3) := fx_dat dk_Rd_leave 1 rfl
theorem d_Rd_leave_4 : decode prog_10_method_5_code 4 = .ok (.iload_n 1, 1) := fx_dat dk_Rd_leave 2 rfl
theorem d_Rd_leave_5 : decode prog_10_method_5_code 5 = .ok (.if_icmp .eq 7, 3) := fx_dat dk_Rd_leave 3 rfl
theorem d_Rd_leave_8 : decode prog_10_method_5_code 8 = .ok (.invokestatic 24, 3) := fx_dat dk_Rd_leave 4 rfl
theorem d_Rd_leave_11 : decode prog_10_method_5_code 11 = .ok (.athrow, 1) := fx_dat dk_Rd_leave 5 rfl
theorem d_Rd_leave_12 : decode prog_10_method_5_code 12 = .ok (.return_, 1) := fx_dat dk_Rd_leave 6 rfl
def m_Rd_leave (Q : AH → Prop) (E : Nat → AH → Prop) (r0 : Nat) (x1 : Int32) (h : AH) : Prop := hp_k h r0 = 9 ∧ ((hp_I h r0 1) = x1 → Q h) ∧ (¬ (hp_I h r0 1) = x1 → m_Rd_bad (fun q1 h1 => fx_ext h h1 → E q1 h1) h)
theorem b_Rd_leave_0 {p : Program} {l : Launch} {e : Env} {R : Room} {s : State} {m : MethodId} {args : Array Value} {below : List Frame} {meth : Method} {c : Code} {D : DD} {h0 : AH} {Q : AH → Prop} {E : Nat → AH → Prop} (C : fx_CX D y_Rd_leave prog_10_method_5_code 2 7 92 (none) [] h0 p R s m meth c) (hl : l.flags = flags0) (r0 : Nat) (x1 : Int32) (h : AH) (hw : m_Rd_leave Q E r0 x1 h) : ∀ (ls : Array Slot) (H : Heap) (locs : List Loc) (cells slots : Nat), lv_has ls 2 [(0, .ref r0), (1, .int x1)] → fx_F D h0 h H locs cells slots → W p l e R s m args below meth c H locs cells slots (fx_Z D below s h0 (fx_oV Q E)) (F0 m 0 ls []) := by
  unfold m_Rd_leave at hw
  intro ls H locs cells slots hv F
  refine lv_aload_n C.ex C.by d_Rd_leave_0 rfl (lv_at hv 0 rfl) ?_
  obtain ⟨hk1, hw⟩ := hw
  refine fx_getI C F lf_Rd_13 hk1 rfl d_Rd_leave_1 ?_
  refine lv_iload_n C.ex C.by d_Rd_leave_4 rfl (lv_at hv 1 rfl) ?_
  refine lv_icmp_eq C.ex C.by d_Rd_leave_5 rfl (fun hc => ?_) (fun hc => ?_)
  · replace hw := hw.1 hc
    exact fx_vret C F d_Rd_leave_12 (Or.inl ⟨rfl, hw⟩)
  · replace hw := hw.2 hc
    refine fx_callR C F (c_Rd_bad hl hw) hm_Rd_bad hi_Rd_bad hv.1 (by decide) (Nat.le_of_ble_eq_true rfl) (iv_Rd_bad C F lm_Rd_24 d_Rd_leave_8) (fx_out0 _) fx_eno (fun q1 h1 H locs cells slots hw hx1 F => ?_)
    replace hw := hw hx1
    have hk1 := (hx1).k hk1
    exact fx_athrow C F (fx_out0 _) d_Rd_leave_11 (Or.inr ⟨_, rfl, hw⟩)
theorem hm_Rd_leave : fx_hd y_Rd_leave prog_10_method_5_code 2 (none) [] ∈ tables_1 := (fx_m3 (List.mem_of_getElem? (i := 146) rfl))
theorem hi_Rd_leave : Cond.initialized y_Rd_leave.cls ∈ tables_1 := (fx_m1 (List.mem_of_getElem? (i := 12) rfl))
theorem c_Rd_leave {l : Launch} (hl : l.flags = flags0) {D : DD} {Q : AH → Prop} {E : Nat → AH → Prop} {r0 : Nat} {x1 : Int32} {h : AH} (hw : m_Rd_leave Q E r0 x1 h) : fx_Mt l D y_Rd_leave (fx_hd y_Rd_leave prog_10_method_5_code 2 (none) []) 7 92 [.ref r0, .int x1] h (fx_oV Q E) := by
  refine fx_ofW (plainFor_of_name (by decide)) (fun p e s m below meth c C F => ?_)
  have hv := lv_entry ([.ref r0, .int x1]) (n := 2) (Nat.le_of_ble_eq_true rfl)
  rw [lg_entry_eq]
  generalize (lg_sl ([.ref r0, .int x1]) ++ List.replicate (2 - (lg_sl ([.ref r0, .int x1])).length) Slot.unset).toArray = ls at hv ⊢
  have hv : lv_has ls 2 [(0, .ref r0), (1, .int x1)] := hv
  exact b_Rd_leave_0 C hl _ _ _ hw _ _ _ _ _ hv F
/-! ChainJudge$Reader.oid(I)I: frames 8, words 108, throws -/
abbrev y_Rd_oid : MethodName := ⟨"ChainJudge$Reader", "oid", "(I)I"⟩
theorem lm_Rd_34 : Cond.methodLink "ChainJudge$Reader" 34 y_Rd_enter ∈ tables_1 ∨ ∃ host, Cond.methodLinkNest "ChainJudge$Reader" 34 y_Rd_enter host ∈ tables_1 := Or.inl (fx_m3 (List.mem_of_getElem? (i := 166) rfl))
section
variable {p : Program} {l : Launch} {e : Env} {R : Room} {s : State} {m : MethodId} {args : Array Value} {below : List Frame} {meth : Method} {c : Code} {H : Heap} {locs : List Loc} {cells slots : Nat}
variable {D : DD} {y : MethodName} {cc : ByteArray} {nL kf kw : Nat} {ret : Option FieldType} {hh : List (Nat × Nat × Nat × Nat)} {h0 h : AH} {pc : Nat} {ls : Array Slot} {rest : List Value} {b idx : Nat}
theorem iv_Rd_enter {x1 : Int32} {x2 : Int32} (C : fx_CX D y cc nL kf kw ret hh h0 p R s m meth c) (F : fx_F D h0 h H locs cells slots) (hw1 : Cond.methodLink y.cls idx y_Rd_enter ∈ tables_1 ∨ ∃ host, Cond.methodLinkNest y.cls idx y_Rd_enter host ∈ tables_1) (hk : hp_k h b = 9) (hd : decode cc pc = .ok (.invokevirtual idx, 3)) : fx_IV p l e R s m args below meth c H locs cells slots (F0 m pc ls (.int x2 :: .int x1 :: .ref b :: rest)) rest y_Rd_enter [.ref b, .int x1, .int x2] 3 := fun T hT X => fx_invV (As := [.int x1, .int x2]) (Cn := "ChainJudge$Reader") C X hw1 (fx_m3 (List.mem_of_getElem? (i := 123) rfl)) (fx_selW C (fx_m3 (List.mem_of_getElem? (i := 124) rfl))) hm_Rd_enter ⟨by decide, by decide⟩ (by rw [hT]; exact fx_clsO (ci := 8) (r := ("ChainJudge$Reader", fx_T8, 2)) C F rfl (by decide) hk) rfl (n := 2) (by decide +kernel) rfl rfl hd
end
def dl_Rd_oid : List (Nat × Instr × Nat) := [(0, .aload_n 0, 1), (1, .bipush 6, 2), (3, .iload_n 1, 1), (4, .invokevirtual 34, 3), (7, .istore_n 2, 1), (8, .aload_n 0, 1), (9, .getfield 13, 3), (12, .istore_n 3, 1), (13, .iload_n 2, 1), (14, .iload_n 3, 1), (15, .isub, 1), (16, .iconst 1, 1), (17, .if_icmp .lt 22, 3), (20, .iload_n 2, 1), (21, .iload_n 3, 1), (22, .isub, 1), (23, .bipush 32, 2), (25, .if_icmp .gt 14, 3), (28, .aload_n 0, 1), (29, .getfield 7, 3), (32, .iload_n 2, 1), (33, .iconst 1, 1), (34, .isub, 1), (35, .baload, 1), (36, .ifCond .ge 7, 3), (39, .invokestatic 24, 3), (42, .athrow, 1), (43, .iload_n 3, 1), (44, .istore 4, 2), (46, .iload 4, 2), (48, .iload_n 2, 1), (49, .if_icmp .ge 43, 3), (52, .aload_n 0, 1), (53, .getfield 7, 3), (56, .iload 4, 2), (58, .baload, 1), (59, .bipush (-128), 2), (61, .if_icmp .ne 25, 3), (64, .iload 4, 2), (66, .iload_n 3, 1), (67, .if_icmp .eq 15, 3), (70, .aload_n 0, 1), (71, .getfield 7, 3), (74, .iload 4, 2), (76, .iconst 1, 1), (77, .isub, 1), (78, .baload, 1), (79, .ifCond .lt 7, 3), (82, .invokestatic 24, 3), (85, .athrow, 1), (86, .iinc 4 1, 3), (89, .goto (-43), 3), (92, .aload_n 0, 1), (93, .iload_n 2, 1), (94, .putfield 13, 3), (97, .iload_n 3, 1), (98, .ireturn, 1)]
theorem dk_Rd_oid : fx_dec prog_10_method_8_code dl_Rd_oid = true := by decide +kernel
theorem d_Rd_oid_0 : decode prog_10_method_8_code 0 = .ok (.aload_n 0, 1) := fx_dat dk_Rd_oid 0 rfl
theorem d_Rd_oid_1 : decode prog_10_method_8_code 1 = .ok (.bipush 6, 2) := fx_dat dk_Rd_oid 1 rfl
theorem d_Rd_oid_3 : decode prog_10_method_8_code 3 = .ok (.iload_n 1, 1) := fx_dat dk_Rd_oid 2 rfl
theorem d_Rd_oid_4 : decode prog_10_method_8_code 4 = .ok (.invokevirtual 34, 3) := fx_dat dk_Rd_oid 3 rfl
theorem d_Rd_oid_7 : decode prog_10_method_8_code 7 = .ok (.istore_n 2, 1) := fx_dat dk_Rd_oid 4 rfl
theorem d_Rd_oid_8 : decode prog_10_method_8_code 8 = .ok (.aload_n 0, 1) := fx_dat dk_Rd_oid 5 rfl
theorem d_Rd_oid_9 : decode prog_10_method_8_code 9 = .ok (.getfield 13, 3) := fx_dat dk_Rd_oid 6 rfl
theorem d_Rd_oid_12 : decode prog_10_method_8_code 12 = .ok (.istore_n 3, 1) := fx_dat dk_Rd_oid 7 rfl
theorem d_Rd_oid_13 : decode prog_10_method_8_code 13 = .ok (.iload_n 2, 1) := fx_dat dk_Rd_oid 8 rfl
theorem d_Rd_oid_14 : decode prog_10_method_8_code 14 = .ok (.iload_n 3, 1) := fx_dat dk_Rd_oid 9 rfl
theorem d_Rd_oid_15 : decode prog_10_method_8_code 15 = .ok (.isub, 1) := fx_dat dk_Rd_oid 10 rfl
theorem d_Rd_oid_16 : decode prog_10_method_8_code 16 = .ok (.iconst 1, 1) := fx_dat dk_Rd_oid 11 rfl
theorem d_Rd_oid_17 : decode prog_10_method_8_code 17 = .ok (.if_icmp .lt 22, 3) := fx_dat dk_Rd_oid 12 rfl
theorem d_Rd_oid_20 : decode prog_10_method_8_code 20 = .ok (.iload_n 2, 1) := fx_dat dk_Rd_oid 13 rfl
theorem d_Rd_oid_21 : decode prog_10_method_8_code 21 = .ok (.iload_n 3, 1) := fx_dat dk_Rd_oid 14 rfl
theorem d_Rd_oid_22 : decode prog_10_method_8_code 22 = .ok (.isub, 1) := fx_dat dk_Rd_oid 15 rfl
theorem d_Rd_oid_23 : decode prog_10_method_8_code 23 = .ok (.bipush 32, 2) := fx_dat dk_Rd_oid 16 rfl
theorem d_Rd_oid_25 : decode prog_10_method_8_code 25 = .ok (.if_icmp .gt 14, 3) := fx_dat dk_Rd_oid 17 rfl
theorem d_Rd_oid_28 : decode prog_10_method_8_code 28 = .ok (.aload_n 0, 1) := fx_dat dk_Rd_oid 18 rfl
theorem d_Rd_oid_29 : decode prog_10_method_8_code 29 = .ok (.getfield 7, 3) := fx_dat dk_Rd_oid 19 rfl
theorem d_Rd_oid_32 : decode prog_10_method_8_code 32 = .ok (.iload_n 2, 1) := fx_dat dk_Rd_oid 20 rfl
theorem d_Rd_oid_33 : decode prog_10_method_8_code 33 = .ok (.iconst 1, 1) := fx_dat dk_Rd_oid 21 rfl
theorem d_Rd_oid_34 : decode prog_10_method_8_code 34 = .ok (.isub, 1) := fx_dat dk_Rd_oid 22 rfl
theorem d_Rd_oid_35 : decode prog_10_method_8_code 35 = .ok (.baload, 1) := fx_dat dk_Rd_oid 23 rfl
theorem d_Rd_oid_36 : decode prog_10_method_8_code 36 = .ok (.ifCond .ge 7, 3) := fx_dat dk_Rd_oid 24 rfl
theorem d_Rd_oid_39 : decode prog_10_method_8_code 39 = .ok (.invokestatic 24, 3) := fx_dat dk_Rd_oid 25 rfl
theorem d_Rd_oid_42 : decode prog_10_method_8_code 42 = .ok (.athrow, 1) := fx_dat dk_Rd_oid 26 rfl
theorem d_Rd_oid_43 : decode prog_10_method_8_code 43 = .ok (.iload_n 3, 1) := fx_dat dk_Rd_oid 27 rfl
theorem d_Rd_oid_44 : decode prog_10_method_8_code 44 = .ok (.istore 4, 2) := fx_dat dk_Rd_oid 28 rfl
theorem d_Rd_oid_46 : decode prog_10_method_8_code 46 = .ok (.iload 4, 2) := fx_dat dk_Rd_oid 29 rfl
theorem d_Rd_oid_48 : decode prog_10_method_8_code 48 = .ok (.iload_n 2, 1) := fx_dat dk_Rd_oid 30 rfl
theorem d_Rd_oid_49 : decode prog_10_method_8_code 49 = .ok (.if_icmp .ge 43, 3) := fx_dat dk_Rd_oid 31 rfl
theorem d_Rd_oid_52 : decode prog_10_method_8_code 52 = .ok (.aload_n 0, 1) := fx_dat dk_Rd_oid 32 rfl
theorem d_Rd_oid_53 : decode prog_10_method_8_code 53 = .ok (.getfield 7, 3) := fx_dat dk_Rd_oid 33 rfl
theorem d_Rd_oid_56 : decode prog_10_method_8_code 56 = .ok (.iload 4, 2) := fx_dat dk_Rd_oid 34 rfl
theorem d_Rd_oid_58 : decode prog_10_method_8_code 58 = .ok (.baload, 1) := fx_dat dk_Rd_oid 35 rfl
theorem d_Rd_oid_59 : decode prog_10_method_8_code 59 = .ok (.bipush (-128), 2) := fx_dat dk_Rd_oid 36 rfl
theorem d_Rd_oid_61 : decode prog_10_method_8_code 61 = .ok (.if_icmp .ne 25, 3) := fx_dat dk_Rd_oid 37 rfl
theorem d_Rd_oid_64 : decode prog_10_method_8_code 64 = .ok (.iload 4, 2) := fx_dat dk_Rd_oid 38 rfl
theorem d_Rd_oid_66 : decode prog_10_method_8_code 66 = .ok (.iload_n 3, 1) := fx_dat dk_Rd_oid 39 rfl
theorem d_Rd_oid_67 : decode prog_10_method_8_code 67 = .ok (.if_icmp .eq 15, 3) := fx_dat dk_Rd_oid 40 rfl
theorem d_Rd_oid_70 : decode prog_10_method_8_code 70 = .ok (.aload_n 0, 1) := fx_dat dk_Rd_oid 41 rfl
theorem d_Rd_oid_71 : decode prog_10_method_8_code 71 = .ok (.getfield 7, 3) := fx_dat dk_Rd_oid 42 rfl
theorem d_Rd_oid_74 : decode prog_10_method_8_code 74 = .ok (.iload 4, 2) := fx_dat dk_Rd_oid 43 rfl
theorem d_Rd_oid_76 : decode prog_10_method_8_code 76 = .ok (.iconst 1, 1) := fx_dat dk_Rd_oid 44 rfl
theorem d_Rd_oid_77 : decode prog_10_method_8_code 77 = .ok (.isub, 1) := fx_dat dk_Rd_oid 45 rfl
theorem d_Rd_oid_78 : decode prog_10_method_8_code 78 = .ok (.baload, 1) := fx_dat dk_Rd_oid 46 rfl
theorem d_Rd_oid_79 : decode prog_10_method_8_code 79 = .ok (.ifCond .lt 7, 3) := fx_dat dk_Rd_oid 47 rfl
theorem d_Rd_oid_82 : decode prog_10_method_8_code 82 = .ok (.invokestatic 24, 3) := fx_dat dk_Rd_oid 48 rfl
theorem d_Rd_oid_85 : decode prog_10_method_8_code 85 = .ok (.athrow, 1) := fx_dat dk_Rd_oid 49 rfl
theorem d_Rd_oid_86 : decode prog_10_method_8_code 86 = .ok (.iinc 4 1, 3) := fx_dat dk_Rd_oid 50 rfl
theorem d_Rd_oid_89 : decode prog_10_method_8_code 89 = .ok (.goto (-43), 3) := fx_dat dk_Rd_oid 51 rfl
theorem d_Rd_oid_92 : decode prog_10_method_8_code 92 = .ok (.aload_n 0, 1) := fx_dat dk_Rd_oid 52 rfl
theorem d_Rd_oid_93 : decode prog_10_method_8_code 93 = .ok (.iload_n 2, 1) := fx_dat dk_Rd_oid 53 rfl
theorem d_Rd_oid_94 : decode prog_10_method_8_code 94 = .ok (.putfield 13, 3) := fx_dat dk_Rd_oid 54 rfl
theorem d_Rd_oid_97 : decode prog_10_method_8_code 97 = .ok (.iload_n 3, 1) := fx_dat dk_Rd_oid 55 rfl
theorem d_Rd_oid_98 : decode prog_10_method_8_code 98 = .ok (.ireturn, 1) := fx_dat dk_Rd_oid 56 rfl
def m_Rd_oid_39 (Q : Int32 → AH → Prop) (E : Nat → AH → Prop) (h : AH) : Prop := m_Rd_bad (fun q1 h1 => fx_ext h h1 → E q1 h1) h
def m_Rd_oid_86 (Q : Int32 → AH → Prop) (E : Nat → AH → Prop) (X46 : Int32 × AH → Prop) (r0 : Nat) (x2 : Int32) (x3 : Int32) (x4 : Int32) (h : AH) : Prop := ∀ v1 : Int32, v1 = (x4 + (1 : Int32)) → X46 (v1, h)
def m_Rd_oid_82 (Q : Int32 → AH → Prop) (E : Nat → AH → Prop) (h : AH) : Prop := m_Rd_bad (fun q1 h1 => fx_ext h h1 → E q1 h1) h
def m_Rd_oid_46_b (Q : Int32 → AH → Prop) (E : Nat → AH → Prop) (X46 : Int32 × AH → Prop) (r0 : Nat) (x2 : Int32) (x3 : Int32) (x4 : Int32) (h : AH) : Prop := (x2 ≤ x4 → hp_k h r0 = 9 ∧ ∀ h1 : AH, h1 = up_I h r0 1 x2 → Q x3 h1) ∧ (¬ x2 ≤ x4 → hp_k h r0 = 9 ∧ ∃ b1, hp_R h r0 0 = some b1 ∧ bk (hp_k h b1) ∧ vp_in x4 (hp_n h b1) ∧ (by8 (hp_I h b1 x4.toNatClampNeg) → (¬ (hp_I h b1 x4.toNatClampNeg) = (-128 : Int32) → m_Rd_oid_86 Q E X46 r0 x2 x3 x4 h) ∧ ((hp_I h b1 x4.toNatClampNeg) = (-128 : Int32) → (x4 = x3 → m_Rd_oid_82 Q E h) ∧ (¬ x4 = x3 → vp_in (x4 - (1 : Int32)) (hp_n h b1) ∧ (by8 (hp_I h b1 ((x4 - (1 : Int32))).toNatClampNeg) → ((hp_I h b1 ((x4 - (1 : Int32))).toNatClampNeg) < 0 → m_Rd_oid_86 Q E X46 r0 x2 x3 x4 h) ∧ (¬ (hp_I h b1 ((x4 - (1 : Int32))).toNatClampNeg) < 0 → m_Rd_oid_82 Q E h))))))
def m_Rd_oid_46 (Q : Int32 → AH → Prop) (E : Nat → AH → Prop) (r0 : Nat) (x2 : Int32) (x3 : Int32) (x4 : Int32) (h : AH) : Prop := fx_loop (fun (X46 : Int32 × AH → Prop) (st : Int32 × AH) => m_Rd_oid_46_b Q E X46 r0 x2 x3 st.1 st.2) (x4, h)
def m_Rd_oid (Q : Int32 → AH → Prop) (E : Nat → AH → Prop) (r0 : Nat) (x1 : Int32) (h : AH) : Prop := hp_k h r0 = 9 ∧ m_Rd_enter (fun v1 h1 => fx_ext h h1 → ∀ v2 : Int32, v2 = (hp_I h1 r0 1) → ((v1 - v2) < (1 : Int32) → m_Rd_oid_39 Q E h1) ∧ (¬ (v1 - v2) < (1 : Int32) → ((32 : Int32) < (v1 - v2) → m_Rd_oid_39 Q E h1) ∧ (¬ (32 : Int32) < (v1 - v2) → ∃ b1, hp_R h1 r0 0 = some b1 ∧ bk (hp_k h1 b1) ∧ vp_in (v1 - (1 : Int32)) (hp_n h1 b1) ∧ (by8 (hp_I h1 b1 ((v1 - (1 : Int32))).toNatClampNeg) → (0 ≤ (hp_I h1 b1 ((v1 - (1 : Int32))).toNatClampNeg) → m_Rd_oid_46 Q E r0 v1 v2 v2 h1) ∧ (¬ 0 ≤ (hp_I h1 b1 ((v1 - (1 : Int32))).toNatClampNeg) → m_Rd_oid_39 Q E h1))))) (fun a ht => fx_ext h ht → E a ht) r0 (6 : Int32) x1 h
theorem b_Rd_oid_39 {p : Program} {l : Launch} {e : Env} {R : Room} {s : State} {m : MethodId} {args : Array Value} {below : List Frame} {meth : Method} {c : Code} {D : DD} {h0 : AH} {Q : Int32 → AH → Prop} {E : Nat → AH → Prop} (C : fx_CX D y_Rd_oid prog_10_method_8_code 5 8 108 (Option.some FieldType.int) [] h0 p R s m meth c) (hl : l.flags = flags0) (h : AH) (hw : m_Rd_oid_39 Q E h) : ∀ (ls : Array Slot) (H : Heap) (locs : List Loc) (cells slots : Nat), lv_has ls 5 [] → fx_F D h0 h H locs cells slots → W p l e R s m args below meth c H locs cells slots (fx_Z D below s h0 (fx_oI Q E)) (F0 m 39 ls []) := by
  unfold m_Rd_oid_39 at hw
  intro ls H locs cells slots hv F
  refine fx_callR C F (c_Rd_bad hl hw) hm_Rd_bad hi_Rd_bad hv.1 (by decide) (Nat.le_of_ble_eq_true rfl) (iv_Rd_bad C F lm_Rd_24 d_Rd_oid_39) (fx_out0 _) fx_eno (fun q1 h1 H locs cells slots hw hx1 F => ?_)
  replace hw := hw hx1
  exact fx_athrow C F (fx_out0 _) d_Rd_oid_42 (Or.inr ⟨_, rfl, hw⟩)
theorem b_Rd_oid_86 {p : Program} {l : Launch} {e : Env} {R : Room} {s : State} {m : MethodId} {args : Array Value} {below : List Frame} {meth : Method} {c : Code} {D : DD} {h0 : AH} {Q : Int32 → AH → Prop} {E : Nat → AH → Prop} {X46 : Int32 × AH → Prop} (C : fx_CX D y_Rd_oid prog_10_method_8_code 5 8 108 (Option.some FieldType.int) [] h0 p R s m meth c) (hl : l.flags = flags0) (r0 : Nat) (x2 : Int32) (x3 : Int32) (x4 : Int32) (h : AH) (hX46 : ∀ st, X46 st → ∀ (ls : Array Slot) (H : Heap) (locs : List Loc) (cells slots : Nat), lv_has ls 5 [(0, .ref r0), (2, .int x2), (3, .int x3), (4, .int st.1)] → fx_F D h0 st.2 H locs cells slots → W p l e R s m args below meth c H locs cells slots (fx_Z D below s h0 (fx_oI Q E)) (F0 m 46 ls [])) (hw : m_Rd_oid_86 Q E X46 r0 x2 x3 x4 h) : ∀ (ls : Array Slot) (H : Heap) (locs : List Loc) (cells slots : Nat), lv_has ls 5 [(0, .ref r0), (2, .int x2), (3, .int x3), (4, .int x4)] → fx_F D h0 h H locs cells slots → W p l e R s m args below meth c H locs cells slots (fx_Z D below s h0 (fx_oI Q E)) (F0 m 86 ls []) := by
  unfold m_Rd_oid_86 at hw
  intro ls H locs cells slots hv F
  let v1 : Int32 := (x4 + (1 : Int32))
  replace hw := hw v1 rfl
  refine lv_iinc (v := v1) (k := 3) (lv' := [(4, .int v1), (0, .ref r0), (2, .int x2), (3, .int x3)]) C.ex C.by d_Rd_oid_86 hv rfl (congrArg (fun z => x4 + z) (by decide)) (by decide) rfl (fun ls hv => ?_)
  refine lv_goto C.ex C.by d_Rd_oid_89 rfl ?_
  exact hX46 _ hw _ _ _ _ _ (lv_sub hv [1, 2, 3, 0] rfl) F
theorem b_Rd_oid_82 {p : Program} {l : Launch} {e : Env} {R : Room} {s : State} {m : MethodId} {args : Array Value} {below : List Frame} {meth : Method} {c : Code} {D : DD} {h0 : AH} {Q : Int32 → AH → Prop} {E : Nat → AH → Prop} (C : fx_CX D y_Rd_oid prog_10_method_8_code 5 8 108 (Option.some FieldType.int) [] h0 p R s m meth c) (hl : l.flags = flags0) (h : AH) (hw : m_Rd_oid_82 Q E h) : ∀ (ls : Array Slot) (H : Heap) (locs : List Loc) (cells slots : Nat), lv_has ls 5 [] → fx_F D h0 h H locs cells slots → W p l e R s m args below meth c H locs cells slots (fx_Z D below s h0 (fx_oI Q E)) (F0 m 82 ls []) := by
  unfold m_Rd_oid_82 at hw
  intro ls H locs cells slots hv F
  refine fx_callR C F (c_Rd_bad hl hw) hm_Rd_bad hi_Rd_bad hv.1 (by decide) (Nat.le_of_ble_eq_true rfl) (iv_Rd_bad C F lm_Rd_24 d_Rd_oid_82) (fx_out0 _) fx_eno (fun q1 h1 H locs cells slots hw hx1 F => ?_)
  replace hw := hw hx1
  exact fx_athrow C F (fx_out0 _) d_Rd_oid_85 (Or.inr ⟨_, rfl, hw⟩)
theorem b_Rd_oid_46 {p : Program} {l : Launch} {e : Env} {R : Room} {s : State} {m : MethodId} {args : Array Value} {below : List Frame} {meth : Method} {c : Code} {D : DD} {h0 : AH} {Q : Int32 → AH → Prop} {E : Nat → AH → Prop} (C : fx_CX D y_Rd_oid prog_10_method_8_code 5 8 108 (Option.some FieldType.int) [] h0 p R s m meth c) (hl : l.flags = flags0) (r0 : Nat) (x2 : Int32) (x3 : Int32) (x4 : Int32) (h : AH) (hw : m_Rd_oid_46 Q E r0 x2 x3 x4 h) : ∀ (ls : Array Slot) (H : Heap) (locs : List Loc) (cells slots : Nat), lv_has ls 5 [(0, .ref r0), (2, .int x2), (3, .int x3), (4, .int x4)] → fx_F D h0 h H locs cells slots → W p l e R s m args below meth c H locs cells slots (fx_Z D below s h0 (fx_oI Q E)) (F0 m 46 ls []) := by
  refine fx_loop.use hw (fun st => ∀ (ls : Array Slot) (H : Heap) (locs : List Loc) (cells slots : Nat), lv_has ls 5 [(0, .ref r0), (2, .int x2), (3, .int x3), (4, .int st.1)] → fx_F D h0 st.2 H locs cells slots → W p l e R s m args below meth c H locs cells slots (fx_Z D below s h0 (fx_oI Q E)) (F0 m 46 ls [])) (fun X46 st hX46 hw => ?_)
  obtain ⟨x4, h⟩ := st
  replace hw : m_Rd_oid_46_b Q E X46 r0 x2 x3 x4 h := hw
  unfold m_Rd_oid_46_b at hw
  intro ls H locs cells slots hv F
  refine lv_iload C.ex C.by d_Rd_oid_46 (lv_at hv 3 rfl) ?_
  refine lv_iload_n C.ex C.by d_Rd_oid_48 rfl (lv_at hv 1 rfl) ?_
  refine lv_icmp_ge C.ex C.by d_Rd_oid_49 rfl (fun hc => ?_) (fun hc => ?_)
  · replace hw := hw.1 hc
    refine lv_aload_n C.ex C.by d_Rd_oid_92 rfl (lv_at hv 0 rfl) ?_
    refine lv_iload_n C.ex C.by d_Rd_oid_93 rfl (lv_at hv 1 rfl) ?_
    obtain ⟨hk1, hw⟩ := hw
    let h1 : AH := up_I h r0 1 x2
    replace hw := hw h1 rfl
    refine fx_putI C F lf_Rd_13 hk1 rfl rfl (fx_mayF.no rfl rfl) d_Rd_oid_94 (fun H locs (F : fx_F D h0 h1 H locs _ _) => ?_)
    refine lv_iload_n C.ex C.by d_Rd_oid_97 rfl (lv_at hv 2 rfl) ?_
    exact fx_iret C F d_Rd_oid_98 (Or.inl ⟨_, rfl, hw⟩)
  · replace hw := hw.2 hc
    refine lv_aload_n C.ex C.by d_Rd_oid_52 rfl (lv_at hv 0 rfl) ?_
    obtain ⟨hk2, hw⟩ := hw
    obtain ⟨b1, hb1, hw⟩ := hw
    refine fx_getR C F lf_Rd_7 hk2 rfl hb1 d_Rd_oid_53 ?_
    refine lv_iload C.ex C.by d_Rd_oid_56 (lv_at hv 3 rfl) ?_
    obtain ⟨hk3, hw⟩ := hw
    obtain ⟨hi1, hw⟩ := hw
    refine fx_bald C F hk3 hi1 d_Rd_oid_58 (fun h8 => ?_)
    replace hw := hw h8
    refine lv_bipush (v := (-128 : Int32)) C.ex C.by d_Rd_oid_59 (by decide) ?_
    refine lv_icmp_ne C.ex C.by d_Rd_oid_61 rfl (fun hc => ?_) (fun hc => ?_)
    · replace hw := hw.1 hc
      exact b_Rd_oid_86 C hl _ _ _ _ _ hX46 hw _ _ _ _ _ hv F
    · replace hw := hw.2 hc
      refine lv_iload C.ex C.by d_Rd_oid_64 (lv_at hv 3 rfl) ?_
      refine lv_iload_n C.ex C.by d_Rd_oid_66 rfl (lv_at hv 2 rfl) ?_
      refine lv_icmp_eq C.ex C.by d_Rd_oid_67 rfl (fun hc => ?_) (fun hc => ?_)
      · replace hw := hw.1 hc
        exact b_Rd_oid_82 C hl _ hw _ _ _ _ _ (lv_sub hv [] rfl) F
      · replace hw := hw.2 hc
        refine lv_aload_n C.ex C.by d_Rd_oid_70 rfl (lv_at hv 0 rfl) ?_
        refine fx_getR C F lf_Rd_7 hk2 rfl hb1 d_Rd_oid_71 ?_
        refine lv_iload C.ex C.by d_Rd_oid_74 (lv_at hv 3 rfl) ?_
        refine lv_iconst (v := (1 : Int32)) C.ex C.by d_Rd_oid_76 (by decide) ?_
        refine lv_isub C.ex C.by d_Rd_oid_77 ?_
        obtain ⟨hi2, hw⟩ := hw
        refine fx_bald C F hk3 hi2 d_Rd_oid_78 (fun h8 => ?_)
        replace hw := hw h8
        refine lv_if_lt C.ex C.by d_Rd_oid_79 rfl (fun hc => ?_) (fun hc => ?_)
        · replace hw := hw.1 hc
          exact b_Rd_oid_86 C hl _ _ _ _ _ hX46 hw _ _ _ _ _ hv F
        · replace hw := hw.2 hc
          exact b_Rd_oid_82 C hl _ hw _ _ _ _ _ (lv_sub hv [] rfl) F
theorem b_Rd_oid_0 {p : Program} {l : Launch} {e : Env} {R : Room} {s : State} {m : MethodId} {args : Array Value} {below : List Frame} {meth : Method} {c : Code} {D : DD} {h0 : AH} {Q : Int32 → AH → Prop} {E : Nat → AH → Prop} (C : fx_CX D y_Rd_oid prog_10_method_8_code 5 8 108 (Option.some FieldType.int) [] h0 p R s m meth c) (hl : l.flags = flags0) (r0 : Nat) (x1 : Int32) (h : AH) (hw : m_Rd_oid Q E r0 x1 h) : ∀ (ls : Array Slot) (H : Heap) (locs : List Loc) (cells slots : Nat), lv_has ls 5 [(0, .ref r0), (1, .int x1)] → fx_F D h0 h H locs cells slots → W p l e R s m args below meth c H locs cells slots (fx_Z D below s h0 (fx_oI Q E)) (F0 m 0 ls []) := by
  unfold m_Rd_oid at hw
  intro ls H locs cells slots hv F
  refine lv_aload_n C.ex C.by d_Rd_oid_0 rfl (lv_at hv 0 rfl) ?_
  refine lv_bipush (v := (6 : Int32)) C.ex C.by d_Rd_oid_1 (by decide) ?_
  refine lv_iload_n C.ex C.by d_Rd_oid_3 rfl (lv_at hv 1 rfl) ?_
  obtain ⟨hk1, hw⟩ := hw
  refine fx_callI C F (c_Rd_enter hl hw) hm_Rd_enter hi_Rd_enter hv.1 (by decide) (Nat.le_of_ble_eq_true rfl) (iv_Rd_enter C F lm_Rd_34 hk1 d_Rd_oid_4) (fx_out0 _) (fun _ _ hE hx => Or.inr ⟨_, rfl, hE hx⟩) (fun v1 h1 H locs cells slots hw hx1 F => ?_)
  replace hw := hw hx1
  have hk1 := (hx1).k hk1
  refine lv_istore_n (lv' := [(2, .int v1), (0, .ref r0), (1, .int x1)]) C.ex C.by d_Rd_oid_7 rfl hv (by decide) rfl (fun ls hv => ?_)
  refine lv_aload_n C.ex C.by d_Rd_oid_8 rfl (lv_at hv 1 rfl) ?_
  refine fx_getI C F lf_Rd_13 hk1 rfl d_Rd_oid_9 ?_
  let v2 : Int32 := (hp_I h1 r0 1)
  replace hw := hw v2 rfl
  refine lv_istore_n (lv' := [(3, .int v2), (2, .int v1), (0, .ref r0), (1, .int x1)]) C.ex C.by d_Rd_oid_12 rfl hv (by decide) rfl (fun ls hv => ?_)
  refine lv_iload_n C.ex C.by d_Rd_oid_13 rfl (lv_at hv 1 rfl) ?_
  refine lv_iload_n C.ex C.by d_Rd_oid_14 rfl (lv_at hv 0 rfl) ?_
  refine lv_isub C.ex C.by d_Rd_oid_15 ?_
  refine lv_iconst (v := (1 : Int32)) C.ex C.by d_Rd_oid_16 (by decide) ?_
  refine lv_icmp_lt C.ex C.by d_Rd_oid_17 rfl (fun hc => ?_) (fun hc => ?_)
  · replace hw := hw.1 hc
    exact b_Rd_oid_39 C hl _ hw _ _ _ _ _ (lv_sub hv [] rfl) F
  · replace hw := hw.2 hc
    refine lv_iload_n C.ex C.by d_Rd_oid_20 rfl (lv_at hv 1 rfl) ?_
    refine lv_iload_n C.ex C.by d_Rd_oid_21 rfl (lv_at hv 0 rfl) ?_
    refine lv_isub C.ex C.by d_Rd_oid_22 ?_
    refine lv_bipush (v := (32 : Int32)) C.ex C.by d_Rd_oid_23 (by decide) ?_
    refine lv_icmp_gt C.ex C.by d_Rd_oid_25 rfl (fun hc => ?_) (fun hc => ?_)
    · replace hw := hw.1 hc
      exact b_Rd_oid_39 C hl _ hw _ _ _ _ _ (lv_sub hv [] rfl) F
    · replace hw := hw.2 hc
      refine lv_aload_n C.ex C.by d_Rd_oid_28 rfl (lv_at hv 2 rfl) ?_
      obtain ⟨b1, hb1, hw⟩ := hw
      refine fx_getR C F lf_Rd_7 hk1 rfl hb1 d_Rd_oid_29 ?_
      refine lv_iload_n C.ex C.by d_Rd_oid_32 rfl (lv_at hv 1 rfl) ?_
      refine lv_iconst (v := (1 : Int32)) C.ex C.by d_Rd_oid_33 (by decide) ?_
      refine lv_isub C.ex C.by d_Rd_oid_34 ?_
      obtain ⟨hk2, hw⟩ := hw
      obtain ⟨hi1, hw⟩ := hw
      refine fx_bald C F hk2 hi1 d_Rd_oid_35 (fun h8 => ?_)
      replace hw := hw h8
      refine lv_if_ge C.ex C.by d_Rd_oid_36 rfl (fun hc => ?_) (fun hc => ?_)
      · replace hw := hw.1 hc
        refine lv_iload_n C.ex C.by d_Rd_oid_43 rfl (lv_at hv 0 rfl) ?_
        refine lv_istore (lv' := [(4, .int v2), (3, .int v2), (2, .int v1), (0, .ref r0), (1, .int x1)]) C.ex C.by d_Rd_oid_44 hv (by decide) rfl (fun ls hv => ?_)
        exact b_Rd_oid_46 C hl _ _ _ _ _ hw _ _ _ _ _ (lv_sub hv [3, 2, 1, 0] rfl) F
      · replace hw := hw.2 hc
        exact b_Rd_oid_39 C hl _ hw _ _ _ _ _ (lv_sub hv [] rfl) F
theorem hm_Rd_oid : fx_hd y_Rd_oid prog_10_method_8_code 5 (Option.some FieldType.int) [] ∈ tables_1 := (fx_m3 (List.mem_of_getElem? (i := 165) rfl))
theorem hi_Rd_oid : Cond.initialized y_Rd_oid.cls ∈ tables_1 := (fx_m1 (List.mem_of_getElem? (i := 12) rfl))
theorem c_Rd_oid {l : Launch} (hl : l.flags = flags0) {D : DD} {Q : Int32 → AH → Prop} {E : Nat → AH → Prop} {r0 : Nat} {x1 : Int32} {h : AH} (hw : m_Rd_oid Q E r0 x1 h) : fx_Mt l D y_Rd_oid (fx_hd y_Rd_oid prog_10_method_8_code 5 (Option.some FieldType.int) []) 8 108 [.ref r0, .int x1] h (fx_oI Q E) := by
  refine fx_ofW (plainFor_of_name (by decide)) (fun p e s m below meth c C F => ?_)
  have hv := lv_entry ([.ref r0, .int x1]) (n := 5) (Nat.le_of_ble_eq_true rfl)
  rw [lg_entry_eq]
  generalize (lg_sl ([.ref r0, .int x1]) ++ List.replicate (5 - (lg_sl ([.ref r0, .int x1])).length) Slot.unset).toArray = ls at hv ⊢
  have hv : lv_has ls 5 [(0, .ref r0), (1, .int x1)] := hv
  exact b_Rd_oid_0 C hl _ _ _ hw _ _ _ _ _ hv F
/-! ChainJudge$Reader.is([BI)Z: frames 0, words 0 -/
abbrev y_Rd_is : MethodName := ⟨"ChainJudge$Reader", "is", "([BI)Z"⟩
def dl_Rd_is : List (Nat × Instr × Nat) := [(0, .aload_n 0, 1), (1, .getfield 13, 3), (4, .iload_n 2, 1), (5, .isub, 1), (6, .aload_n 1, 1), (7, .arraylength, 1), (8, .if_icmp .eq 5, 3), (11, .iconst 0, 1), (12, .ireturn, 1), (13, .iconst 0, 1), (14, .istore_n 3, 1), (15, .iload_n 3, 1), (16, .aload_n 1, 1), (17, .arraylength, 1), (18, .if_icmp .ge 25, 3), (21, .aload_n 0, 1), (22, .getfield 7, 3), (25, .iload_n 2, 1), (26, .iload_n 3, 1), (27, .iadd, 1), (28, .baload, 1), (29, .aload_n 1, 1), (30, .iload_n 3, 1), (31, .baload, 1), (32, .if_icmp .eq 5, 3), (35, .iconst 0, 1), (36, .ireturn, 1), (37, .iinc 3 1, 3), (40, .goto (-25), 3), (43, .iconst 1, 1), (44, .ireturn, 1)]
theorem dk_Rd_is : fx_dec prog_10_method_9_code dl_Rd_is = true := by decide +kernel
theorem d_Rd_is_0 : decode prog_10_method_9_code 0 = .ok (.aload_n 0, 1) := fx_dat dk_Rd_is 0 rfl
theorem d_Rd_is_1 : decode prog_10_method_9_code 1 = .ok (.getfield 13, 3) := fx_dat dk_Rd_is 1 rfl
theorem d_Rd_is_4 : decode prog_10_method_9_code 4 = .ok (.iload_n 2, 1) := fx_dat dk_Rd_is 2 rfl
theorem d_Rd_is_5 : decode prog_10_method_9_code 5 = .ok (.isub, 1) := fx_dat dk_Rd_is 3 rfl
theorem d_Rd_is_6 : decode prog_10_method_9_code 6 = .ok (.aload_n 1, 1) := fx_dat dk_Rd_is 4 rfl
theorem d_Rd_is_7 : decode prog_10_method_9_code 7 = .ok (.arraylength, 1) := fx_dat dk_Rd_is 5 rfl
theorem d_Rd_is_8 : decode prog_10_method_9_code 8 = .ok (.if_icmp .eq 5, 3) := fx_dat dk_Rd_is 6 rfl
theorem d_Rd_is_11 : decode prog_10_method_9_code 11 = .ok (.iconst 0, 1) := fx_dat dk_Rd_is 7 rfl
theorem d_Rd_is_12 : decode prog_10_method_9_code 12 = .ok (.ireturn, 1) := fx_dat dk_Rd_is 8 rfl
theorem d_Rd_is_13 : decode prog_10_method_9_code 13 = .ok (.iconst 0, 1) := fx_dat dk_Rd_is 9 rfl
theorem d_Rd_is_14 : decode prog_10_method_9_code 14 = .ok (.istore_n 3, 1) := fx_dat dk_Rd_is 10 rfl
theorem d_Rd_is_15 : decode prog_10_method_9_code 15 = .ok (.iload_n 3, 1) := fx_dat dk_Rd_is 11 rfl
theorem d_Rd_is_16 : decode prog_10_method_9_code 16 = .ok (.aload_n 1, 1) := fx_dat dk_Rd_is 12 rfl
theorem d_Rd_is_17 : decode prog_10_method_9_code 17 = .ok (.arraylength, 1) := fx_dat dk_Rd_is 13 rfl
theorem d_Rd_is_18 : decode prog_10_method_9_code 18 = .ok (.if_icmp .ge 25, 3) := fx_dat dk_Rd_is 14 rfl
theorem d_Rd_is_21 : decode prog_10_method_9_code 21 = .ok (.aload_n 0, 1) := fx_dat dk_Rd_is 15 rfl
theorem d_Rd_is_22 : decode prog_10_method_9_code 22 = .ok (.getfield 7, 3) := fx_dat dk_Rd_is 16 rfl
theorem d_Rd_is_25 : decode prog_10_method_9_code 25 = .ok (.iload_n 2, 1) := fx_dat dk_Rd_is 17 rfl
theorem d_Rd_is_26 : decode prog_10_method_9_code 26 = .ok (.iload_n 3, 1) := fx_dat dk_Rd_is 18 rfl
theorem d_Rd_is_27 : decode prog_10_method_9_code 27 = .ok (.iadd, 1) := fx_dat dk_Rd_is 19 rfl
theorem d_Rd_is_28 : decode prog_10_method_9_code 28 = .ok (.baload, 1) := fx_dat dk_Rd_is 20 rfl
theorem d_Rd_is_29 : decode prog_10_method_9_code 29 = .ok (.aload_n 1, 1) := fx_dat dk_Rd_is 21 rfl
theorem d_Rd_is_30 : decode prog_10_method_9_code 30 = .ok (.iload_n 3, 1) := fx_dat dk_Rd_is 22 rfl
theorem d_Rd_is_31 : decode prog_10_method_9_code 31 = .ok (.baload, 1) := fx_dat dk_Rd_is 23 rfl
theorem d_Rd_is_32 : decode prog_10_method_9_code 32 = .ok (.if_icmp .eq 5, 3) := fx_dat dk_Rd_is 24 rfl
theorem d_Rd_is_35 : decode prog_10_method_9_code 35 = .ok (.iconst 0, 1) := fx_dat dk_Rd_is 25 rfl
theorem d_Rd_is_36 : decode prog_10_method_9_code 36 = .ok (.ireturn, 1) := fx_dat dk_Rd_is 26 rfl
theorem d_Rd_is_37 : decode prog_10_method_9_code 37 = .ok (.iinc 3 1, 3) := fx_dat dk_Rd_is 27 rfl
theorem d_Rd_is_40 : decode prog_10_method_9_code 40 = .ok (.goto (-25), 3) := fx_dat dk_Rd_is 28 rfl
theorem d_Rd_is_43 : decode prog_10_method_9_code 43 = .ok (.iconst 1, 1) := fx_dat dk_Rd_is 29 rfl
theorem d_Rd_is_44 : decode prog_10_method_9_code 44 = .ok (.ireturn, 1) := fx_dat dk_Rd_is 30 rfl
def m_Rd_is_15_b (Q : Int32 → AH → Prop) (X15 : Int32 × AH → Prop) (r0 : Nat) (r1 : Nat) (x2 : Int32) (x3 : Int32) (h : AH) : Prop := bk (hp_k h r1) ∧ ((nI (hp_n h r1)) ≤ x3 → Q (1 : Int32) h) ∧ (¬ (nI (hp_n h r1)) ≤ x3 → hp_k h r0 = 9 ∧ ∃ b1, hp_R h r0 0 = some b1 ∧ bk (hp_k h b1) ∧ vp_in (x2 + x3) (hp_n h b1) ∧ (by8 (hp_I h b1 ((x2 + x3)).toNatClampNeg) → vp_in x3 (hp_n h r1) ∧ (by8 (hp_I h r1 x3.toNatClampNeg) → ((hp_I h b1 ((x2 + x3)).toNatClampNeg) = (hp_I h r1 x3.toNatClampNeg) → ∀ v1 : Int32, v1 = (x3 + (1 : Int32)) → X15 (v1, h)) ∧ (¬ (hp_I h b1 ((x2 + x3)).toNatClampNeg) = (hp_I h r1 x3.toNatClampNeg) → Q (0 : Int32) h))))
def m_Rd_is_15 (Q : Int32 → AH → Prop) (r0 : Nat) (r1 : Nat) (x2 : Int32) (x3 : Int32) (h : AH) : Prop := fx_loop (fun (X15 : Int32 × AH → Prop) (st : Int32 × AH) => m_Rd_is_15_b Q X15 r0 r1 x2 st.1 st.2) (x3, h)
def m_Rd_is (Q : Int32 → AH → Prop) (r0 : Nat) (r1 : Nat) (x2 : Int32) (h : AH) : Prop := hp_k h r0 = 9 ∧ bk (hp_k h r1) ∧ (((hp_I h r0 1) - x2) = (nI (hp_n h r1)) → m_Rd_is_15 Q r0 r1 x2 (0 : Int32) h) ∧ (¬ ((hp_I h r0 1) - x2) = (nI (hp_n h r1)) → Q (0 : Int32) h)
theorem b_Rd_is_15 {p : Program} {l : Launch} {e : Env} {R : Room} {s : State} {m : MethodId} {args : Array Value} {below : List Frame} {meth : Method} {c : Code} {D : DD} {h0 : AH} {Q : Int32 → AH → Prop} (C : fx_CX D y_Rd_is prog_10_method_9_code 4 0 0 (Option.some FieldType.boolean) [] h0 p R s m meth c) (hl : l.flags = flags0) (r0 : Nat) (r1 : Nat) (x2 : Int32) (x3 : Int32) (h : AH) (hw : m_Rd_is_15 Q r0 r1 x2 x3 h) : ∀ (ls : Array Slot) (H : Heap) (locs : List Loc) (cells slots : Nat), lv_has ls 4 [(0, .ref r0), (1, .ref r1), (2, .int x2), (3, .int x3)] → fx_F D h0 h H locs cells slots → W p l e R s m args below meth c H locs cells slots (fx_Z D below s h0 (fx_oZ Q fx_no)) (F0 m 15 ls []) := by
  refine fx_loop.use hw (fun st => ∀ (ls : Array Slot) (H : Heap) (locs : List Loc) (cells slots : Nat), lv_has ls 4 [(0, .ref r0), (1, .ref r1), (2, .int x2), (3, .int st.1)] → fx_F D h0 st.2 H locs cells slots → W p l e R s m args below meth c H locs cells slots (fx_Z D below s h0 (fx_oZ Q fx_no)) (F0 m 15 ls [])) (fun X15 st hX15 hw => ?_)
  obtain ⟨x3, h⟩ := st
  replace hw : m_Rd_is_15_b Q X15 r0 r1 x2 x3 h := hw
  unfold m_Rd_is_15_b at hw
  intro ls H locs cells slots hv F
  refine lv_iload_n C.ex C.by d_Rd_is_15 rfl (lv_at hv 3 rfl) ?_
  refine lv_aload_n C.ex C.by d_Rd_is_16 rfl (lv_at hv 1 rfl) ?_
  obtain ⟨hk1, hw⟩ := hw
  refine fx_alen C F hk1.gt d_Rd_is_17 ?_
  refine lv_icmp_ge C.ex C.by d_Rd_is_18 rfl (fun hc => ?_) (fun hc => ?_)
  · replace hw := hw.1 hc
    refine lv_iconst (v := (1 : Int32)) C.ex C.by d_Rd_is_43 (by decide) ?_
    exact fx_zret C F d_Rd_is_44 (Or.inr rfl) (Or.inl ⟨_, rfl, Or.inr rfl, hw⟩)
  · replace hw := hw.2 hc
    refine lv_aload_n C.ex C.by d_Rd_is_21 rfl (lv_at hv 0 rfl) ?_
    obtain ⟨hk2, hw⟩ := hw
    obtain ⟨b1, hb1, hw⟩ := hw
    refine fx_getR C F lf_Rd_7 hk2 rfl hb1 d_Rd_is_22 ?_
    refine lv_iload_n C.ex C.by d_Rd_is_25 rfl (lv_at hv 2 rfl) ?_
    refine lv_iload_n C.ex C.by d_Rd_is_26 rfl (lv_at hv 3 rfl) ?_
    refine lv_iadd C.ex C.by d_Rd_is_27 ?_
    obtain ⟨hk3, hw⟩ := hw
    obtain ⟨hi1, hw⟩ := hw
    refine fx_bald C F hk3 hi1 d_Rd_is_28 (fun h8 => ?_)
    replace hw := hw h8
    refine lv_aload_n C.ex C.by d_Rd_is_29 rfl (lv_at hv 1 rfl) ?_
    refine lv_iload_n C.ex C.by d_Rd_is_30 rfl (lv_at hv 3 rfl) ?_
    obtain ⟨hi2, hw⟩ := hw
    refine fx_bald C F hk1 hi2 d_Rd_is_31 (fun h8 => ?_)
    replace hw := hw h8
    refine lv_icmp_eq C.ex C.by d_Rd_is_32 rfl (fun hc => ?_) (fun hc => ?_)
    · replace hw := hw.1 hc
      let v1 : Int32 := (x3 + (1 : Int32))
      replace hw := hw v1 rfl
      refine lv_iinc (v := v1) (k := 3) (lv' := [(3, .int v1), (0, .ref r0), (1, .ref r1), (2, .int x2)]) C.ex C.by d_Rd_is_37 hv rfl (congrArg (fun z => x3 + z) (by decide)) (by decide) rfl (fun ls hv => ?_)
      refine lv_goto C.ex C.by d_Rd_is_40 rfl ?_
      exact hX15 _ hw _ _ _ _ _ (lv_sub hv [1, 2, 3, 0] rfl) F
    · replace hw := hw.2 hc
      refine lv_iconst (v := (0 : Int32)) C.ex C.by d_Rd_is_35 (by decide) ?_
      exact fx_zret C F d_Rd_is_36 (Or.inl rfl) (Or.inl ⟨_, rfl, Or.inl rfl, hw⟩)
theorem b_Rd_is_0 {p : Program} {l : Launch} {e : Env} {R : Room} {s : State} {m : MethodId} {args : Array Value} {below : List Frame} {meth : Method} {c : Code} {D : DD} {h0 : AH} {Q : Int32 → AH → Prop} (C : fx_CX D y_Rd_is prog_10_method_9_code 4 0 0 (Option.some FieldType.boolean) [] h0 p R s m meth c) (hl : l.flags = flags0) (r0 : Nat) (r1 : Nat) (x2 : Int32) (h : AH) (hw : m_Rd_is Q r0 r1 x2 h) : ∀ (ls : Array Slot) (H : Heap) (locs : List Loc) (cells slots : Nat), lv_has ls 4 [(0, .ref r0), (1, .ref r1), (2, .int x2)] → fx_F D h0 h H locs cells slots → W p l e R s m args below meth c H locs cells slots (fx_Z D below s h0 (fx_oZ Q fx_no)) (F0 m 0 ls []) := by
  unfold m_Rd_is at hw
  intro ls H locs cells slots hv F
  refine lv_aload_n C.ex C.by d_Rd_is_0 rfl (lv_at hv 0 rfl) ?_
  obtain ⟨hk1, hw⟩ := hw
  refine fx_getI C F lf_Rd_13 hk1 rfl d_Rd_is_1 ?_
  refine lv_iload_n C.ex C.by d_Rd_is_4 rfl (lv_at hv 2 rfl) ?_
  refine lv_isub C.ex C.by d_Rd_is_5 ?_
  refine lv_aload_n C.ex C.by d_Rd_is_6 rfl (lv_at hv 1 rfl) ?_
  obtain ⟨hk2, hw⟩ := hw
  refine fx_alen C F hk2.gt d_Rd_is_7 ?_
  refine lv_icmp_eq C.ex C.by d_Rd_is_8 rfl (fun hc => ?_) (fun hc => ?_)
  · replace hw := hw.1 hc
    refine lv_iconst (v := (0 : Int32)) C.ex C.by d_Rd_is_13 (by decide) ?_
    refine lv_istore_n (lv' := [(3, .int (0 : Int32)), (0, .ref r0), (1, .ref r1), (2, .int x2)]) C.ex C.by d_Rd_is_14 rfl hv (by decide) rfl (fun ls hv => ?_)
    exact b_Rd_is_15 C hl _ _ _ _ _ hw _ _ _ _ _ (lv_sub hv [1, 2, 3, 0] rfl) F
  · replace hw := hw.2 hc
    refine lv_iconst (v := (0 : Int32)) C.ex C.by d_Rd_is_11 (by decide) ?_
    exact fx_zret C F d_Rd_is_12 (Or.inl rfl) (Or.inl ⟨_, rfl, Or.inl rfl, hw⟩)
theorem hm_Rd_is : fx_hd y_Rd_is prog_10_method_9_code 4 (Option.some FieldType.boolean) [] ∈ tables_1 := (fx_m3 (List.mem_of_getElem? (i := 172) rfl))
theorem hi_Rd_is : Cond.initialized y_Rd_is.cls ∈ tables_1 := (fx_m1 (List.mem_of_getElem? (i := 12) rfl))
theorem c_Rd_is {l : Launch} (hl : l.flags = flags0) {D : DD} {Q : Int32 → AH → Prop} {r0 : Nat} {r1 : Nat} {x2 : Int32} {h : AH} (hw : m_Rd_is Q r0 r1 x2 h) : fx_Mt l D y_Rd_is (fx_hd y_Rd_is prog_10_method_9_code 4 (Option.some FieldType.boolean) []) 0 0 [.ref r0, .ref r1, .int x2] h (fx_oZ Q fx_no) := by
  refine fx_ofW (plainFor_of_name (by decide)) (fun p e s m below meth c C F => ?_)
  have hv := lv_entry ([.ref r0, .ref r1, .int x2]) (n := 4) (Nat.le_of_ble_eq_true rfl)
  rw [lg_entry_eq]
  generalize (lg_sl ([.ref r0, .ref r1, .int x2]) ++ List.replicate (4 - (lg_sl ([.ref r0, .ref r1, .int x2])).length) Slot.unset).toArray = ls at hv ⊢
  have hv : lv_has ls 4 [(0, .ref r0), (1, .ref r1), (2, .int x2)] := hv
  exact b_Rd_is_0 C hl _ _ _ _ hw _ _ _ _ _ hv F
/-! ChainJudge$KeyedMarks.algorithm(LChainJudge$Reader;I)I: frames 9, words 124, throws -/
abbrev y_KM_algorithm : MethodName := ⟨"ChainJudge$KeyedMarks", "algorithm", "(LChainJudge$Reader;I)I"⟩
theorem ls_KM_35 : fx_Ls "ChainJudge$KeyedMarks" 35 10 := ⟨_, rfl, Or.inr ⟨_, (fx_m3 (List.mem_of_getElem? (i := 167) rfl))⟩⟩
theorem lm_KM_25 : Cond.methodLink "ChainJudge$KeyedMarks" 25 y_Rd_enter ∈ tables_1 ∨ ∃ host, Cond.methodLinkNest "ChainJudge$KeyedMarks" 25 y_Rd_enter host ∈ tables_1 := Or.inl (fx_m3 (List.mem_of_getElem? (i := 161) rfl))
theorem lm_KM_31 : Cond.methodLink "ChainJudge$KeyedMarks" 31 y_Rd_oid ∈ tables_1 ∨ ∃ host, Cond.methodLinkNest "ChainJudge$KeyedMarks" 31 y_Rd_oid host ∈ tables_1 := Or.inl (fx_m3 (List.mem_of_getElem? (i := 162) rfl))
theorem lm_KM_40 : Cond.methodLink "ChainJudge$KeyedMarks" 40 y_Rd_is ∈ tables_1 ∨ ∃ host, Cond.methodLinkNest "ChainJudge$KeyedMarks" 40 y_Rd_is host ∈ tables_1 := Or.inl (fx_m3 (List.mem_of_getElem? (i := 169) rfl))
theorem lm_KM_44 : Cond.methodLink "ChainJudge$KeyedMarks" 44 y_Rd_bad ∈ tables_1 ∨ ∃ host, Cond.methodLinkNest "ChainJudge$KeyedMarks" 44 y_Rd_bad host ∈ tables_1 := Or.inl (fx_m3 (List.mem_of_getElem? (i := 173) rfl))
theorem lm_KM_48 : Cond.methodLink "ChainJudge$KeyedMarks" 48 y_Rd_leave ∈ tables_1 ∨ ∃ host, Cond.methodLinkNest "ChainJudge$KeyedMarks" 48 y_Rd_leave host ∈ tables_1 := Or.inl (fx_m3 (List.mem_of_getElem? (i := 174) rfl))
section
variable {p : Program} {l : Launch} {e : Env} {R : Room} {s : State} {m : MethodId} {args : Array Value} {below : List Frame} {meth : Method} {c : Code} {H : Heap} {locs : List Loc} {cells slots : Nat}
variable {D : DD} {y : MethodName} {cc : ByteArray} {nL kf kw : Nat} {ret : Option FieldType} {hh : List (Nat × Nat × Nat × Nat)} {h0 h : AH} {pc : Nat} {ls : Array Slot} {rest : List Value} {b idx : Nat}
theorem iv_Rd_is {r1 : Nat} {x2 : Int32} (C : fx_CX D y cc nL kf kw ret hh h0 p R s m meth c) (F : fx_F D h0 h H locs cells slots) (hw1 : Cond.methodLink y.cls idx y_Rd_is ∈ tables_1 ∨ ∃ host, Cond.methodLinkNest y.cls idx y_Rd_is host ∈ tables_1) (hk : hp_k h b = 9) (hd : decode cc pc = .ok (.invokevirtual idx, 3)) : fx_IV p l e R s m args below meth c H locs cells slots (F0 m pc ls (.int x2 :: .ref r1 :: .ref b :: rest)) rest y_Rd_is [.ref b, .ref r1, .int x2] 3 := fun T hT X => fx_invV (As := [.ref r1, .int x2]) (Cn := "ChainJudge$Reader") C X hw1 (fx_m3 (List.mem_of_getElem? (i := 170) rfl)) (fx_selW C (fx_m3 (List.mem_of_getElem? (i := 171) rfl))) hm_Rd_is ⟨by decide, by decide⟩ (by rw [hT]; exact fx_clsO (ci := 8) (r := ("ChainJudge$Reader", fx_T8, 2)) C F rfl (by decide) hk) rfl (n := 2) (by decide +kernel) rfl rfl hd
theorem iv_Rd_leave {x1 : Int32} (C : fx_CX D y cc nL kf kw ret hh h0 p R s m meth c) (F : fx_F D h0 h H locs cells slots) (hw1 : Cond.methodLink y.cls idx y_Rd_leave ∈ tables_1 ∨ ∃ host, Cond.methodLinkNest y.cls idx y_Rd_leave host ∈ tables_1) (hk : hp_k h b = 9) (hd : decode cc pc = .ok (.invokevirtual idx, 3)) : fx_IV p l e R s m args below meth c H locs cells slots (F0 m pc ls (.int x1 :: .ref b :: rest)) rest y_Rd_leave [.ref b, .int x1] 3 := fun T hT X => fx_invV (As := [.int x1]) (Cn := "ChainJudge$Reader") C X hw1 (fx_m3 (List.mem_of_getElem? (i := 144) rfl)) (fx_selW C (fx_m3 (List.mem_of_getElem? (i := 145) rfl))) hm_Rd_leave ⟨by decide, by decide⟩ (by rw [hT]; exact fx_clsO (ci := 8) (r := ("ChainJudge$Reader", fx_T8, 2)) C F rfl (by decide) hk) rfl (n := 1) (by decide +kernel) rfl rfl hd
theorem iv_Rd_oid {x1 : Int32} (C : fx_CX D y cc nL kf kw ret hh h0 p R s m meth c) (F : fx_F D h0 h H locs cells slots) (hw1 : Cond.methodLink y.cls idx y_Rd_oid ∈ tables_1 ∨ ∃ host, Cond.methodLinkNest y.cls idx y_Rd_oid host ∈ tables_1) (hk : hp_k h b = 9) (hd : decode cc pc = .ok (.invokevirtual idx, 3)) : fx_IV p l e R s m args below meth c H locs cells slots (F0 m pc ls (.int x1 :: .ref b :: rest)) rest y_Rd_oid [.ref b, .int x1] 3 := fun T hT X => fx_invV (As := [.int x1]) (Cn := "ChainJudge$Reader") C X hw1 (fx_m3 (List.mem_of_getElem? (i := 163) rfl)) (fx_selW C (fx_m3 (List.mem_of_getElem? (i := 164) rfl))) hm_Rd_oid ⟨by decide, by decide⟩ (by rw [hT]; exact fx_clsO (ci := 8) (r := ("ChainJudge$Reader", fx_T8, 2)) C F rfl (by decide) hk) rfl (n := 1) (by decide +kernel) rfl rfl hd
end
def dl_KM_algorithm : List (Nat × Instr × Nat) := [(0, .aload_n 1, 1), (1, .bipush 48, 2), (3, .iload_n 2, 1), (4, .invokevirtual 25, 3), (7, .istore_n 3, 1), (8, .aload_n 1, 1), (9, .iload_n 3, 1), (10, .invokevirtual 31, 3), (13, .istore 4, 2), (15, .aload_n 1, 1), (16, .getstatic 35, 3), (19, .iload 4, 2), (21, .invokevirtual 40, 3), (24, .ifCond .ne 7, 3), (27, .invokestatic 44, 3), (30, .athrow, 1), (31, .aload_n 1, 1), (32, .iload_n 3, 1), (33, .invokevirtual 48, 3), (36, .iconst 0, 1), (37, .ireturn, 1)]
theorem dk_KM_algorithm : fx_dec prog_7_method_2_code dl_KM_algorithm = true := by decide +kernel
theorem d_KM_algorithm_0 : decode prog_7_method_2_code 0 = .ok (.aload_n 1, 1) := fx_dat dk_KM_algorithm 0 rfl
theorem d_KM_algorithm_1 : decode prog_7_method_2_code 1 = .ok (.bipush 48, 2) := fx_dat dk_KM_algorithm 1 rfl
theorem d_KM_algorithm_3 : decode prog_7_method_2_code 3 = .ok (.iload_n 2, 1) := fx_dat dk_KM_algorithm 2 rfl
theorem d_KM_algorithm_4 : decode prog_7_method_2_code 4 = .ok (.invokevirtual 25, 3) := fx_dat dk_KM_algorithm 3 rfl
theorem d_KM_algorithm_7 : decode prog_7_method_2_code 7 = .ok (.istore_n 3, 1) := fx_dat dk_KM_algorithm 4 rfl
theorem d_KM_algorithm_8 : decode prog_7_method_2_code 8 = .ok (.aload_n 1, 1) := fx_dat dk_KM_algorithm 5 rfl
theorem d_KM_algorithm_9 : decode prog_7_method_2_code 9 = .ok (.iload_n 3, 1) := fx_dat dk_KM_algorithm 6 rfl
theorem d_KM_algorithm_10 : decode prog_7_method_2_code 10 = .ok (.invokevirtual 31, 3) := fx_dat dk_KM_algorithm 7 rfl
theorem d_KM_algorithm_13 : decode prog_7_method_2_code 13 = .ok (.istore 4, 2) := fx_dat dk_KM_algorithm 8 rfl
theorem d_KM_algorithm_15 : decode prog_7_method_2_code 15 = .ok (.aload_n 1, 1) := fx_dat dk_KM_algorithm 9 rfl
theorem d_KM_algorithm_16 : decode prog_7_method_2_code 16 = .ok (.getstatic 35, 3) := fx_dat dk_KM_algorithm 10 rfl
theorem d_KM_algorithm_19 : decode prog_7_method_2_code 19 = .ok (.iload 4, 2) := fx_dat dk_KM_algorithm 11 rfl
theorem d_KM_algorithm_21 : decode prog_7_method_2_code 21 = .ok (.invokevirtual 40, 3) := fx_dat dk_KM_algorithm 12 rfl
theorem d_KM_algorithm_24 : decode prog_7_method_2_code 24 = .ok (.ifCond .ne 7, 3) := fx_dat dk_KM_algorithm 13 rfl
theorem d_KM_algorithm_27 : decode prog_7_method_2_code 27 = .ok (.invokestatic 44, 3) := fx_dat dk_KM_algorithm 14 rfl
theorem d_KM_algorithm_30 : decode prog_7_method_2_code 30 = .ok (.athrow, 1) := fx_dat dk_KM_algorithm 15 rfl
theorem d_KM_algorithm_31 : decode prog_7_method_2_code 31 = .ok (.aload_n 1, 1) := fx_dat dk_KM_algorithm 16 rfl
theorem d_KM_algorithm_32 : decode prog_7_method_2_code 32 = .ok (.iload_n 3, 1) := fx_dat dk_KM_algorithm 17 rfl
theorem d_KM_algorithm_33 : decode prog_7_method_2_code 33 = .ok (.invokevirtual 48, 3) := fx_dat dk_KM_algorithm 18 rfl
theorem d_KM_algorithm_36 : decode prog_7_method_2_code 36 = .ok (.iconst 0, 1) := fx_dat dk_KM_algorithm 19 rfl
theorem d_KM_algorithm_37 : decode prog_7_method_2_code 37 = .ok (.ireturn, 1) := fx_dat dk_KM_algorithm 20 rfl
def m_KM_algorithm (Q : Int32 → AH → Prop) (E : Nat → AH → Prop) (r0 : Nat) (r1 : Nat) (x2 : Int32) (h : AH) : Prop := hp_k h r1 = 9 ∧ m_Rd_enter (fun v1 h1 => fx_ext h h1 → m_Rd_oid (fun v2 h2 => fx_ext h1 h2 → m_Rd_is (fun v3 h3 => fx_ext h2 h3 → zb v3 → (¬ v3 = 0 → m_Rd_leave (fun h4 => fx_ext h3 h4 → Q (0 : Int32) h4) (fun a ht => fx_ext h3 ht → E a ht) r1 v1 h3) ∧ (v3 = 0 → m_Rd_bad (fun q1 h5 => fx_ext h3 h5 → E q1 h5) h3)) r1 (hp_c h2 10) v2 h2) (fun a ht => fx_ext h1 ht → E a ht) r1 v1 h1) (fun a ht => fx_ext h ht → E a ht) r1 (48 : Int32) x2 h
theorem b_KM_algorithm_0 {p : Program} {l : Launch} {e : Env} {R : Room} {s : State} {m : MethodId} {args : Array Value} {below : List Frame} {meth : Method} {c : Code} {D : DD} {h0 : AH} {Q : Int32 → AH → Prop} {E : Nat → AH → Prop} (C : fx_CX D y_KM_algorithm prog_7_method_2_code 5 9 124 (Option.some FieldType.int) [] h0 p R s m meth c) (hl : l.flags = flags0) (r0 : Nat) (r1 : Nat) (x2 : Int32) (h : AH) (hw : m_KM_algorithm Q E r0 r1 x2 h) : ∀ (ls : Array Slot) (H : Heap) (locs : List Loc) (cells slots : Nat), lv_has ls 5 [(0, .ref r0), (1, .ref r1), (2, .int x2)] → fx_F D h0 h H locs cells slots → W p l e R s m args below meth c H locs cells slots (fx_Z D below s h0 (fx_oI Q E)) (F0 m 0 ls []) := by
  unfold m_KM_algorithm at hw
  intro ls H locs cells slots hv F
  refine lv_aload_n C.ex C.by d_KM_algorithm_0 rfl (lv_at hv 1 rfl) ?_
  refine lv_bipush (v := (48 : Int32)) C.ex C.by d_KM_algorithm_1 (by decide) ?_
  refine lv_iload_n C.ex C.by d_KM_algorithm_3 rfl (lv_at hv 2 rfl) ?_
  obtain ⟨hk1, hw⟩ := hw
  refine fx_callI C F (c_Rd_enter hl hw) hm_Rd_enter hi_Rd_enter hv.1 (by decide) (Nat.le_of_ble_eq_true rfl) (iv_Rd_enter C F lm_KM_25 hk1 d_KM_algorithm_4) (fx_out0 _) (fun _ _ hE hx => Or.inr ⟨_, rfl, hE hx⟩) (fun v1 h1 H locs cells slots hw hx1 F => ?_)
  replace hw := hw hx1
  have hk1 := (hx1).k hk1
  refine lv_istore_n (lv' := [(3, .int v1), (0, .ref r0), (1, .ref r1), (2, .int x2)]) C.ex C.by d_KM_algorithm_7 rfl hv (by decide) rfl (fun ls hv => ?_)
  refine lv_aload_n C.ex C.by d_KM_algorithm_8 rfl (lv_at hv 2 rfl) ?_
  refine lv_iload_n C.ex C.by d_KM_algorithm_9 rfl (lv_at hv 0 rfl) ?_
  refine fx_callI C F (c_Rd_oid hl hw) hm_Rd_oid hi_Rd_oid hv.1 (by decide) (Nat.le_of_ble_eq_true rfl) (iv_Rd_oid C F lm_KM_31 hk1 d_KM_algorithm_10) (fx_out0 _) (fun _ _ hE hx => Or.inr ⟨_, rfl, hE hx⟩) (fun v2 h2 H locs cells slots hw hx2 F => ?_)
  replace hw := hw hx2
  have hk1 := (hx2).k hk1
  refine lv_istore (lv' := [(4, .int v2), (3, .int v1), (0, .ref r0), (1, .ref r1), (2, .int x2)]) C.ex C.by d_KM_algorithm_13 hv (by decide) rfl (fun ls hv => ?_)
  refine lv_aload_n C.ex C.by d_KM_algorithm_15 rfl (lv_at hv 3 rfl) ?_
  refine fx_gets C F ls_KM_35 d_KM_algorithm_16 ?_
  refine lv_iload C.ex C.by d_KM_algorithm_19 (lv_at hv 0 rfl) ?_
  refine fx_callZ C F (c_Rd_is hl hw) hm_Rd_is hi_Rd_is hv.1 (by decide) (Nat.le_of_ble_eq_true rfl) (iv_Rd_is C F lm_KM_40 hk1 d_KM_algorithm_21) (fx_out0 _) fx_eno (fun v3 h3 H locs cells slots hw hx3 hzb F => ?_)
  replace hw := hw hx3 hzb
  have hk1 := (hx3).k hk1
  refine lv_if_ne C.ex C.by d_KM_algorithm_24 rfl (fun hc => ?_) (fun hc => ?_)
  · replace hw := hw.1 hc
    refine lv_aload_n C.ex C.by d_KM_algorithm_31 rfl (lv_at hv 3 rfl) ?_
    refine lv_iload_n C.ex C.by d_KM_algorithm_32 rfl (lv_at hv 1 rfl) ?_
    refine fx_callV C F (c_Rd_leave hl hw) hm_Rd_leave hi_Rd_leave hv.1 (by decide) (Nat.le_of_ble_eq_true rfl) (iv_Rd_leave C F lm_KM_48 hk1 d_KM_algorithm_33) (fx_out0 _) (fun _ _ hE hx => Or.inr ⟨_, rfl, hE hx⟩) (fun h4 H locs cells slots hw hx4 F => ?_)
    replace hw := hw hx4
    have hk1 := (hx4).k hk1
    refine lv_iconst (v := (0 : Int32)) C.ex C.by d_KM_algorithm_36 (by decide) ?_
    exact fx_iret C F d_KM_algorithm_37 (Or.inl ⟨_, rfl, hw⟩)
  · replace hw := hw.2 hc
    refine fx_callR C F (c_Rd_bad hl hw) hm_Rd_bad hi_Rd_bad hv.1 (by decide) (Nat.le_of_ble_eq_true rfl) (iv_Rd_bad C F lm_KM_44 d_KM_algorithm_27) (fx_out0 _) fx_eno (fun q1 h5 H locs cells slots hw hx5 F => ?_)
    replace hw := hw hx5
    have hk1 := (hx5).k hk1
    exact fx_athrow C F (fx_out0 _) d_KM_algorithm_30 (Or.inr ⟨_, rfl, hw⟩)
theorem hm_KM_algorithm : fx_hd y_KM_algorithm prog_7_method_2_code 5 (Option.some FieldType.int) [] ∈ tables_1 := (fx_m3 (List.mem_of_getElem? (i := 160) rfl))
theorem hi_KM_algorithm : Cond.initialized y_KM_algorithm.cls ∈ tables_1 := (fx_m1 (List.mem_of_getElem? (i := 6) rfl))
theorem c_KM_algorithm {l : Launch} (hl : l.flags = flags0) {D : DD} {Q : Int32 → AH → Prop} {E : Nat → AH → Prop} {r0 : Nat} {r1 : Nat} {x2 : Int32} {h : AH} (hw : m_KM_algorithm Q E r0 r1 x2 h) : fx_Mt l D y_KM_algorithm (fx_hd y_KM_algorithm prog_7_method_2_code 5 (Option.some FieldType.int) []) 9 124 [.ref r0, .ref r1, .int x2] h (fx_oI Q E) := by
  refine fx_ofW (plainFor_of_name (by decide)) (fun p e s m below meth c C F => ?_)
  have hv := lv_entry ([.ref r0, .ref r1, .int x2]) (n := 5) (Nat.le_of_ble_eq_true rfl)
  rw [lg_entry_eq]
  generalize (lg_sl ([.ref r0, .ref r1, .int x2]) ++ List.replicate (5 - (lg_sl ([.ref r0, .ref r1, .int x2])).length) Slot.unset).toArray = ls at hv ⊢
  have hv : lv_has ls 5 [(0, .ref r0), (1, .ref r1), (2, .int x2)] := hv
  exact b_KM_algorithm_0 C hl _ _ _ _ hw _ _ _ _ _ hv F
/-! ChainJudge$KeyedMarks.ofMark(LChainJudge$Reader;I)I: frames 10, words 140, throws -/
abbrev y_KM_ofMark : MethodName := ⟨"ChainJudge$KeyedMarks", "ofMark", "(LChainJudge$Reader;I)I"⟩
theorem lm_KM_52 : Cond.methodLink "ChainJudge$KeyedMarks" 52 y_KM_algorithm ∈ tables_1 ∨ ∃ host, Cond.methodLinkNest "ChainJudge$KeyedMarks" 52 y_KM_algorithm host ∈ tables_1 := Or.inl (fx_m3 (List.mem_of_getElem? (i := 157) rfl))
section
variable {p : Program} {l : Launch} {e : Env} {R : Room} {s : State} {m : MethodId} {args : Array Value} {below : List Frame} {meth : Method} {c : Code} {H : Heap} {locs : List Loc} {cells slots : Nat}
variable {D : DD} {y : MethodName} {cc : ByteArray} {nL kf kw : Nat} {ret : Option FieldType} {hh : List (Nat × Nat × Nat × Nat)} {h0 h : AH} {pc : Nat} {ls : Array Slot} {rest : List Value} {b idx : Nat}
theorem iv_KM_algorithm {r1 : Nat} {x2 : Int32} (C : fx_CX D y cc nL kf kw ret hh h0 p R s m meth c) (F : fx_F D h0 h H locs cells slots) (hw1 : Cond.methodLink y.cls idx y_KM_algorithm ∈ tables_1 ∨ ∃ host, Cond.methodLinkNest y.cls idx y_KM_algorithm host ∈ tables_1) (hk : hp_k h b = 4) (hd : decode cc pc = .ok (.invokevirtual idx, 3)) : fx_IV p l e R s m args below meth c H locs cells slots (F0 m pc ls (.int x2 :: .ref r1 :: .ref b :: rest)) rest y_KM_algorithm [.ref b, .ref r1, .int x2] 3 := fun T hT X => fx_invV (As := [.ref r1, .int x2]) (Cn := "ChainJudge$KeyedMarks") C X hw1 (fx_m3 (List.mem_of_getElem? (i := 159) rfl)) (fx_selP C ⟨by decide, by decide⟩ (fx_m1 (List.mem_of_getElem? (i := 85) rfl)) (fx_m3 (List.mem_of_getElem? (i := 158) rfl)) (fx_m3 (List.mem_of_getElem? (i := 159) rfl))) hm_KM_algorithm ⟨by decide, by decide⟩ (by rw [hT]; exact fx_clsO (ci := 3) (r := ("ChainJudge$KeyedMarks", fx_T3, 2)) C F rfl (by decide) hk) rfl (n := 2) (by decide +kernel) rfl rfl hd
end
def dl_KM_ofMark : List (Nat × Instr × Nat) := [(0, .aload_n 0, 1), (1, .aload_n 1, 1), (2, .iload_n 2, 1), (3, .invokevirtual 52, 3), (6, .ireturn, 1)]
theorem dk_KM_ofMark : fx_dec prog_7_method_3_code dl_KM_ofMark = true := by decide +kernel
theorem d_KM_ofMark_0 : decode prog_7_method_3_code 0 = .ok (.aload_n 0, 1) := fx_dat dk_KM_ofMark 0 rfl
theorem d_KM_ofMark_1 : decode prog_7_method_3_code 1 = .ok (.aload_n 1, 1) := fx_dat dk_KM_ofMark 1 rfl
theorem d_KM_ofMark_2 : decode prog_7_method_3_code 2 = .ok (.iload_n 2, 1) := fx_dat dk_KM_ofMark 2 rfl
theorem d_KM_ofMark_3 : decode prog_7_method_3_code 3 = .ok (.invokevirtual 52, 3) := fx_dat dk_KM_ofMark 3 rfl
theorem d_KM_ofMark_6 : decode prog_7_method_3_code 6 = .ok (.ireturn, 1) := fx_dat dk_KM_ofMark 4 rfl
def m_KM_ofMark (Q : Int32 → AH → Prop) (E : Nat → AH → Prop) (r0 : Nat) (r1 : Nat) (x2 : Int32) (h : AH) : Prop := hp_k h r0 = 4 ∧ m_KM_algorithm (fun v1 h1 => fx_ext h h1 → Q v1 h1) (fun a ht => fx_ext h ht → E a ht) r0 r1 x2 h
theorem b_KM_ofMark_0 {p : Program} {l : Launch} {e : Env} {R : Room} {s : State} {m : MethodId} {args : Array Value} {below : List Frame} {meth : Method} {c : Code} {D : DD} {h0 : AH} {Q : Int32 → AH → Prop} {E : Nat → AH → Prop} (C : fx_CX D y_KM_ofMark prog_7_method_3_code 3 10 140 (Option.some FieldType.int) [] h0 p R s m meth c) (hl : l.flags = flags0) (r0 : Nat) (r1 : Nat) (x2 : Int32) (h : AH) (hw : m_KM_ofMark Q E r0 r1 x2 h) : ∀ (ls : Array Slot) (H : Heap) (locs : List Loc) (cells slots : Nat), lv_has ls 3 [(0, .ref r0), (1, .ref r1), (2, .int x2)] → fx_F D h0 h H locs cells slots → W p l e R s m args below meth c H locs cells slots (fx_Z D below s h0 (fx_oI Q E)) (F0 m 0 ls []) := by
  unfold m_KM_ofMark at hw
  intro ls H locs cells slots hv F
  refine lv_aload_n C.ex C.by d_KM_ofMark_0 rfl (lv_at hv 0 rfl) ?_
  refine lv_aload_n C.ex C.by d_KM_ofMark_1 rfl (lv_at hv 1 rfl) ?_
  refine lv_iload_n C.ex C.by d_KM_ofMark_2 rfl (lv_at hv 2 rfl) ?_
  obtain ⟨hk1, hw⟩ := hw
  refine fx_callI C F (c_KM_algorithm hl hw) hm_KM_algorithm hi_KM_algorithm hv.1 (by decide) (Nat.le_of_ble_eq_true rfl) (iv_KM_algorithm C F lm_KM_52 hk1 d_KM_ofMark_3) (fx_out0 _) (fun _ _ hE hx => Or.inr ⟨_, rfl, hE hx⟩) (fun v1 h1 H locs cells slots hw hx1 F => ?_)
  replace hw := hw hx1
  have hk1 := (hx1).k hk1
  exact fx_iret C F d_KM_ofMark_6 (Or.inl ⟨_, rfl, hw⟩)
theorem hm_KM_ofMark : fx_hd y_KM_ofMark prog_7_method_3_code 3 (Option.some FieldType.int) [] ∈ tables_1 := (fx_m3 (List.mem_of_getElem? (i := 156) rfl))
theorem hi_KM_ofMark : Cond.initialized y_KM_ofMark.cls ∈ tables_1 := (fx_m1 (List.mem_of_getElem? (i := 6) rfl))
theorem c_KM_ofMark {l : Launch} (hl : l.flags = flags0) {D : DD} {Q : Int32 → AH → Prop} {E : Nat → AH → Prop} {r0 : Nat} {r1 : Nat} {x2 : Int32} {h : AH} (hw : m_KM_ofMark Q E r0 r1 x2 h) : fx_Mt l D y_KM_ofMark (fx_hd y_KM_ofMark prog_7_method_3_code 3 (Option.some FieldType.int) []) 10 140 [.ref r0, .ref r1, .int x2] h (fx_oI Q E) := by
  refine fx_ofW (plainFor_of_name (by decide)) (fun p e s m below meth c C F => ?_)
  have hv := lv_entry ([.ref r0, .ref r1, .int x2]) (n := 3) (Nat.le_of_ble_eq_true rfl)
  rw [lg_entry_eq]
  generalize (lg_sl ([.ref r0, .ref r1, .int x2]) ++ List.replicate (3 - (lg_sl ([.ref r0, .ref r1, .int x2])).length) Slot.unset).toArray = ls at hv ⊢
  have hv : lv_has ls 3 [(0, .ref r0), (1, .ref r1), (2, .int x2)] := hv
  exact b_KM_ofMark_0 C hl _ _ _ _ hw _ _ _ _ _ hv F
/-! ChainJudge$Reader.skip(II)I: frames 8, words 108, throws -/
abbrev y_Rd_skip : MethodName := ⟨"ChainJudge$Reader", "skip", "(II)I"⟩
def dl_Rd_skip : List (Nat × Instr × Nat) := [(0, .aload_n 0, 1), (1, .iload_n 1, 1), (2, .iload_n 2, 1), (3, .invokevirtual 34, 3), (6, .istore_n 3, 1), (7, .aload_n 0, 1), (8, .getfield 13, 3), (11, .istore 4, 2), (13, .aload_n 0, 1), (14, .iload_n 3, 1), (15, .putfield 13, 3), (18, .iload 4, 2), (20, .ireturn, 1)]
theorem dk_Rd_skip : fx_dec prog_10_method_6_code dl_Rd_skip = true := by decide +kernel
theorem d_Rd_skip_0 : decode prog_10_method_6_code 0 = .ok (.aload_n 0, 1) := fx_dat dk_Rd_skip 0 rfl
theorem d_Rd_skip_1 : decode prog_10_method_6_code 1 = .ok (.iload_n 1, 1) := fx_dat dk_Rd_skip 1 rfl
theorem d_Rd_skip_2 : decode prog_10_method_6_code 2 = .ok (.iload_n 2, 1) := fx_dat dk_Rd_skip 2 rfl
theorem d_Rd_skip_3 : decode prog_10_method_6_code 3 = .ok (.invokevirtual 34, 3) := fx_dat dk_Rd_skip 3 rfl
theorem d_Rd_skip_6 : decode prog_10_method_6_code 6 = .ok (.istore_n 3, 1) := fx_dat dk_Rd_skip 4 rfl
theorem d_Rd_skip_7 : decode prog_10_method_6_code 7 = .ok (.aload_n 0, 1) := fx_dat dk_Rd_skip 5 rfl
theorem d_Rd_skip_8 : decode prog_10_method_6_code 8 = .ok (.getfield 13, 3) := fx_dat dk_Rd_skip 6 rfl
theorem d_Rd_skip_11 : decode prog_10_method_6_code 11 = .ok (.istore 4, 2) := fx_dat dk_Rd_skip 7 rfl
theorem d_Rd_skip_13 : decode prog_10_method_6_code 13 = .ok (.aload_n 0, 1) := fx_dat dk_Rd_skip 8 rfl
theorem d_Rd_skip_14 : decode prog_10_method_6_code 14 = .ok (.iload_n 3, 1) := fx_dat dk_Rd_skip 9 rfl
theorem d_Rd_skip_15 : decode prog_10_method_6_code 15 = .ok (.putfield 13, 3) := fx_dat dk_Rd_skip 10 rfl
theorem d_Rd_skip_18 : decode prog_10_method_6_code 18 = .ok (.iload 4, 2) := fx_dat dk_Rd_skip 11 rfl
theorem d_Rd_skip_20 : decode prog_10_method_6_code 20 = .ok (.ireturn, 1) := fx_dat dk_Rd_skip 12 rfl
def m_Rd_skip (Q : Int32 → AH → Prop) (E : Nat → AH → Prop) (r0 : Nat) (x1 : Int32) (x2 : Int32) (h : AH) : Prop := hp_k h r0 = 9 ∧ m_Rd_enter (fun v1 h1 => fx_ext h h1 → ∀ v2 : Int32, v2 = (hp_I h1 r0 1) → ∀ h2 : AH, h2 = up_I h1 r0 1 v1 → Q v2 h2) (fun a ht => fx_ext h ht → E a ht) r0 x1 x2 h
theorem b_Rd_skip_0 {p : Program} {l : Launch} {e : Env} {R : Room} {s : State} {m : MethodId} {args : Array Value} {below : List Frame} {meth : Method} {c : Code} {D : DD} {h0 : AH} {Q : Int32 → AH → Prop} {E : Nat → AH → Prop} (C : fx_CX D y_Rd_skip prog_10_method_6_code 5 8 108 (Option.some FieldType.int) [] h0 p R s m meth c) (hl : l.flags = flags0) (r0 : Nat) (x1 : Int32) (x2 : Int32) (h : AH) (hw : m_Rd_skip Q E r0 x1 x2 h) : ∀ (ls : Array Slot) (H : Heap) (locs : List Loc) (cells slots : Nat), lv_has ls 5 [(0, .ref r0), (1, .int x1), (2, .int x2)] → fx_F D h0 h H locs cells slots → W p l e R s m args below meth c H locs cells slots (fx_Z D below s h0 (fx_oI Q E)) (F0 m 0 ls []) := by
  unfold m_Rd_skip at hw
  intro ls H locs cells slots hv F
  refine lv_aload_n C.ex C.by d_Rd_skip_0 rfl (lv_at hv 0 rfl) ?_
  refine lv_iload_n C.ex C.by d_Rd_skip_1 rfl (lv_at hv 1 rfl) ?_
  refine lv_iload_n C.ex C.by d_Rd_skip_2 rfl (lv_at hv 2 rfl) ?_
  obtain ⟨hk1, hw⟩ := hw
  refine fx_callI C F (c_Rd_enter hl hw) hm_Rd_enter hi_Rd_enter hv.1 (by decide) (Nat.le_of_ble_eq_true rfl) (iv_Rd_enter C F lm_Rd_34 hk1 d_Rd_skip_3) (fx_out0 _) (fun _ _ hE hx => Or.inr ⟨_, rfl, hE hx⟩) (fun v1 h1 H locs cells slots hw hx1 F => ?_)
  replace hw := hw hx1
  have hk1 := (hx1).k hk1
  refine lv_istore_n (lv' := [(3, .int v1), (0, .ref r0), (1, .int x1), (2, .int x2)]) C.ex C.by d_Rd_skip_6 rfl hv (by decide) rfl (fun ls hv => ?_)
  refine lv_aload_n C.ex C.by d_Rd_skip_7 rfl (lv_at hv 1 rfl) ?_
  refine fx_getI C F lf_Rd_13 hk1 rfl d_Rd_skip_8 ?_
  let v2 : Int32 := (hp_I h1 r0 1)
  replace hw := hw v2 rfl
  refine lv_istore (lv' := [(4, .int v2), (3, .int v1), (0, .ref r0), (1, .int x1), (2, .int x2)]) C.ex C.by d_Rd_skip_11 hv (by decide) rfl (fun ls hv => ?_)
  refine lv_aload_n C.ex C.by d_Rd_skip_13 rfl (lv_at hv 2 rfl) ?_
  refine lv_iload_n C.ex C.by d_Rd_skip_14 rfl (lv_at hv 1 rfl) ?_
  let h2 : AH := up_I h1 r0 1 v1
  replace hw := hw h2 rfl
  refine fx_putI C F lf_Rd_13 hk1 rfl rfl (fx_mayF.no rfl rfl) d_Rd_skip_15 (fun H locs (F : fx_F D h0 h2 H locs _ _) => ?_)
  refine lv_iload C.ex C.by d_Rd_skip_18 (lv_at hv 0 rfl) ?_
  exact fx_iret C F d_Rd_skip_20 (Or.inl ⟨_, rfl, hw⟩)
theorem hm_Rd_skip : fx_hd y_Rd_skip prog_10_method_6_code 5 (Option.some FieldType.int) [] ∈ tables_1 := (fx_m3 (List.mem_of_getElem? (i := 184) rfl))
theorem hi_Rd_skip : Cond.initialized y_Rd_skip.cls ∈ tables_1 := (fx_m1 (List.mem_of_getElem? (i := 12) rfl))
theorem c_Rd_skip {l : Launch} (hl : l.flags = flags0) {D : DD} {Q : Int32 → AH → Prop} {E : Nat → AH → Prop} {r0 : Nat} {x1 : Int32} {x2 : Int32} {h : AH} (hw : m_Rd_skip Q E r0 x1 x2 h) : fx_Mt l D y_Rd_skip (fx_hd y_Rd_skip prog_10_method_6_code 5 (Option.some FieldType.int) []) 8 108 [.ref r0, .int x1, .int x2] h (fx_oI Q E) := by
  refine fx_ofW (plainFor_of_name (by decide)) (fun p e s m below meth c C F => ?_)
  have hv := lv_entry ([.ref r0, .int x1, .int x2]) (n := 5) (Nat.le_of_ble_eq_true rfl)
  rw [lg_entry_eq]
  generalize (lg_sl ([.ref r0, .int x1, .int x2]) ++ List.replicate (5 - (lg_sl ([.ref r0, .int x1, .int x2])).length) Slot.unset).toArray = ls at hv ⊢
  have hv : lv_has ls 5 [(0, .ref r0), (1, .int x1), (2, .int x2)] := hv
  exact b_Rd_skip_0 C hl _ _ _ _ hw _ _ _ _ _ hv F
