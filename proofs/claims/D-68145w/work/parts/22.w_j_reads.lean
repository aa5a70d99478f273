set_option maxRecDepth 10000
/-! ChainJudge.reads(LChainJudge$Held;)Z: frames 15, words 235 -/
abbrev y_J_reads : MethodName := ⟨"ChainJudge", "reads", "(LChainJudge$Held;)Z"⟩
theorem lf_J_137 : fx_Lk "ChainJudge" 137 2 0 := fx_Lk.mk (C := "ChainJudge$Held") (T := fx_T2) (N := 2) rfl (by decide) (by decide) (fx_m4 (List.mem_of_getElem? (i := 230) rfl))
theorem lm_J_138 : Cond.methodLink "ChainJudge" 138 y_Cert_parse ∈ tables_1 ∨ ∃ host, Cond.methodLinkNest "ChainJudge" 138 y_Cert_parse host ∈ tables_1 := Or.inl (fx_m3 (List.mem_of_getElem? (i := 113) rfl))
section
variable {p : Program} {l : Launch} {e : Env} {R : Room} {s : State} {m : MethodId} {args : Array Value} {below : List Frame} {meth : Method} {c : Code} {H : Heap} {locs : List Loc} {cells slots : Nat}
variable {D : DD} {y : MethodName} {cc : ByteArray} {nL kf kw : Nat} {ret : Option FieldType} {hh : List (Nat × Nat × Nat × Nat)} {h0 h : AH} {pc : Nat} {ls : Array Slot} {rest : List Value} {b idx : Nat}
theorem iv_Cert_parse {r1 : Nat} {x2 : Int32} {x3 : Int32} (C : fx_CX D y cc nL kf kw ret hh h0 p R s m meth c) (F : fx_F D h0 h H locs cells slots) (hw1 : Cond.methodLink y.cls idx y_Cert_parse ∈ tables_1 ∨ ∃ host, Cond.methodLinkNest y.cls idx y_Cert_parse host ∈ tables_1) (hk : hp_k h b = 8) (hd : decode cc pc = .ok (.invokevirtual idx, 3)) : fx_IV p l e R s m args below meth c H locs cells slots (F0 m pc ls (.int x3 :: .int x2 :: .ref r1 :: .ref b :: rest)) rest y_Cert_parse [.ref b, .ref r1, .int x2, .int x3] 3 := fun T hT X => fx_invV (As := [.ref r1, .int x2, .int x3]) (Cn := "ChainJudge$Certificate") C X hw1 (fx_m3 (List.mem_of_getElem? (i := 114) rfl)) (fx_selW C (fx_m3 (List.mem_of_getElem? (i := 115) rfl))) hm_Cert_parse ⟨by decide, by decide⟩ (by rw [hT]; exact fx_clsO (ci := 7) (r := ("ChainJudge$Certificate", fx_T7, 29)) C F rfl (by decide) hk) rfl (n := 3) (by decide +kernel) rfl rfl hd
end
def dl_J_reads : List (Nat × Instr × Nat) := [(0, .aload_n 0, 1), (1, .getfield 59, 3), (4, .aload_n 1, 1), (5, .getfield 137, 3), (8, .iconst 0, 1), (9, .aload_n 1, 1), (10, .getfield 137, 3), (13, .arraylength, 1), (14, .invokevirtual 138, 3), (17, .ireturn, 1)]
theorem dk_J_reads : fx_dec prog_1_method_9_code dl_J_reads = true := by decide +kernel
theorem d_J_reads_0 : decode prog_1_method_9_code 0 = .ok (.aload_n 0, 1) := fx_dat dk_J_reads 0 rfl
theorem d_J_reads_1 : decode prog_1_method_9_code 1 = .ok (.getfield 59, 3) := fx_dat dk_J_reads 1 rfl
theorem d_J_reads_4 : decode prog_1_method_9_code 4 = .ok (.aload_n 1, 1) := fx_dat dk_J_reads 2 rfl
theorem d_J_reads_5 : decode prog_1_method_9_code 5 = .ok (.getfield 137, 3) := fx_dat dk_J_reads 3 rfl
theorem d_J_reads_8 : decode prog_1_method_9_code 8 = .ok (.iconst 0, 1) := fx_dat dk_J_reads 4 rfl
theorem d_J_reads_9 : decode prog_1_method_9_code 9 = .ok (.aload_n 1, 1) := fx_dat dk_J_reads 5 rfl
theorem d_J_reads_10 : decode prog_1_method_9_code 10 = .ok (.getfield 137, 3) := fx_dat dk_J_reads 6 rfl
theorem d_J_reads_13 : decode prog_1_method_9_code 13 = .ok (.arraylength, 1) := fx_dat dk_J_reads 7 rfl
theorem d_J_reads_14 : decode prog_1_method_9_code 14 = .ok (.invokevirtual 138, 3) := fx_dat dk_J_reads 8 rfl
theorem d_J_reads_17 : decode prog_1_method_9_code 17 = .ok (.ireturn, 1) := fx_dat dk_J_reads 9 rfl
def m_J_reads (Q : Int32 → AH → Prop) (r0 : Nat) (r1 : Nat) (h : AH) : Prop := hp_k h r0 = 1 ∧ ∃ b1, hp_R h r0 7 = some b1 ∧ hp_k h r1 = 3 ∧ ∃ b2, hp_R h r1 0 = some b2 ∧ bk (hp_k h b2) ∧ hp_k h b1 = 8 ∧ m_Cert_parse (fun v1 h1 => fx_ext h h1 → zb v1 → zb v1 ∧ Q v1 h1) b1 b2 (0 : Int32) (nI (hp_n h b2)) h
theorem b_J_reads_0 {p : Program} {l : Launch} {e : Env} {R : Room} {s : State} {m : MethodId} {args : Array Value} {below : List Frame} {meth : Method} {c : Code} {D : DD} {h0 : AH} {Q : Int32 → AH → Prop} (C : fx_CX D y_J_reads prog_1_method_9_code 2 15 235 (Option.some FieldType.boolean) [] h0 p R s m meth c) (hl : l.flags = flags0) (r0 : Nat) (r1 : Nat) (h : AH) (hw : m_J_reads Q r0 r1 h) : ∀ (ls : Array Slot) (H : Heap) (locs : List Loc) (cells slots : Nat), lv_has ls 2 [(0, .ref r0), (1, .ref r1)] → fx_F D h0 h H locs cells slots → W p l e R s m args below meth c H locs cells slots (fx_Z D below s h0 (fx_oZ Q fx_no)) (F0 m 0 ls []) := by
  unfold m_J_reads at hw
  intro ls H locs cells slots hv F
  refine lv_aload_n C.ex C.by d_J_reads_0 rfl (lv_at hv 0 rfl) ?_
  obtain ⟨hk1, hw⟩ := hw
  obtain ⟨b1, hb1, hw⟩ := hw
  refine fx_getR C F lf_J_59 hk1 rfl hb1 d_J_reads_1 ?_
  refine lv_aload_n C.ex C.by d_J_reads_4 rfl (lv_at hv 1 rfl) ?_
  obtain ⟨hk2, hw⟩ := hw
  obtain ⟨b2, hb2, hw⟩ := hw
  refine fx_getR C F lf_J_137 hk2 rfl hb2 d_J_reads_5 ?_
  refine lv_iconst (v := (0 : Int32)) C.ex C.by d_J_reads_8 (by decide) ?_
  refine lv_aload_n C.ex C.by d_J_reads_9 rfl (lv_at hv 1 rfl) ?_
  refine fx_getR C F lf_J_137 hk2 rfl hb2 d_J_reads_10 ?_
  obtain ⟨hk3, hw⟩ := hw
  refine fx_alen C F hk3.gt d_J_reads_13 ?_
  obtain ⟨hk4, hw⟩ := hw
  refine fx_callZ C F (c_Cert_parse hl hw) hm_Cert_parse hi_Cert_parse hv.1 (by decide) (Nat.le_of_ble_eq_true rfl) (iv_Cert_parse C F lm_J_138 hk4 d_J_reads_14) (fx_out0 _) fx_eno (fun v1 h1 H locs cells slots hw hx1 hzb F => ?_)
  replace hw := hw hx1 hzb
  have hk4 := (hx1).k hk4
  have hk3 := (hx1).gb hk3
  have hk1 := (hx1).k hk1
  have hk2 := (hx1).k hk2
  exact fx_zret C F d_J_reads_17 hw.1 (Or.inl ⟨_, rfl, hw.1, hw.2⟩)
theorem hm_J_reads : fx_hd y_J_reads prog_1_method_9_code 2 (Option.some FieldType.boolean) [] ∈ tables_1 := (fx_m3 (List.mem_of_getElem? (i := 112) rfl))
theorem hi_J_reads : Cond.initialized y_J_reads.cls ∈ tables_1 := (fx_m1 (List.mem_of_getElem? (i := 1) rfl))
theorem c_J_reads {l : Launch} (hl : l.flags = flags0) {D : DD} {Q : Int32 → AH → Prop} {r0 : Nat} {r1 : Nat} {h : AH} (hw : m_J_reads Q r0 r1 h) : fx_Mt l D y_J_reads (fx_hd y_J_reads prog_1_method_9_code 2 (Option.some FieldType.boolean) []) 15 235 [.ref r0, .ref r1] h (fx_oZ Q fx_no) := by
  refine fx_ofW (plainFor_of_name (by decide)) (fun p e s m below meth c C F => ?_)
  have hv := lv_entry ([.ref r0, .ref r1]) (n := 2) (Nat.le_of_ble_eq_true rfl)
  rw [lg_entry_eq]
  generalize (lg_sl ([.ref r0, .ref r1]) ++ List.replicate (2 - (lg_sl ([.ref r0, .ref r1])).length) Slot.unset).toArray = ls at hv ⊢
  have hv : lv_has ls 2 [(0, .ref r0), (1, .ref r1)] := hv
  exact b_J_reads_0 C hl _ _ _ hw _ _ _ _ _ hv F
/-! ChainJudge$Writer.begin()V: frames 0, words 0 -/
abbrev y_Wr_begin : MethodName := ⟨"ChainJudge$Writer", "begin", "()V"⟩
def dl_Wr_begin : List (Nat × Instr × Nat) := [(0, .aload_n 0, 1), (1, .aload_n 0, 1), (2, .getfield 7, 3), (5, .arraylength, 1), (6, .putfield 13, 3), (9, .return_, 1)]
theorem dk_Wr_begin : fx_dec prog_13_method_2_code dl_Wr_begin = true := by decide +kernel
theorem d_Wr_begin_0 : decode prog_13_method_2_code 0 = .ok (.aload_n 0, 1) := fx_dat dk_Wr_begin 0 rfl
theorem d_Wr_begin_1 : decode prog_13_method_2_code 1 = .ok (.aload_n 0, 1) := fx_dat dk_Wr_begin 1 rfl
theorem d_Wr_begin_2 : decode prog_13_method_2_code 2 = .ok (.getfield 7, 3) := fx_dat dk_Wr_begin 2 rfl
theorem d_Wr_begin_5 : decode prog_13_method_2_code 5 = .ok (.arraylength, 1) := fx_dat dk_Wr_begin 3 rfl
theorem d_Wr_begin_6 : decode prog_13_method_2_code 6 = .ok (.putfield 13, 3) := fx_dat dk_Wr_begin 4 rfl
theorem d_Wr_begin_9 : decode prog_13_method_2_code 9 = .ok (.return_, 1) := fx_dat dk_Wr_begin 5 rfl
def m_Wr_begin (Q : AH → Prop) (r0 : Nat) (h : AH) : Prop := hp_k h r0 = 11 ∧ ∃ b1, hp_R h r0 0 = some b1 ∧ bk (hp_k h b1) ∧ ∀ h1 : AH, h1 = up_I h r0 1 (nI (hp_n h b1)) → Q h1
theorem b_Wr_begin_0 {p : Program} {l : Launch} {e : Env} {R : Room} {s : State} {m : MethodId} {args : Array Value} {below : List Frame} {meth : Method} {c : Code} {D : DD} {h0 : AH} {Q : AH → Prop} (C : fx_CX D y_Wr_begin prog_13_method_2_code 1 0 0 (none) [] h0 p R s m meth c) (hl : l.flags = flags0) (r0 : Nat) (h : AH) (hw : m_Wr_begin Q r0 h) : ∀ (ls : Array Slot) (H : Heap) (locs : List Loc) (cells slots : Nat), lv_has ls 1 [(0, .ref r0)] → fx_F D h0 h H locs cells slots → W p l e R s m args below meth c H locs cells slots (fx_Z D below s h0 (fx_oV Q fx_no)) (F0 m 0 ls []) := by
  unfold m_Wr_begin at hw
  intro ls H locs cells slots hv F
  refine lv_aload_n C.ex C.by d_Wr_begin_0 rfl (lv_at hv 0 rfl) ?_
  refine lv_aload_n C.ex C.by d_Wr_begin_1 rfl (lv_at hv 0 rfl) ?_
  obtain ⟨hk1, hw⟩ := hw
  obtain ⟨b1, hb1, hw⟩ := hw
  refine fx_getR C F lf_Wr_7 hk1 rfl hb1 d_Wr_begin_2 ?_
  obtain ⟨hk2, hw⟩ := hw
  refine fx_alen C F hk2.gt d_Wr_begin_5 ?_
  let h1 : AH := up_I h r0 1 (nI (hp_n h b1))
  replace hw := hw h1 rfl
  refine fx_putI C F lf_Wr_13 hk1 rfl rfl (fx_mayF.no rfl rfl) d_Wr_begin_6 (fun H locs (F : fx_F D h0 h1 H locs _ _) => ?_)
  exact fx_vret C F d_Wr_begin_9 (Or.inl ⟨rfl, hw⟩)
theorem hm_Wr_begin : fx_hd y_Wr_begin prog_13_method_2_code 1 (none) [] ∈ tables_1 := (fx_m4 (List.mem_of_getElem? (i := 48) rfl))
theorem hi_Wr_begin : Cond.initialized y_Wr_begin.cls ∈ tables_1 := (fx_m1 (List.mem_of_getElem? (i := 14) rfl))
theorem c_Wr_begin {l : Launch} (hl : l.flags = flags0) {D : DD} {Q : AH → Prop} {r0 : Nat} {h : AH} (hw : m_Wr_begin Q r0 h) : fx_Mt l D y_Wr_begin (fx_hd y_Wr_begin prog_13_method_2_code 1 (none) []) 0 0 [.ref r0] h (fx_oV Q fx_no) := by
  refine fx_ofW (plainFor_of_name (by decide)) (fun p e s m below meth c C F => ?_)
  have hv := lv_entry ([.ref r0]) (n := 1) (Nat.le_of_ble_eq_true rfl)
  rw [lg_entry_eq]
  generalize (lg_sl ([.ref r0]) ++ List.replicate (1 - (lg_sl ([.ref r0])).length) Slot.unset).toArray = ls at hv ⊢
  have hv : lv_has ls 1 [(0, .ref r0)] := hv
  exact b_Wr_begin_0 C hl _ _ hw _ _ _ _ _ hv F
/-! ChainJudge$Writer.size()I: frames 0, words 0 -/
abbrev y_Wr_size : MethodName := ⟨"ChainJudge$Writer", "size", "()I"⟩
def dl_Wr_size : List (Nat × Instr × Nat) := [(0, .aload_n 0, 1), (1, .getfield 7, 3), (4, .arraylength, 1), (5, .aload_n 0, 1), (6, .getfield 13, 3), (9, .isub, 1), (10, .ireturn, 1)]
theorem dk_Wr_size : fx_dec prog_13_method_3_code dl_Wr_size = true := by decide +kernel
theorem d_Wr_size_0 : decode prog_13_method_3_code 0 = .ok (.aload_n 0, 1) := fx_dat dk_Wr_size 0 rfl
theorem d_Wr_size_1 : decode prog_13_method_3_code 1 = .ok (.getfield 7, 3) := fx_dat dk_Wr_size 1 rfl
theorem d_Wr_size_4 : decode prog_13_method_3_code 4 = .ok (.arraylength, 1) := fx_dat dk_Wr_size 2 rfl
theorem d_Wr_size_5 : decode prog_13_method_3_code 5 = .ok (.aload_n 0, 1) := fx_dat dk_Wr_size 3 rfl
theorem d_Wr_size_6 : decode prog_13_method_3_code 6 = .ok (.getfield 13, 3) := fx_dat dk_Wr_size 4 rfl
theorem d_Wr_size_9 : decode prog_13_method_3_code 9 = .ok (.isub, 1) := fx_dat dk_Wr_size 5 rfl
theorem d_Wr_size_10 : decode prog_13_method_3_code 10 = .ok (.ireturn, 1) := fx_dat dk_Wr_size 6 rfl
def m_Wr_size (Q : Int32 → AH → Prop) (r0 : Nat) (h : AH) : Prop := hp_k h r0 = 11 ∧ ∃ b1, hp_R h r0 0 = some b1 ∧ bk (hp_k h b1) ∧ Q ((nI (hp_n h b1)) - (hp_I h r0 1)) h
theorem b_Wr_size_0 {p : Program} {l : Launch} {e : Env} {R : Room} {s : State} {m : MethodId} {args : Array Value} {below : List Frame} {meth : Method} {c : Code} {D : DD} {h0 : AH} {Q : Int32 → AH → Prop} (C : fx_CX D y_Wr_size prog_13_method_3_code 1 0 0 (Option.some FieldType.int) [] h0 p R s m meth c) (hl : l.flags = flags0) (r0 : Nat) (h : AH) (hw : m_Wr_size Q r0 h) : ∀ (ls : Array Slot) (H : Heap) (locs : List Loc) (cells slots : Nat), lv_has ls 1 [(0, .ref r0)] → fx_F D h0 h H locs cells slots → W p l e R s m args below meth c H locs cells slots (fx_Z D below s h0 (fx_oI Q fx_no)) (F0 m 0 ls []) := by
  unfold m_Wr_size at hw
  intro ls H locs cells slots hv F
  refine lv_aload_n C.ex C.by d_Wr_size_0 rfl (lv_at hv 0 rfl) ?_
  obtain ⟨hk1, hw⟩ := hw
  obtain ⟨b1, hb1, hw⟩ := hw
  refine fx_getR C F lf_Wr_7 hk1 rfl hb1 d_Wr_size_1 ?_
  obtain ⟨hk2, hw⟩ := hw
  refine fx_alen C F hk2.gt d_Wr_size_4 ?_
  refine lv_aload_n C.ex C.by d_Wr_size_5 rfl (lv_at hv 0 rfl) ?_
  refine fx_getI C F lf_Wr_13 hk1 rfl d_Wr_size_6 ?_
  refine lv_isub C.ex C.by d_Wr_size_9 ?_
  exact fx_iret C F d_Wr_size_10 (Or.inl ⟨_, rfl, hw⟩)
theorem hm_Wr_size : fx_hd y_Wr_size prog_13_method_3_code 1 (Option.some FieldType.int) [] ∈ tables_1 := (fx_m4 (List.mem_of_getElem? (i := 56) rfl))
theorem hi_Wr_size : Cond.initialized y_Wr_size.cls ∈ tables_1 := (fx_m1 (List.mem_of_getElem? (i := 14) rfl))
theorem c_Wr_size {l : Launch} (hl : l.flags = flags0) {D : DD} {Q : Int32 → AH → Prop} {r0 : Nat} {h : AH} (hw : m_Wr_size Q r0 h) : fx_Mt l D y_Wr_size (fx_hd y_Wr_size prog_13_method_3_code 1 (Option.some FieldType.int) []) 0 0 [.ref r0] h (fx_oI Q fx_no) := by
  refine fx_ofW (plainFor_of_name (by decide)) (fun p e s m below meth c C F => ?_)
  have hv := lv_entry ([.ref r0]) (n := 1) (Nat.le_of_ble_eq_true rfl)
  rw [lg_entry_eq]
  generalize (lg_sl ([.ref r0]) ++ List.replicate (1 - (lg_sl ([.ref r0])).length) Slot.unset).toArray = ls at hv ⊢
  have hv : lv_has ls 1 [(0, .ref r0)] := hv
  exact b_Wr_size_0 C hl _ _ hw _ _ _ _ _ hv F
/-! ChainJudge$Writer.room(I)V: frames 1, words 18 -/
abbrev y_Wr_room : MethodName := ⟨"ChainJudge$Writer", "room", "(I)V"⟩
theorem lm_Wr_17 : Cond.methodLink "ChainJudge$Writer" 17 y_Wr_size ∈ tables_1 ∨ ∃ host, Cond.methodLinkNest "ChainJudge$Writer" 17 y_Wr_size host ∈ tables_1 := Or.inl (fx_m4 (List.mem_of_getElem? (i := 65) rfl))
section
variable {p : Program} {l : Launch} {e : Env} {R : Room} {s : State} {m : MethodId} {args : Array Value} {below : List Frame} {meth : Method} {c : Code} {H : Heap} {locs : List Loc} {cells slots : Nat}
variable {D : DD} {y : MethodName} {cc : ByteArray} {nL kf kw : Nat} {ret : Option FieldType} {hh : List (Nat × Nat × Nat × Nat)} {h0 h : AH} {pc : Nat} {ls : Array Slot} {rest : List Value} {b idx : Nat}
theorem iv_Wr_size (C : fx_CX D y cc nL kf kw ret hh h0 p R s m meth c) (F : fx_F D h0 h H locs cells slots) (hw1 : Cond.methodLink y.cls idx y_Wr_size ∈ tables_1 ∨ ∃ host, Cond.methodLinkNest y.cls idx y_Wr_size host ∈ tables_1) (hk : hp_k h b = 11) (hd : decode cc pc = .ok (.invokevirtual idx, 3)) : fx_IV p l e R s m args below meth c H locs cells slots (F0 m pc ls (.ref b :: rest)) rest y_Wr_size [.ref b] 3 := fun T hT X => fx_invV (As := []) (Cn := "ChainJudge$Writer") C X hw1 (fx_m4 (List.mem_of_getElem? (i := 54) rfl)) (fx_selW C (fx_m4 (List.mem_of_getElem? (i := 55) rfl))) hm_Wr_size ⟨by decide, by decide⟩ (by rw [hT]; exact fx_clsO (ci := 10) (r := ("ChainJudge$Writer", fx_T10, 2)) C F rfl (by decide) hk) rfl (n := 0) (by decide +kernel) rfl rfl hd
end
def dl_Wr_room : List (Nat × Instr × Nat) := [(0, .aload_n 0, 1), (1, .getfield 13, 3), (4, .iload_n 1, 1), (5, .if_icmp .lt 4, 3), (8, .return_, 1), (9, .iconst 2, 1), (10, .aload_n 0, 1), (11, .getfield 7, 3), (14, .arraylength, 1), (15, .imul, 1), (16, .iload_n 1, 1), (17, .iadd, 1), (18, .newarray .byte, 2), (20, .astore_n 2, 1), (21, .aload_n 0, 1), (22, .invokevirtual 17, 3), (25, .istore_n 3, 1), (26, .aload_n 0, 1), (27, .getfield 7, 3), (30, .aload_n 0, 1), (31, .getfield 13, 3), (34, .aload_n 2, 1), (35, .aload_n 2, 1), (36, .arraylength, 1), (37, .iload_n 3, 1), (38, .isub, 1), (39, .iload_n 3, 1), (40, .invokestatic 21, 3), (43, .aload_n 0, 1), (44, .aload_n 2, 1), (45, .putfield 7, 3), (48, .aload_n 0, 1), (49, .aload_n 2, 1), (50, .arraylength, 1), (51, .iload_n 3, 1), (52, .isub, 1), (53, .putfield 13, 3), (56, .return_, 1)]
theorem dk_Wr_room : fx_dec prog_13_method_4_code dl_Wr_room = true := by decide +kernel
theorem d_Wr_room_0 : decode prog_13_method_4_code 0 = .ok (.aload_n 0, 1) := fx_dat dk_Wr_room 0 rfl
theorem d_Wr_room_1 : decode prog_13_method_4_code 1 = .ok (.getfield 13, 3) := fx_dat dk_Wr_room 1 rfl
theorem d_Wr_room_4 : decode prog_13_method_4_code 4 = .ok (.iload_n 1, 1) := fx_dat dk_Wr_room 2 rfl
theorem d_Wr_room_5 : decode prog_13_method_4_code 5 = .ok (.if_icmp .lt 4, 3) := fx_dat dk_Wr_room 3 rfl
theorem d_Wr_room_8 : decode prog_13_method_4_code 8 = .ok (.return_, 1) := fx_dat dk_Wr_room 4 rfl
theorem d_Wr_room_9 : decode prog_13_method_4_code 9 = .ok (.iconst 2, 1) := fx_dat dk_Wr_room 5 rfl
theorem d_Wr_room_10 : decode prog_13_method_4_code 10 = .ok (.aload_n 0, 1) := fx_dat dk_Wr_room 6 rfl
theorem d_Wr_room_11 : decode prog_13_method_4_code 11 = .ok (.getfield 7, 3) := fx_dat dk_Wr_room 7 rfl
theorem d_Wr_room_14 : decode prog_13_method_4_code 14 = .ok (.arraylength, 1) := fx_dat dk_Wr_room 8 rfl
theorem d_Wr_room_15 : decode prog_13_method_4_code 15 = .ok (.imul, 1) := fx_dat dk_Wr_room 9 rfl
theorem d_Wr_room_16 : decode prog_13_method_4_code 16 = .ok (.iload_n 1, 1) := fx_dat dk_Wr_room 10 rfl
theorem d_Wr_room_17 : decode prog_13_method_4_code 17 = .ok (.iadd, 1) := fx_dat dk_Wr_room 11 rfl
theorem d_Wr_room_18 : decode prog_13_method_4_code 18 = .ok (.newarray .byte, 2) := fx_dat dk_Wr_room 12 rfl
theorem d_Wr_room_20 : decode prog_13_method_4_code 20 = .ok (.astore_n 2, 1) := fx_dat dk_Wr_room 13 rfl
theorem d_Wr_room_21 : decode prog_13_method_4_code 21 = .ok (.aload_n 0, 1) := fx_dat dk_Wr_room 14 rfl
theorem d_Wr_room_22 : decode prog_13_method_4_code 22 = .ok (.invokevirtual 17, 3) := fx_dat dk_Wr_room 15 rfl
theorem d_Wr_room_25 : decode prog_13_method_4_code 25 = .ok (.istore_n 3, 1) := fx_dat dk_Wr_room 16 rfl
theorem d_Wr_room_26 : decode prog_13_method_4_code 26 = .ok (.aload_n 0, 1) := fx_dat dk_Wr_room 17 rfl
theorem d_Wr_room_27 : decode prog_13_method_4_code 27 = .ok (.getfield 7, 3) := fx_dat dk_Wr_room 18 rfl
theorem d_Wr_room_30 : decode prog_13_method_4_code 30 = .ok (.aload_n 0, 1) := fx_dat dk_Wr_room 19 rfl
theorem d_Wr_room_31 : decode prog_13_method_4_code 31 = .ok (.getfield 13, 3) := fx_dat dk_Wr_room 20 rfl
theorem d_Wr_room_34 : decode prog_13_method_4_code 34 = .ok (.aload_n 2, 1) := fx_dat dk_Wr_room 21 rfl
theorem d_Wr_room_35 : decode prog_13_method_4_code 35 = .ok (.aload_n 2, 1) := fx_dat dk_Wr_room 22 rfl
theorem d_Wr_room_36 : decode prog_13_method_4_code 36 = .ok (.arraylength, 1) := fx_dat dk_Wr_room 23 rfl
theorem d_Wr_room_37 : decode prog_13_method_4_code 37 = .ok (.iload_n 3, 1) := fx_dat dk_Wr_room 24 rfl
theorem d_Wr_room_38 : decode prog_13_method_4_code 38 = .ok (.isub, 1) := fx_dat dk_Wr_room 25 rfl
theorem d_Wr_room_39 : decode prog_13_method_4_code 39 = .ok (.iload_n 3, 1) := fx_dat dk_Wr_room 26 rfl
theorem d_Wr_room_40 : decode prog_13_method_4_code 40 = .ok (.invokestatic 21, 3) := fx_dat dk_Wr_room 27 rfl
theorem d_Wr_room_43 : decode prog_13_method_4_code 43 = .ok (.aload_n 0, 1) := fx_dat dk_Wr_room 28 rfl
theorem d_Wr_room_44 : decode prog_13_method_4_code 44 = .ok (.aload_n 2, 1) := fx_dat dk_Wr_room 29 rfl
theorem d_Wr_room_45 : decode prog_13_method_4_code 45 = .ok (.putfield 7, 3) := fx_dat dk_Wr_room 30 rfl
theorem d_Wr_room_48 : decode prog_13_method_4_code 48 = .ok (.aload_n 0, 1) := fx_dat dk_Wr_room 31 rfl
theorem d_Wr_room_49 : decode prog_13_method_4_code 49 = .ok (.aload_n 2, 1) := fx_dat dk_Wr_room 32 rfl
theorem d_Wr_room_50 : decode prog_13_method_4_code 50 = .ok (.arraylength, 1) := fx_dat dk_Wr_room 33 rfl
theorem d_Wr_room_51 : decode prog_13_method_4_code 51 = .ok (.iload_n 3, 1) := fx_dat dk_Wr_room 34 rfl
theorem d_Wr_room_52 : decode prog_13_method_4_code 52 = .ok (.isub, 1) := fx_dat dk_Wr_room 35 rfl
theorem d_Wr_room_53 : decode prog_13_method_4_code 53 = .ok (.putfield 13, 3) := fx_dat dk_Wr_room 36 rfl
theorem d_Wr_room_56 : decode prog_13_method_4_code 56 = .ok (.return_, 1) := fx_dat dk_Wr_room 37 rfl
def m_Wr_room (Q : AH → Prop) (r0 : Nat) (x1 : Int32) (h : AH) : Prop := hp_k h r0 = 11 ∧ ((hp_I h r0 1) < x1 → ∃ b1, hp_R h r0 0 = some b1 ∧ bk (hp_k h b1) ∧ ¬ (((2 : Int32) * (nI (hp_n h b1))) + x1) < 0 ∧ ((((2 : Int32) * (nI (hp_n h b1))) + x1)).toNatClampNeg ≤ 536870912 ∧ fx_has h ((((2 : Int32) * (nI (hp_n h b1))) + x1)).toNatClampNeg ∧ ∀ (_ : fx_wf h) (q1 : Nat), q1 = hp_z h → ∀ h1 : AH, h1 = up_N h 101 ((((2 : Int32) * (nI (hp_n h b1))) + x1)).toNatClampNeg ((((2 : Int32) * (nI (hp_n h b1))) + x1)).toNatClampNeg → m_Wr_size (fun v1 h2 => fx_ext h1 h2 → ∃ b2, hp_R h2 r0 0 = some b2 ∧ bk (hp_k h2 b2) ∧ ¬ (hp_I h2 r0 1) < 0 ∧ ¬ ((nI (hp_n h2 q1)) - v1) < 0 ∧ ¬ v1 < 0 ∧ (hp_I h2 r0 1).toNatClampNeg + v1.toNatClampNeg ≤ hp_n h2 b2 ∧ ((nI (hp_n h2 q1)) - v1).toNatClampNeg + v1.toNatClampNeg ≤ hp_n h2 q1 ∧ ∀ h3 : AH, h3 = up_CI h2 b2 (hp_I h2 r0 1).toNatClampNeg q1 ((nI (hp_n h2 q1)) - v1).toNatClampNeg v1.toNatClampNeg → ∀ h4 : AH, h4 = up_R h3 r0 0 (some q1) → ∀ h5 : AH, h5 = up_I h4 r0 1 ((nI (hp_n h4 q1)) - v1) → Q h5) r0 h1) ∧ (¬ (hp_I h r0 1) < x1 → Q h)
theorem b_Wr_room_0 {p : Program} {l : Launch} {e : Env} {R : Room} {s : State} {m : MethodId} {args : Array Value} {below : List Frame} {meth : Method} {c : Code} {D : DD} {h0 : AH} {Q : AH → Prop} (C : fx_CX D y_Wr_room prog_13_method_4_code 4 1 18 (none) [] h0 p R s m meth c) (hl : l.flags = flags0) (r0 : Nat) (x1 : Int32) (h : AH) (hw : m_Wr_room Q r0 x1 h) : ∀ (ls : Array Slot) (H : Heap) (locs : List Loc) (cells slots : Nat), lv_has ls 4 [(0, .ref r0), (1, .int x1)] → fx_F D h0 h H locs cells slots → W p l e R s m args below meth c H locs cells slots (fx_Z D below s h0 (fx_oV Q fx_no)) (F0 m 0 ls []) := by
  unfold m_Wr_room at hw
  intro ls H locs cells slots hv F
  refine lv_aload_n C.ex C.by d_Wr_room_0 rfl (lv_at hv 0 rfl) ?_
  obtain ⟨hk1, hw⟩ := hw
  refine fx_getI C F lf_Wr_13 hk1 rfl d_Wr_room_1 ?_
  refine lv_iload_n C.ex C.by d_Wr_room_4 rfl (lv_at hv 1 rfl) ?_
  refine lv_icmp_lt C.ex C.by d_Wr_room_5 rfl (fun hc => ?_) (fun hc => ?_)
  · replace hw := hw.1 hc
    refine lv_iconst (v := (2 : Int32)) C.ex C.by d_Wr_room_9 (by decide) ?_
    refine lv_aload_n C.ex C.by d_Wr_room_10 rfl (lv_at hv 0 rfl) ?_
    obtain ⟨b1, hb1, hw⟩ := hw
    refine fx_getR C F lf_Wr_7 hk1 rfl hb1 d_Wr_room_11 ?_
    obtain ⟨hk2, hw⟩ := hw
    refine fx_alen C F hk2.gt d_Wr_room_14 ?_
    refine lv_imul C.ex C.by d_Wr_room_15 ?_
    refine lv_iload_n C.ex C.by d_Wr_room_16 rfl (lv_at hv 1 rfl) ?_
    refine lv_iadd C.ex C.by d_Wr_room_17 ?_
    obtain ⟨hn0, hn1, hs, hw⟩ := hw
    let q1 : Nat := hp_z h
    let h1 : AH := up_N h 101 ((((2 : Int32) * (nI (hp_n h b1))) + x1)).toNatClampNeg ((((2 : Int32) * (nI (hp_n h b1))) + x1)).toNatClampNeg
    replace hw := hw F.wf q1 rfl h1 rfl
    have hk2 := (F.xN (k := 101) (n := ((((2 : Int32) * (nI (hp_n h b1))) + x1)).toNatClampNeg) (m := ((((2 : Int32) * (nI (hp_n h b1))) + x1)).toNatClampNeg)).gb hk2
    have hk1 := (F.xN (k := 101) (n := ((((2 : Int32) * (nI (hp_n h b1))) + x1)).toNatClampNeg) (m := ((((2 : Int32) * (nI (hp_n h b1))) + x1)).toNatClampNeg)).k hk1
    have hkq1 : hp_k h1 q1 = 101 := fx_nk _ _ _ _
    refine fx_newaB  C F (fx_m1 (List.mem_of_getElem? (i := 55) rfl)) hn0 hn1 hs d_Wr_room_18 (fun H cells slots (F : fx_F D h0 h1 H locs cells slots) => ?_)
    refine lv_astore_n (lv' := [(2, .ref q1), (0, .ref r0), (1, .int x1)]) C.ex C.by d_Wr_room_20 rfl hv (by decide) rfl (fun ls hv => ?_)
    refine lv_aload_n C.ex C.by d_Wr_room_21 rfl (lv_at hv 1 rfl) ?_
    refine fx_callI C F (c_Wr_size hl hw) hm_Wr_size hi_Wr_size hv.1 (by decide) (Nat.le_of_ble_eq_true rfl) (iv_Wr_size C F lm_Wr_17 hk1 d_Wr_room_22) (fx_out0 _) fx_eno (fun v1 h2 H locs cells slots hw hx1 F => ?_)
    replace hw := hw hx1
    have hk2 := (hx1).gb hk2
    have hkq1 := (hx1).k hkq1
    have hk1 := (hx1).k hk1
    refine lv_istore_n (lv' := [(3, .int v1), (2, .ref q1), (0, .ref r0), (1, .int x1)]) C.ex C.by d_Wr_room_25 rfl hv (by decide) rfl (fun ls hv => ?_)
    refine lv_aload_n C.ex C.by d_Wr_room_26 rfl (lv_at hv 2 rfl) ?_
    obtain ⟨b2, hb2, hw⟩ := hw
    refine fx_getR C F lf_Wr_7 hk1 rfl hb2 d_Wr_room_27 ?_
    refine lv_aload_n C.ex C.by d_Wr_room_30 rfl (lv_at hv 2 rfl) ?_
    refine fx_getI C F lf_Wr_13 hk1 rfl d_Wr_room_31 ?_
    refine lv_aload_n C.ex C.by d_Wr_room_34 rfl (lv_at hv 1 rfl) ?_
    refine lv_aload_n C.ex C.by d_Wr_room_35 rfl (lv_at hv 1 rfl) ?_
    refine fx_alen C F (Nat.lt_of_lt_of_eq (by decide : 100 < 101) (Eq.symm hkq1)) d_Wr_room_36 ?_
    refine lv_iload_n C.ex C.by d_Wr_room_37 rfl (lv_at hv 0 rfl) ?_
    refine lv_isub C.ex C.by d_Wr_room_38 ?_
    refine lv_iload_n C.ex C.by d_Wr_room_39 rfl (lv_at hv 0 rfl) ?_
    obtain ⟨hk3, hw⟩ := hw
    obtain ⟨g1, g2, g3, g4, g5, hw⟩ := hw
    let h3 : AH := up_CI h2 b2 (hp_I h2 r0 1).toNatClampNeg q1 ((nI (hp_n h2 q1)) - v1).toNatClampNeg v1.toNatClampNeg
    replace hw := hw h3 rfl
    refine fx_copyB C F (fx_m4 (List.mem_of_getElem? (i := 66) rfl)) (fx_m3 (List.mem_of_getElem? (i := 27) rfl)) (fx_m3 (List.mem_of_getElem? (i := 26) rfl)) (fx_m1 (List.mem_of_getElem? (i := 21) rfl)) hv.1 hk3 hkq1 g1 g2 g3 g4 g5 (by decide) (Nat.le_of_ble_eq_true rfl) d_Wr_room_40 (fun H locs (F : fx_F D h0 h3 H locs _ _) => ?_)
    refine lv_aload_n C.ex C.by d_Wr_room_43 rfl (lv_at hv 2 rfl) ?_
    refine lv_aload_n C.ex C.by d_Wr_room_44 rfl (lv_at hv 1 rfl) ?_
    let h4 : AH := up_R h3 r0 0 (some q1)
    replace hw := hw h4 rfl
    refine fx_putR C F lf_Wr_7 hk1 rfl rfl (fx_mayF.no rfl rfl) d_Wr_room_45 (fun H locs (F : fx_F D h0 h4 H locs _ _) => ?_)
    refine lv_aload_n C.ex C.by d_Wr_room_48 rfl (lv_at hv 2 rfl) ?_
    refine lv_aload_n C.ex C.by d_Wr_room_49 rfl (lv_at hv 1 rfl) ?_
    refine fx_alen C F (Nat.lt_of_lt_of_eq (by decide : 100 < 101) (Eq.symm hkq1)) d_Wr_room_50 ?_
    refine lv_iload_n C.ex C.by d_Wr_room_51 rfl (lv_at hv 0 rfl) ?_
    refine lv_isub C.ex C.by d_Wr_room_52 ?_
    let h5 : AH := up_I h4 r0 1 ((nI (hp_n h4 q1)) - v1)
    replace hw := hw h5 rfl
    refine fx_putI C F lf_Wr_13 hk1 rfl rfl (fx_mayF.no rfl rfl) d_Wr_room_53 (fun H locs (F : fx_F D h0 h5 H locs _ _) => ?_)
    exact fx_vret C F d_Wr_room_56 (Or.inl ⟨rfl, hw⟩)
  · replace hw := hw.2 hc
    exact fx_vret C F d_Wr_room_8 (Or.inl ⟨rfl, hw⟩)
theorem hm_Wr_room : fx_hd y_Wr_room prog_13_method_4_code 4 (none) [] ∈ tables_1 := (fx_m4 (List.mem_of_getElem? (i := 64) rfl))
theorem hi_Wr_room : Cond.initialized y_Wr_room.cls ∈ tables_1 := (fx_m1 (List.mem_of_getElem? (i := 14) rfl))
theorem c_Wr_room {l : Launch} (hl : l.flags = flags0) {D : DD} {Q : AH → Prop} {r0 : Nat} {x1 : Int32} {h : AH} (hw : m_Wr_room Q r0 x1 h) : fx_Mt l D y_Wr_room (fx_hd y_Wr_room prog_13_method_4_code 4 (none) []) 1 18 [.ref r0, .int x1] h (fx_oV Q fx_no) := by
  refine fx_ofW (plainFor_of_name (by decide)) (fun p e s m below meth c C F => ?_)
  have hv := lv_entry ([.ref r0, .int x1]) (n := 4) (Nat.le_of_ble_eq_true rfl)
  rw [lg_entry_eq]
  generalize (lg_sl ([.ref r0, .int x1]) ++ List.replicate (4 - (lg_sl ([.ref r0, .int x1])).length) Slot.unset).toArray = ls at hv ⊢
  have hv : lv_has ls 4 [(0, .ref r0), (1, .int x1)] := hv
  exact b_Wr_room_0 C hl _ _ _ hw _ _ _ _ _ hv F
/-! ChainJudge$Writer.one(I)V: frames 2, words 33 -/
abbrev y_Wr_one : MethodName := ⟨"ChainJudge$Writer", "one", "(I)V"⟩
theorem lm_Wr_27 : Cond.methodLink "ChainJudge$Writer" 27 y_Wr_room ∈ tables_1 ∨ ∃ host, Cond.methodLinkNest "ChainJudge$Writer" 27 y_Wr_room host ∈ tables_1 := Or.inl (fx_m4 (List.mem_of_getElem? (i := 61) rfl))
section
variable {p : Program} {l : Launch} {e : Env} {R : Room} {s : State} {m : MethodId} {args : Array Value} {below : List Frame} {meth : Method} {c : Code} {H : Heap} {locs : List Loc} {cells slots : Nat}
variable {D : DD} {y : MethodName} {cc : ByteArray} {nL kf kw : Nat} {ret : Option FieldType} {hh : List (Nat × Nat × Nat × Nat)} {h0 h : AH} {pc : Nat} {ls : Array Slot} {rest : List Value} {b idx : Nat}
theorem iv_Wr_room {x1 : Int32} (C : fx_CX D y cc nL kf kw ret hh h0 p R s m meth c) (F : fx_F D h0 h H locs cells slots) (hw1 : Cond.methodLink y.cls idx y_Wr_room ∈ tables_1 ∨ ∃ host, Cond.methodLinkNest y.cls idx y_Wr_room host ∈ tables_1) (hk : hp_k h b = 11) (hd : decode cc pc = .ok (.invokevirtual idx, 3)) : fx_IV p l e R s m args below meth c H locs cells slots (F0 m pc ls (.int x1 :: .ref b :: rest)) rest y_Wr_room [.ref b, .int x1] 3 := fun T hT X => fx_invV (As := [.int x1]) (Cn := "ChainJudge$Writer") C X hw1 (fx_m4 (List.mem_of_getElem? (i := 63) rfl)) (fx_selP C ⟨by decide, by decide⟩ (fx_m2 (List.mem_of_getElem? (i := 91) rfl)) (fx_m4 (List.mem_of_getElem? (i := 62) rfl)) (fx_m4 (List.mem_of_getElem? (i := 63) rfl))) hm_Wr_room ⟨by decide, by decide⟩ (by rw [hT]; exact fx_clsO (ci := 10) (r := ("ChainJudge$Writer", fx_T10, 2)) C F rfl (by decide) hk) rfl (n := 1) (by decide +kernel) rfl rfl hd
end
def dl_Wr_one : List (Nat × Instr × Nat) := [(0, .aload_n 0, 1), (1, .iconst 1, 1), (2, .invokevirtual 27, 3), (5, .aload_n 0, 1), (6, .getfield 7, 3), (9, .aload_n 0, 1), (10, .dup, 1), (11, .getfield 13, 3), (14, .iconst 1, 1), (15, .isub, 1), (16, .dup_x1, 1), (17, .putfield 13, 3), (20, .iload_n 1, 1), (21, .i2b, 1), (22, .bastore, 1), (23, .return_, 1)]
theorem dk_Wr_one : fx_dec prog_13_method_5_code dl_Wr_one = true := by decide +kernel
theorem d_Wr_one_0 : decode prog_13_method_5_code 0 = .ok (.aload_n 0, 1) := fx_dat dk_Wr_one 0 rfl
theorem d_Wr_one_1 : decode prog_13_method_5_code 1 = .ok (.iconst 1, 1) := fx_dat dk_Wr_one 1 rfl
theorem d_Wr_one_2 : decode prog_13_method_5_code 2 = .ok (.invokevirtual 27, 3) := fx_dat dk_Wr_one 2 rfl
theorem d_Wr_one_5 : decode prog_13_method_5_code 5 = .ok (.aload_n 0, 1) := fx_dat dk_Wr_one 3 rfl
theorem d_Wr_one_6 : decode prog_13_method_5_code 6 = .ok (.getfield 7, 3) := fx_dat dk_Wr_one 4 rfl
theorem d_Wr_one_9 : decode prog_13_method_5_code 9 = .ok (.aload_n 0, 1) := fx_dat dk_Wr_one 5 rfl
theorem d_Wr_one_10 : decode prog_13_method_5_code 10 = .ok (.dup, 1) := fx_dat dk_Wr_one 6 rfl
theorem d_Wr_one_11 : decode prog_13_method_5_code 11 = .ok (.getfield 13, 3) := fx_dat dk_Wr_one 7 rfl
theorem d_Wr_one_14 : decode prog_13_method_5_code 14 = .ok (.iconst 1, 1) := fx_dat dk_Wr_one 8 rfl
theorem d_Wr_one_15 : decode prog_13_method_5_code 15 = .ok (.isub, 1) := fx_dat dk_Wr_one 9 rfl
theorem d_Wr_one_16 : decode prog_13_method_5_code 16 = .ok (.dup_x1, 1) := fx_dat dk_Wr_one 10 rfl
theorem d_Wr_one_17 : decode prog_13_method_5_code 17 = .ok (.putfield 13, 3) := fx_dat dk_Wr_one 11 rfl
theorem d_Wr_one_20 : decode prog_13_method_5_code 20 = .ok (.iload_n 1, 1) := fx_dat dk_Wr_one 12 rfl
theorem d_Wr_one_21 : decode prog_13_method_5_code 21 = .ok (.i2b, 1) := fx_dat dk_Wr_one 13 rfl
theorem d_Wr_one_22 : decode prog_13_method_5_code 22 = .ok (.bastore, 1) := fx_dat dk_Wr_one 14 rfl
theorem d_Wr_one_23 : decode prog_13_method_5_code 23 = .ok (.return_, 1) := fx_dat dk_Wr_one 15 rfl
def m_Wr_one (Q : AH → Prop) (r0 : Nat) (x1 : Int32) (h : AH) : Prop := hp_k h r0 = 11 ∧ m_Wr_room (fun h1 => fx_ext h h1 → ∃ b1, hp_R h1 r0 0 = some b1 ∧ ∀ h2 : AH, h2 = up_I h1 r0 1 ((hp_I h1 r0 1) - (1 : Int32)) → hp_k h2 b1 = 101 ∧ vp_in ((hp_I h1 r0 1) - (1 : Int32)) (hp_n h2 b1) ∧ ∀ h3 : AH, h3 = up_I h2 b1 (((hp_I h1 r0 1) - (1 : Int32))).toNatClampNeg (((x1).toInt8.toInt32)).toInt8.toInt32 → Q h3) r0 (1 : Int32) h
theorem b_Wr_one_0 {p : Program} {l : Launch} {e : Env} {R : Room} {s : State} {m : MethodId} {args : Array Value} {below : List Frame} {meth : Method} {c : Code} {D : DD} {h0 : AH} {Q : AH → Prop} (C : fx_CX D y_Wr_one prog_13_method_5_code 2 2 33 (none) [] h0 p R s m meth c) (hl : l.flags = flags0) (r0 : Nat) (x1 : Int32) (h : AH) (hw : m_Wr_one Q r0 x1 h) : ∀ (ls : Array Slot) (H : Heap) (locs : List Loc) (cells slots : Nat), lv_has ls 2 [(0, .ref r0), (1, .int x1)] → fx_F D h0 h H locs cells slots → W p l e R s m args below meth c H locs cells slots (fx_Z D below s h0 (fx_oV Q fx_no)) (F0 m 0 ls []) := by
  unfold m_Wr_one at hw
  intro ls H locs cells slots hv F
  refine lv_aload_n C.ex C.by d_Wr_one_0 rfl (lv_at hv 0 rfl) ?_
  refine lv_iconst (v := (1 : Int32)) C.ex C.by d_Wr_one_1 (by decide) ?_
  obtain ⟨hk1, hw⟩ := hw
  refine fx_callV C F (c_Wr_room hl hw) hm_Wr_room hi_Wr_room hv.1 (by decide) (Nat.le_of_ble_eq_true rfl) (iv_Wr_room C F lm_Wr_27 hk1 d_Wr_one_2) (fx_out0 _) fx_eno (fun h1 H locs cells slots hw hx1 F => ?_)
  replace hw := hw hx1
  have hk1 := (hx1).k hk1
  refine lv_aload_n C.ex C.by d_Wr_one_5 rfl (lv_at hv 0 rfl) ?_
  obtain ⟨b1, hb1, hw⟩ := hw
  refine fx_getR C F lf_Wr_7 hk1 rfl hb1 d_Wr_one_6 ?_
  refine lv_aload_n C.ex C.by d_Wr_one_9 rfl (lv_at hv 0 rfl) ?_
  refine lv_dup C.ex C.by d_Wr_one_10 rfl ?_
  refine fx_getI C F lf_Wr_13 hk1 rfl d_Wr_one_11 ?_
  refine lv_iconst (v := (1 : Int32)) C.ex C.by d_Wr_one_14 (by decide) ?_
  refine lv_isub C.ex C.by d_Wr_one_15 ?_
  refine lv_dup_x1 C.ex C.by d_Wr_one_16 rfl rfl ?_
  let h2 : AH := up_I h1 r0 1 ((hp_I h1 r0 1) - (1 : Int32))
  replace hw := hw h2 rfl
  refine fx_putI C F lf_Wr_13 hk1 rfl rfl (fx_mayF.no rfl rfl) d_Wr_one_17 (fun H locs (F : fx_F D h0 h2 H locs _ _) => ?_)
  refine lv_iload_n C.ex C.by d_Wr_one_20 rfl (lv_at hv 1 rfl) ?_
  refine lv_i2b (v := ((x1).toInt8.toInt32)) C.ex C.by d_Wr_one_21 rfl ?_
  obtain ⟨hk2, hw⟩ := hw
  obtain ⟨hi1, hw⟩ := hw
  let h3 : AH := up_I h2 b1 (((hp_I h1 r0 1) - (1 : Int32))).toNatClampNeg (((x1).toInt8.toInt32)).toInt8.toInt32
  replace hw := hw h3 rfl
  refine fx_bast C F hk2 hi1 d_Wr_one_22 (fun H locs (F : fx_F D h0 h3 H locs _ _) => ?_)
  exact fx_vret C F d_Wr_one_23 (Or.inl ⟨rfl, hw⟩)
theorem hm_Wr_one : fx_hd y_Wr_one prog_13_method_5_code 2 (none) [] ∈ tables_1 := (fx_m4 (List.mem_of_getElem? (i := 60) rfl))
theorem hi_Wr_one : Cond.initialized y_Wr_one.cls ∈ tables_1 := (fx_m1 (List.mem_of_getElem? (i := 14) rfl))
theorem c_Wr_one {l : Launch} (hl : l.flags = flags0) {D : DD} {Q : AH → Prop} {r0 : Nat} {x1 : Int32} {h : AH} (hw : m_Wr_one Q r0 x1 h) : fx_Mt l D y_Wr_one (fx_hd y_Wr_one prog_13_method_5_code 2 (none) []) 2 33 [.ref r0, .int x1] h (fx_oV Q fx_no) := by
  refine fx_ofW (plainFor_of_name (by decide)) (fun p e s m below meth c C F => ?_)
  have hv := lv_entry ([.ref r0, .int x1]) (n := 2) (Nat.le_of_ble_eq_true rfl)
  rw [lg_entry_eq]
  generalize (lg_sl ([.ref r0, .int x1]) ++ List.replicate (2 - (lg_sl ([.ref r0, .int x1])).length) Slot.unset).toArray = ls at hv ⊢
  have hv : lv_has ls 2 [(0, .ref r0), (1, .int x1)] := hv
  exact b_Wr_one_0 C hl _ _ _ hw _ _ _ _ _ hv F
/-! ChainJudge$Writer.wrap(II)V: frames 3, words 46 -/
abbrev y_Wr_wrap : MethodName := ⟨"ChainJudge$Writer", "wrap", "(II)V"⟩
theorem lm_Wr_31 : Cond.methodLink "ChainJudge$Writer" 31 y_Wr_one ∈ tables_1 ∨ ∃ host, Cond.methodLinkNest "ChainJudge$Writer" 31 y_Wr_one host ∈ tables_1 := Or.inl (fx_m4 (List.mem_of_getElem? (i := 77) rfl))
section
variable {p : Program} {l : Launch} {e : Env} {R : Room} {s : State} {m : MethodId} {args : Array Value} {below : List Frame} {meth : Method} {c : Code} {H : Heap} {locs : List Loc} {cells slots : Nat}
variable {D : DD} {y : MethodName} {cc : ByteArray} {nL kf kw : Nat} {ret : Option FieldType} {hh : List (Nat × Nat × Nat × Nat)} {h0 h : AH} {pc : Nat} {ls : Array Slot} {rest : List Value} {b idx : Nat}
theorem iv_Wr_one {x1 : Int32} (C : fx_CX D y cc nL kf kw ret hh h0 p R s m meth c) (F : fx_F D h0 h H locs cells slots) (hw1 : Cond.methodLink y.cls idx y_Wr_one ∈ tables_1 ∨ ∃ host, Cond.methodLinkNest y.cls idx y_Wr_one host ∈ tables_1) (hk : hp_k h b = 11) (hd : decode cc pc = .ok (.invokevirtual idx, 3)) : fx_IV p l e R s m args below meth c H locs cells slots (F0 m pc ls (.int x1 :: .ref b :: rest)) rest y_Wr_one [.ref b, .int x1] 3 := fun T hT X => fx_invV (As := [.int x1]) (Cn := "ChainJudge$Writer") C X hw1 (fx_m4 (List.mem_of_getElem? (i := 58) rfl)) (fx_selW C (fx_m4 (List.mem_of_getElem? (i := 59) rfl))) hm_Wr_one ⟨by decide, by decide⟩ (by rw [hT]; exact fx_clsO (ci := 10) (r := ("ChainJudge$Writer", fx_T10, 2)) C F rfl (by decide) hk) rfl (n := 1) (by decide +kernel) rfl rfl hd
end
def dl_Wr_wrap : List (Nat × Instr × Nat) := [(0, .aload_n 0, 1), (1, .invokevirtual 17, 3), (4, .iload_n 2, 1), (5, .isub, 1), (6, .istore_n 3, 1), (7, .iconst 0, 1), (8, .istore 4, 2), (10, .iload_n 3, 1), (11, .sipush 128, 3), (14, .if_icmp .ge 11, 3), (17, .aload_n 0, 1), (18, .iload_n 3, 1), (19, .invokevirtual 31, 3), (22, .goto 40, 3), (25, .iload_n 3, 1), (26, .istore 5, 2), (28, .iload 5, 2), (30, .ifCond .le 22, 3), (33, .aload_n 0, 1), (34, .iload 5, 2), (36, .invokevirtual 31, 3), (39, .iinc 4 1, 3), (42, .iload 5, 2), (44, .bipush 8, 2), (46, .iushr, 1), (47, .istore 5, 2), (49, .goto (-21), 3), (52, .aload_n 0, 1), (53, .sipush 128, 3), (56, .iload 4, 2), (58, .iadd, 1), (59, .invokevirtual 31, 3), (62, .aload_n 0, 1), (63, .iload_n 1, 1), (64, .invokevirtual 31, 3), (67, .return_, 1)]
theorem dk_Wr_wrap : fx_dec prog_13_method_7_code dl_Wr_wrap = true := by decide +kernel
theorem d_Wr_wrap_0 : decode prog_13_method_7_code 0 = .ok (.aload_n 0, 1) := fx_dat dk_Wr_wrap 0 rfl
theorem d_Wr_wrap_1 : decode prog_13_method_7_code 1 = .ok (.invokevirtual 17, 3) := fx_dat dk_Wr_wrap 1 rfl
theorem d_Wr_wrap_4 : decode prog_13_method_7_code 4 = .ok (.iload_n 2, 1) := fx_dat dk_Wr_wrap 2 rfl
theorem d_Wr_wrap_5 : decode prog_13_method_7_code 5 = .ok (.isub, 1) := fx_dat dk_Wr_wrap 3 rfl
theorem d_Wr_wrap_6 : decode prog_13_method_7_code 6 = .ok (.istore_n 3, 1) := fx_dat dk_Wr_wrap 4 rfl
theorem d_Wr_wrap_7 : decode prog_13_method_7_code 7 = .ok (.iconst 0, 1) := fx_dat dk_Wr_wrap 5 rfl
theorem d_Wr_wrap_8 : decode prog_13_method_7_code 8 = .ok (.istore 4, 2) := fx_dat dk_Wr_wrap 6 rfl
theorem d_Wr_wrap_10 : decode prog_13_method_7_code 10 = .ok (.iload_n 3, 1) := fx_dat dk_Wr_wrap 7 rfl
theorem d_Wr_wrap_11 : decode prog_13_method_7_code 11 = .ok (.sipush 128, 3) := fx_dat dk_Wr_wrap 8 rfl
theorem d_Wr_wrap_14 : decode prog_13_method_7_code 14 = .ok (.if_icmp .ge 11, 3) := fx_dat dk_Wr_wrap 9 rfl
theorem d_Wr_wrap_17 : decode prog_13_method_7_code 17 = .ok (.aload_n 0, 1) := fx_dat dk_Wr_wrap 10 rfl
theorem d_Wr_wrap_18 : decode prog_13_method_7_code 18 = .ok (.iload_n 3, 1) := fx_dat dk_Wr_wrap 11 rfl
theorem d_Wr_wrap_19 : decode prog_13_method_7_code 19 = .ok (.invokevirtual 31, 3) := fx_dat dk_Wr_wrap 12 rfl
theorem d_Wr_wrap_22 : decode prog_13_method_7_code 22 = .ok (.goto 40, 3) := fx_dat dk_Wr_wrap 13 rfl
theorem d_Wr_wrap_25 : decode prog_13_method_7_code 25 = .ok (.iload_n 3, 1) := fx_dat dk_Wr_wrap 14 rfl
theorem d_Wr_wrap_26 : decode prog_13_method_7_code 26 = .ok (.istore 5, 2) := fx_dat dk_Wr_wrap 15 rfl
theorem d_Wr_wrap_28 : decode prog_13_method_7_code 28 = .ok (.iload 5, 2) := fx_dat dk_Wr_wrap 16 rfl
theorem d_Wr_wrap_30 : decode prog_13_method_7_code 30 = .ok (.ifCond .le 22, 3) := fx_dat dk_Wr_wrap 17 rfl
theorem d_Wr_wrap_33 : decode prog_13_method_7_code 33 = .ok (.aload_n 0, 1) := fx_dat dk_Wr_wrap 18 rfl
theorem d_Wr_wrap_34 : decode prog_13_method_7_code 34 = .ok (.iload 5, 2) := fx_dat dk_Wr_wrap 19 rfl
theorem d_Wr_wrap_36 : decode prog_13_method_7_code 36 = .ok (.invokevirtual 31, 3) := fx_dat dk_Wr_wrap 20 rfl
theorem d_Wr_wrap_39 : decode prog_13_method_7_code 39 = .ok (.iinc 4 1, 3) := fx_dat dk_Wr_wrap 21 rfl
theorem d_Wr_wrap_42 : decode prog_13_method_7_code 42 = .ok (.iload 5, 2) := fx_dat dk_Wr_wrap 22 rfl
theorem d_Wr_wrap_44 : decode prog_13_method_7_code 44 = .ok (.bipush 8, 2) := fx_dat dk_Wr_wrap 23 rfl
theorem d_Wr_wrap_46 : decode prog_13_method_7_code 46 = .ok (.iushr, 1) := fx_dat dk_Wr_wrap 24 rfl
theorem d_Wr_wrap_47 : decode prog_13_method_7_code 47 = .ok (.istore 5, 2) := fx_dat dk_Wr_wrap 25 rfl
theorem d_Wr_wrap_49 : decode prog_13_method_7_code 49 = .ok (.goto (-21), 3) := fx_dat dk_Wr_wrap 26 rfl
theorem d_Wr_wrap_52 : decode prog_13_method_7_code 52 = .ok (.aload_n 0, 1) := fx_dat dk_Wr_wrap 27 rfl
theorem d_Wr_wrap_53 : decode prog_13_method_7_code 53 = .ok (.sipush 128, 3) := fx_dat dk_Wr_wrap 28 rfl
theorem d_Wr_wrap_56 : decode prog_13_method_7_code 56 = .ok (.iload 4, 2) := fx_dat dk_Wr_wrap 29 rfl
theorem d_Wr_wrap_58 : decode prog_13_method_7_code 58 = .ok (.iadd, 1) := fx_dat dk_Wr_wrap 30 rfl
theorem d_Wr_wrap_59 : decode prog_13_method_7_code 59 = .ok (.invokevirtual 31, 3) := fx_dat dk_Wr_wrap 31 rfl
theorem d_Wr_wrap_62 : decode prog_13_method_7_code 62 = .ok (.aload_n 0, 1) := fx_dat dk_Wr_wrap 32 rfl
theorem d_Wr_wrap_63 : decode prog_13_method_7_code 63 = .ok (.iload_n 1, 1) := fx_dat dk_Wr_wrap 33 rfl
theorem d_Wr_wrap_64 : decode prog_13_method_7_code 64 = .ok (.invokevirtual 31, 3) := fx_dat dk_Wr_wrap 34 rfl
theorem d_Wr_wrap_67 : decode prog_13_method_7_code 67 = .ok (.return_, 1) := fx_dat dk_Wr_wrap 35 rfl
def m_Wr_wrap_62 (Q : AH → Prop) (r0 : Nat) (x1 : Int32) (h : AH) : Prop := hp_k h r0 = 11 ∧ m_Wr_one (fun h1 => fx_ext h h1 → Q h1) r0 x1 h
def m_Wr_wrap_28_b (Q : AH → Prop) (X28 : Int32 × Int32 × AH → Prop) (r0 : Nat) (x1 : Int32) (x4 : Int32) (x5 : Int32) (h : AH) : Prop := (x5 ≤ 0 → hp_k h r0 = 11 ∧ m_Wr_one (fun h1 => fx_ext h h1 → m_Wr_wrap_62 Q r0 x1 h1) r0 ((128 : Int32) + x4) h) ∧ (¬ x5 ≤ 0 → hp_k h r0 = 11 ∧ m_Wr_one (fun h2 => fx_ext h h2 → ∀ v1 : Int32, v1 = (x4 + (1 : Int32)) → ∀ v2 : Int32, v2 = (sh_iu x5 (8 : Int32)) → X28 (v1, v2, h2)) r0 x5 h)
def m_Wr_wrap_28 (Q : AH → Prop) (r0 : Nat) (x1 : Int32) (x4 : Int32) (x5 : Int32) (h : AH) : Prop := fx_loop (fun (X28 : Int32 × Int32 × AH → Prop) (st : Int32 × Int32 × AH) => m_Wr_wrap_28_b Q X28 r0 x1 st.1 st.2.1 st.2.2) (x4, x5, h)
def m_Wr_wrap (Q : AH → Prop) (r0 : Nat) (x1 : Int32) (x2 : Int32) (h : AH) : Prop := hp_k h r0 = 11 ∧ m_Wr_size (fun v1 h1 => fx_ext h h1 → ∀ v2 : Int32, v2 = (v1 - x2) → ((128 : Int32) ≤ v2 → m_Wr_wrap_28 Q r0 x1 (0 : Int32) v2 h1) ∧ (¬ (128 : Int32) ≤ v2 → m_Wr_one (fun h2 => fx_ext h1 h2 → m_Wr_wrap_62 Q r0 x1 h2) r0 v2 h1)) r0 h
theorem b_Wr_wrap_62 {p : Program} {l : Launch} {e : Env} {R : Room} {s : State} {m : MethodId} {args : Array Value} {below : List Frame} {meth : Method} {c : Code} {D : DD} {h0 : AH} {Q : AH → Prop} (C : fx_CX D y_Wr_wrap prog_13_method_7_code 6 3 46 (none) [] h0 p R s m meth c) (hl : l.flags = flags0) (r0 : Nat) (x1 : Int32) (h : AH) (hw : m_Wr_wrap_62 Q r0 x1 h) : ∀ (ls : Array Slot) (H : Heap) (locs : List Loc) (cells slots : Nat), lv_has ls 6 [(0, .ref r0), (1, .int x1)] → fx_F D h0 h H locs cells slots → W p l e R s m args below meth c H locs cells slots (fx_Z D below s h0 (fx_oV Q fx_no)) (F0 m 62 ls []) := by
  unfold m_Wr_wrap_62 at hw
  intro ls H locs cells slots hv F
  refine lv_aload_n C.ex C.by d_Wr_wrap_62 rfl (lv_at hv 0 rfl) ?_
  refine lv_iload_n C.ex C.by d_Wr_wrap_63 rfl (lv_at hv 1 rfl) ?_
  obtain ⟨hk1, hw⟩ := hw
  refine fx_callV C F (c_Wr_one hl hw) hm_Wr_one hi_Wr_one hv.1 (by decide) (Nat.le_of_ble_eq_true rfl) (iv_Wr_one C F lm_Wr_31 hk1 d_Wr_wrap_64) (fx_out0 _) fx_eno (fun h1 H locs cells slots hw hx1 F => ?_)
  replace hw := hw hx1
  have hk1 := (hx1).k hk1
  exact fx_vret C F d_Wr_wrap_67 (Or.inl ⟨rfl, hw⟩)
theorem b_Wr_wrap_28 {p : Program} {l : Launch} {e : Env} {R : Room} {s : State} {m : MethodId} {args : Array Value} {below : List Frame} {meth : Method} {c : Code} {D : DD} {h0 : AH} {Q : AH → Prop} (C : fx_CX D y_Wr_wrap prog_13_method_7_code 6 3 46 (none) [] h0 p R s m meth c) (hl : l.flags = flags0) (r0 : Nat) (x1 : Int32) (x4 : Int32) (x5 : Int32) (h : AH) (hw : m_Wr_wrap_28 Q r0 x1 x4 x5 h) : ∀ (ls : Array Slot) (H : Heap) (locs : List Loc) (cells slots : Nat), lv_has ls 6 [(0, .ref r0), (1, .int x1), (4, .int x4), (5, .int x5)] → fx_F D h0 h H locs cells slots → W p l e R s m args below meth c H locs cells slots (fx_Z D below s h0 (fx_oV Q fx_no)) (F0 m 28 ls []) := by
  refine fx_loop.use hw (fun st => ∀ (ls : Array Slot) (H : Heap) (locs : List Loc) (cells slots : Nat), lv_has ls 6 [(0, .ref r0), (1, .int x1), (4, .int st.1), (5, .int st.2.1)] → fx_F D h0 st.2.2 H locs cells slots → W p l e R s m args below meth c H locs cells slots (fx_Z D below s h0 (fx_oV Q fx_no)) (F0 m 28 ls [])) (fun X28 st hX28 hw => ?_)
  obtain ⟨x4, x5, h⟩ := st
  replace hw : m_Wr_wrap_28_b Q X28 r0 x1 x4 x5 h := hw
  unfold m_Wr_wrap_28_b at hw
  intro ls H locs cells slots hv F
  refine lv_iload C.ex C.by d_Wr_wrap_28 (lv_at hv 3 rfl) ?_
  refine lv_if_le C.ex C.by d_Wr_wrap_30 rfl (fun hc => ?_) (fun hc => ?_)
  · replace hw := hw.1 hc
    refine lv_aload_n C.ex C.by d_Wr_wrap_52 rfl (lv_at hv 0 rfl) ?_
    refine lv_sipush (v := (128 : Int32)) C.ex C.by d_Wr_wrap_53 (by decide) ?_
    refine lv_iload C.ex C.by d_Wr_wrap_56 (lv_at hv 2 rfl) ?_
    refine lv_iadd C.ex C.by d_Wr_wrap_58 ?_
    obtain ⟨hk1, hw⟩ := hw
    refine fx_callV C F (c_Wr_one hl hw) hm_Wr_one hi_Wr_one hv.1 (by decide) (Nat.le_of_ble_eq_true rfl) (iv_Wr_one C F lm_Wr_31 hk1 d_Wr_wrap_59) (fx_out0 _) fx_eno (fun h1 H locs cells slots hw hx1 F => ?_)
    replace hw := hw hx1
    have hk1 := (hx1).k hk1
    exact b_Wr_wrap_62 C hl _ _ _ hw _ _ _ _ _ (lv_sub hv [0, 1] rfl) F
  · replace hw := hw.2 hc
    refine lv_aload_n C.ex C.by d_Wr_wrap_33 rfl (lv_at hv 0 rfl) ?_
    refine lv_iload C.ex C.by d_Wr_wrap_34 (lv_at hv 3 rfl) ?_
    obtain ⟨hk2, hw⟩ := hw
    refine fx_callV C F (c_Wr_one hl hw) hm_Wr_one hi_Wr_one hv.1 (by decide) (Nat.le_of_ble_eq_true rfl) (iv_Wr_one C F lm_Wr_31 hk2 d_Wr_wrap_36) (fx_out0 _) fx_eno (fun h2 H locs cells slots hw hx2 F => ?_)
    replace hw := hw hx2
    have hk2 := (hx2).k hk2
    let v1 : Int32 := (x4 + (1 : Int32))
    replace hw := hw v1 rfl
    refine lv_iinc (v := v1) (k := 2) (lv' := [(4, .int v1), (0, .ref r0), (1, .int x1), (5, .int x5)]) C.ex C.by d_Wr_wrap_39 hv rfl (congrArg (fun z => x4 + z) (by decide)) (by decide) rfl (fun ls hv => ?_)
    refine lv_iload C.ex C.by d_Wr_wrap_42 (lv_at hv 3 rfl) ?_
    refine lv_bipush (v := (8 : Int32)) C.ex C.by d_Wr_wrap_44 (by decide) ?_
    refine lv_iushr (v := (sh_iu x5 (8 : Int32))) C.ex C.by d_Wr_wrap_46 rfl ?_
    let v2 : Int32 := (sh_iu x5 (8 : Int32))
    replace hw := hw v2 rfl
    refine lv_istore (lv' := [(5, .int v2), (4, .int v1), (0, .ref r0), (1, .int x1)]) C.ex C.by d_Wr_wrap_47 hv (by decide) rfl (fun ls hv => ?_)
    refine lv_goto C.ex C.by d_Wr_wrap_49 rfl ?_
    exact hX28 _ hw _ _ _ _ _ (lv_sub hv [2, 3, 1, 0] rfl) F
theorem b_Wr_wrap_0 {p : Program} {l : Launch} {e : Env} {R : Room} {s : State} {m : MethodId} {args : Array Value} {below : List Frame} {meth : Method} {c : Code} {D : DD} {h0 : AH} {Q : AH → Prop} (C : fx_CX D y_Wr_wrap prog_13_method_7_code 6 3 46 (none) [] h0 p R s m meth c) (hl : l.flags = flags0) (r0 : Nat) (x1 : Int32) (x2 : Int32) (h : AH) (hw : m_Wr_wrap Q r0 x1 x2 h) : ∀ (ls : Array Slot) (H : Heap) (locs : List Loc) (cells slots : Nat), lv_has ls 6 [(0, .ref r0), (1, .int x1), (2, .int x2)] → fx_F D h0 h H locs cells slots → W p l e R s m args below meth c H locs cells slots (fx_Z D below s h0 (fx_oV Q fx_no)) (F0 m 0 ls []) := by
  unfold m_Wr_wrap at hw
  intro ls H locs cells slots hv F
  refine lv_aload_n C.ex C.by d_Wr_wrap_0 rfl (lv_at hv 0 rfl) ?_
  obtain ⟨hk1, hw⟩ := hw
  refine fx_callI C F (c_Wr_size hl hw) hm_Wr_size hi_Wr_size hv.1 (by decide) (Nat.le_of_ble_eq_true rfl) (iv_Wr_size C F lm_Wr_17 hk1 d_Wr_wrap_1) (fx_out0 _) fx_eno (fun v1 h1 H locs cells slots hw hx1 F => ?_)
  replace hw := hw hx1
  have hk1 := (hx1).k hk1
  refine lv_iload_n C.ex C.by d_Wr_wrap_4 rfl (lv_at hv 2 rfl) ?_
  refine lv_isub C.ex C.by d_Wr_wrap_5 ?_
  let v2 : Int32 := (v1 - x2)
  replace hw := hw v2 rfl
  refine lv_istore_n (lv' := [(3, .int v2), (0, .ref r0), (1, .int x1), (2, .int x2)]) C.ex C.by d_Wr_wrap_6 rfl hv (by decide) rfl (fun ls hv => ?_)
  refine lv_iconst (v := (0 : Int32)) C.ex C.by d_Wr_wrap_7 (by decide) ?_
  refine lv_istore (lv' := [(4, .int (0 : Int32)), (3, .int v2), (0, .ref r0), (1, .int x1), (2, .int x2)]) C.ex C.by d_Wr_wrap_8 hv (by decide) rfl (fun ls hv => ?_)
  refine lv_iload_n C.ex C.by d_Wr_wrap_10 rfl (lv_at hv 1 rfl) ?_
  refine lv_sipush (v := (128 : Int32)) C.ex C.by d_Wr_wrap_11 (by decide) ?_
  refine lv_icmp_ge C.ex C.by d_Wr_wrap_14 rfl (fun hc => ?_) (fun hc => ?_)
  · replace hw := hw.1 hc
    refine lv_iload_n C.ex C.by d_Wr_wrap_25 rfl (lv_at hv 1 rfl) ?_
    refine lv_istore (lv' := [(5, .int v2), (4, .int (0 : Int32)), (3, .int v2), (0, .ref r0), (1, .int x1), (2, .int x2)]) C.ex C.by d_Wr_wrap_26 hv (by decide) rfl (fun ls hv => ?_)
    exact b_Wr_wrap_28 C hl _ _ _ _ _ hw _ _ _ _ _ (lv_sub hv [3, 4, 1, 0] rfl) F
  · replace hw := hw.2 hc
    refine lv_aload_n C.ex C.by d_Wr_wrap_17 rfl (lv_at hv 2 rfl) ?_
    refine lv_iload_n C.ex C.by d_Wr_wrap_18 rfl (lv_at hv 1 rfl) ?_
    refine fx_callV C F (c_Wr_one hl hw) hm_Wr_one hi_Wr_one hv.1 (by decide) (Nat.le_of_ble_eq_true rfl) (iv_Wr_one C F lm_Wr_31 hk1 d_Wr_wrap_19) (fx_out0 _) fx_eno (fun h2 H locs cells slots hw hx2 F => ?_)
    replace hw := hw hx2
    have hk1 := (hx2).k hk1
    refine lv_goto C.ex C.by d_Wr_wrap_22 rfl ?_
    exact b_Wr_wrap_62 C hl _ _ _ hw _ _ _ _ _ (lv_sub hv [2, 3] rfl) F
theorem hm_Wr_wrap : fx_hd y_Wr_wrap prog_13_method_7_code 6 (none) [] ∈ tables_1 := (fx_m4 (List.mem_of_getElem? (i := 76) rfl))
theorem hi_Wr_wrap : Cond.initialized y_Wr_wrap.cls ∈ tables_1 := (fx_m1 (List.mem_of_getElem? (i := 14) rfl))
theorem c_Wr_wrap {l : Launch} (hl : l.flags = flags0) {D : DD} {Q : AH → Prop} {r0 : Nat} {x1 : Int32} {x2 : Int32} {h : AH} (hw : m_Wr_wrap Q r0 x1 x2 h) : fx_Mt l D y_Wr_wrap (fx_hd y_Wr_wrap prog_13_method_7_code 6 (none) []) 3 46 [.ref r0, .int x1, .int x2] h (fx_oV Q fx_no) := by
  refine fx_ofW (plainFor_of_name (by decide)) (fun p e s m below meth c C F => ?_)
  have hv := lv_entry ([.ref r0, .int x1, .int x2]) (n := 6) (Nat.le_of_ble_eq_true rfl)
  rw [lg_entry_eq]
  generalize (lg_sl ([.ref r0, .int x1, .int x2]) ++ List.replicate (6 - (lg_sl ([.ref r0, .int x1, .int x2])).length) Slot.unset).toArray = ls at hv ⊢
  have hv : lv_has ls 6 [(0, .ref r0), (1, .int x1), (2, .int x2)] := hv
  exact b_Wr_wrap_0 C hl _ _ _ _ hw _ _ _ _ _ hv F
/-! ChainJudge$Writer.all([BII)V: frames 2, words 33 -/
abbrev y_Wr_all : MethodName := ⟨"ChainJudge$Writer", "all", "([BII)V"⟩
def dl_Wr_all : List (Nat × Instr × Nat) := [(0, .aload_n 0, 1), (1, .iload_n 3, 1), (2, .invokevirtual 27, 3), (5, .aload_n 0, 1), (6, .dup, 1), (7, .getfield 13, 3), (10, .iload_n 3, 1), (11, .isub, 1), (12, .putfield 13, 3), (15, .aload_n 1, 1), (16, .iload_n 2, 1), (17, .aload_n 0, 1), (18, .getfield 7, 3), (21, .aload_n 0, 1), (22, .getfield 13, 3), (25, .iload_n 3, 1), (26, .invokestatic 21, 3), (29, .return_, 1)]
theorem dk_Wr_all : fx_dec prog_13_method_6_code dl_Wr_all = true := by decide +kernel
theorem d_Wr_all_0 : decode prog_13_method_6_code 0 = .ok (.aload_n 0, 1) := fx_dat dk_Wr_all 0 rfl
theorem d_Wr_all_1 : decode prog_13_method_6_code 1 = .ok (.iload_n 3, 1) := fx_dat dk_Wr_all 1 rfl
theorem d_Wr_all_2 : decode prog_13_method_6_code 2 = .ok (.invokevirtual 27, 3) := fx_dat dk_Wr_all 2 rfl
theorem d_Wr_all_5 : decode prog_13_method_6_code 5 = .ok (.aload_n 0, 1) := fx_dat dk_Wr_all 3 rfl
theorem d_Wr_all_6 : decode prog_13_method_6_code 6 = .ok (.dup, 1) := fx_dat dk_Wr_all 4 rfl
theorem d_Wr_all_7 : decode prog_13_method_6_code 7 = .ok (.getfield 13, 3) := fx_dat dk_Wr_all 5 rfl
theorem d_Wr_all_10 : decode prog_13_method_6_code 10 = .ok (.iload_n 3, 1) := fx_dat dk_Wr_all 6 rfl
theorem d_Wr_all_11 : decode prog_13_method_6_code 11 = .ok (.isub, 1) := fx_dat dk_Wr_all 7 rfl
theorem d_Wr_all_12 : decode prog_13_method_6_code 12 = .ok (.putfield 13, 3) := fx_dat dk_Wr_all 8 rfl
theorem d_Wr_all_15 : decode prog_13_method_6_code 15 = .ok (.aload_n 1, 1) := fx_dat dk_Wr_all 9 rfl
theorem d_Wr_all_16 : decode prog_13_method_6_code 16 = .ok (.iload_n 2, 1) := fx_dat dk_Wr_all 10 rfl
theorem d_Wr_all_17 : decode prog_13_method_6_code 17 = .ok (.aload_n 0, 1) := fx_dat dk_Wr_all 11 rfl
theorem d_Wr_all_18 : decode prog_13_method_6_code 18 = .ok (.getfield 7, 3) := fx_dat dk_Wr_all 12 rfl
theorem d_Wr_all_21 : decode prog_13_method_6_code 21 = .ok (.aload_n 0, 1) := fx_dat dk_Wr_all 13 rfl
theorem d_Wr_all_22 : decode prog_13_method_6_code 22 = .ok (.getfield 13, 3) := fx_dat dk_Wr_all 14 rfl
theorem d_Wr_all_25 : decode prog_13_method_6_code 25 = .ok (.iload_n 3, 1) := fx_dat dk_Wr_all 15 rfl
theorem d_Wr_all_26 : decode prog_13_method_6_code 26 = .ok (.invokestatic 21, 3) := fx_dat dk_Wr_all 16 rfl
theorem d_Wr_all_29 : decode prog_13_method_6_code 29 = .ok (.return_, 1) := fx_dat dk_Wr_all 17 rfl
def m_Wr_all (Q : AH → Prop) (r0 : Nat) (r1 : Nat) (x2 : Int32) (x3 : Int32) (h : AH) : Prop := hp_k h r0 = 11 ∧ m_Wr_room (fun h1 => fx_ext h h1 → ∀ h2 : AH, h2 = up_I h1 r0 1 ((hp_I h1 r0 1) - x3) → ∃ b1, hp_R h2 r0 0 = some b1 ∧ bk (hp_k h2 r1) ∧ hp_k h2 b1 = 101 ∧ ¬ x2 < 0 ∧ ¬ (hp_I h2 r0 1) < 0 ∧ ¬ x3 < 0 ∧ x2.toNatClampNeg + x3.toNatClampNeg ≤ hp_n h2 r1 ∧ (hp_I h2 r0 1).toNatClampNeg + x3.toNatClampNeg ≤ hp_n h2 b1 ∧ ∀ h3 : AH, h3 = up_CI h2 r1 x2.toNatClampNeg b1 (hp_I h2 r0 1).toNatClampNeg x3.toNatClampNeg → Q h3) r0 x3 h
theorem b_Wr_all_0 {p : Program} {l : Launch} {e : Env} {R : Room} {s : State} {m : MethodId} {args : Array Value} {below : List Frame} {meth : Method} {c : Code} {D : DD} {h0 : AH} {Q : AH → Prop} (C : fx_CX D y_Wr_all prog_13_method_6_code 4 2 33 (none) [] h0 p R s m meth c) (hl : l.flags = flags0) (r0 : Nat) (r1 : Nat) (x2 : Int32) (x3 : Int32) (h : AH) (hw : m_Wr_all Q r0 r1 x2 x3 h) : ∀ (ls : Array Slot) (H : Heap) (locs : List Loc) (cells slots : Nat), lv_has ls 4 [(0, .ref r0), (1, .ref r1), (2, .int x2), (3, .int x3)] → fx_F D h0 h H locs cells slots → W p l e R s m args below meth c H locs cells slots (fx_Z D below s h0 (fx_oV Q fx_no)) (F0 m 0 ls []) := by
  unfold m_Wr_all at hw
  intro ls H locs cells slots hv F
  refine lv_aload_n C.ex C.by d_Wr_all_0 rfl (lv_at hv 0 rfl) ?_
  refine lv_iload_n C.ex C.by d_Wr_all_1 rfl (lv_at hv 3 rfl) ?_
  obtain ⟨hk1, hw⟩ := hw
  refine fx_callV C F (c_Wr_room hl hw) hm_Wr_room hi_Wr_room hv.1 (by decide) (Nat.le_of_ble_eq_true rfl) (iv_Wr_room C F lm_Wr_27 hk1 d_Wr_all_2) (fx_out0 _) fx_eno (fun h1 H locs cells slots hw hx1 F => ?_)
  replace hw := hw hx1
  have hk1 := (hx1).k hk1
  refine lv_aload_n C.ex C.by d_Wr_all_5 rfl (lv_at hv 0 rfl) ?_
  refine lv_dup C.ex C.by d_Wr_all_6 rfl ?_
  refine fx_getI C F lf_Wr_13 hk1 rfl d_Wr_all_7 ?_
  refine lv_iload_n C.ex C.by d_Wr_all_10 rfl (lv_at hv 3 rfl) ?_
  refine lv_isub C.ex C.by d_Wr_all_11 ?_
  let h2 : AH := up_I h1 r0 1 ((hp_I h1 r0 1) - x3)
  replace hw := hw h2 rfl
  refine fx_putI C F lf_Wr_13 hk1 rfl rfl (fx_mayF.no rfl rfl) d_Wr_all_12 (fun H locs (F : fx_F D h0 h2 H locs _ _) => ?_)
  refine lv_aload_n C.ex C.by d_Wr_all_15 rfl (lv_at hv 1 rfl) ?_
  refine lv_iload_n C.ex C.by d_Wr_all_16 rfl (lv_at hv 2 rfl) ?_
  refine lv_aload_n C.ex C.by d_Wr_all_17 rfl (lv_at hv 0 rfl) ?_
  obtain ⟨b1, hb1, hw⟩ := hw
  refine fx_getR C F lf_Wr_7 hk1 rfl hb1 d_Wr_all_18 ?_
  refine lv_aload_n C.ex C.by d_Wr_all_21 rfl (lv_at hv 0 rfl) ?_
  refine fx_getI C F lf_Wr_13 hk1 rfl d_Wr_all_22 ?_
  refine lv_iload_n C.ex C.by d_Wr_all_25 rfl (lv_at hv 3 rfl) ?_
  obtain ⟨hk2, hw⟩ := hw
  obtain ⟨hk3, hw⟩ := hw
  obtain ⟨g1, g2, g3, g4, g5, hw⟩ := hw
  let h3 : AH := up_CI h2 r1 x2.toNatClampNeg b1 (hp_I h2 r0 1).toNatClampNeg x3.toNatClampNeg
  replace hw := hw h3 rfl
  refine fx_copyB C F (fx_m4 (List.mem_of_getElem? (i := 66) rfl)) (fx_m3 (List.mem_of_getElem? (i := 27) rfl)) (fx_m3 (List.mem_of_getElem? (i := 26) rfl)) (fx_m1 (List.mem_of_getElem? (i := 21) rfl)) hv.1 hk2 hk3 g1 g2 g3 g4 g5 (by decide) (Nat.le_of_ble_eq_true rfl) d_Wr_all_26 (fun H locs (F : fx_F D h0 h3 H locs _ _) => ?_)
  exact fx_vret C F d_Wr_all_29 (Or.inl ⟨rfl, hw⟩)
theorem hm_Wr_all : fx_hd y_Wr_all prog_13_method_6_code 4 (none) [] ∈ tables_1 := (fx_m4 (List.mem_of_getElem? (i := 85) rfl))
theorem hi_Wr_all : Cond.initialized y_Wr_all.cls ∈ tables_1 := (fx_m1 (List.mem_of_getElem? (i := 14) rfl))
theorem c_Wr_all {l : Launch} (hl : l.flags = flags0) {D : DD} {Q : AH → Prop} {r0 : Nat} {r1 : Nat} {x2 : Int32} {x3 : Int32} {h : AH} (hw : m_Wr_all Q r0 r1 x2 x3 h) : fx_Mt l D y_Wr_all (fx_hd y_Wr_all prog_13_method_6_code 4 (none) []) 2 33 [.ref r0, .ref r1, .int x2, .int x3] h (fx_oV Q fx_no) := by
  refine fx_ofW (plainFor_of_name (by decide)) (fun p e s m below meth c C F => ?_)
  have hv := lv_entry ([.ref r0, .ref r1, .int x2, .int x3]) (n := 4) (Nat.le_of_ble_eq_true rfl)
  rw [lg_entry_eq]
  generalize (lg_sl ([.ref r0, .ref r1, .int x2, .int x3]) ++ List.replicate (4 - (lg_sl ([.ref r0, .ref r1, .int x2, .int x3])).length) Slot.unset).toArray = ls at hv ⊢
  have hv : lv_has ls 4 [(0, .ref r0), (1, .ref r1), (2, .int x2), (3, .int x3)] := hv
  exact b_Wr_all_0 C hl _ _ _ _ _ hw _ _ _ _ _ hv F
/-! ChainJudge$Writer.part(I[BII)V: frames 4, words 63 -/
abbrev y_Wr_part : MethodName := ⟨"ChainJudge$Writer", "part", "(I[BII)V"⟩
theorem lm_Wr_34 : Cond.methodLink "ChainJudge$Writer" 34 y_Wr_all ∈ tables_1 ∨ ∃ host, Cond.methodLinkNest "ChainJudge$Writer" 34 y_Wr_all host ∈ tables_1 := Or.inl (fx_m4 (List.mem_of_getElem? (i := 82) rfl))
theorem lm_Wr_38 : Cond.methodLink "ChainJudge$Writer" 38 y_Wr_wrap ∈ tables_1 ∨ ∃ host, Cond.methodLinkNest "ChainJudge$Writer" 38 y_Wr_wrap host ∈ tables_1 := Or.inl (fx_m4 (List.mem_of_getElem? (i := 86) rfl))
section
variable {p : Program} {l : Launch} {e : Env} {R : Room} {s : State} {m : MethodId} {args : Array Value} {below : List Frame} {meth : Method} {c : Code} {H : Heap} {locs : List Loc} {cells slots : Nat}
variable {D : DD} {y : MethodName} {cc : ByteArray} {nL kf kw : Nat} {ret : Option FieldType} {hh : List (Nat × Nat × Nat × Nat)} {h0 h : AH} {pc : Nat} {ls : Array Slot} {rest : List Value} {b idx : Nat}
theorem iv_Wr_all {r1 : Nat} {x2 : Int32} {x3 : Int32} (C : fx_CX D y cc nL kf kw ret hh h0 p R s m meth c) (F : fx_F D h0 h H locs cells slots) (hw1 : Cond.methodLink y.cls idx y_Wr_all ∈ tables_1 ∨ ∃ host, Cond.methodLinkNest y.cls idx y_Wr_all host ∈ tables_1) (hk : hp_k h b = 11) (hd : decode cc pc = .ok (.invokevirtual idx, 3)) : fx_IV p l e R s m args below meth c H locs cells slots (F0 m pc ls (.int x3 :: .int x2 :: .ref r1 :: .ref b :: rest)) rest y_Wr_all [.ref b, .ref r1, .int x2, .int x3] 3 := fun T hT X => fx_invV (As := [.ref r1, .int x2, .int x3]) (Cn := "ChainJudge$Writer") C X hw1 (fx_m4 (List.mem_of_getElem? (i := 83) rfl)) (fx_selW C (fx_m4 (List.mem_of_getElem? (i := 84) rfl))) hm_Wr_all ⟨by decide, by decide⟩ (by rw [hT]; exact fx_clsO (ci := 10) (r := ("ChainJudge$Writer", fx_T10, 2)) C F rfl (by decide) hk) rfl (n := 3) (by decide +kernel) rfl rfl hd
theorem iv_Wr_wrap {x1 : Int32} {x2 : Int32} (C : fx_CX D y cc nL kf kw ret hh h0 p R s m meth c) (F : fx_F D h0 h H locs cells slots) (hw1 : Cond.methodLink y.cls idx y_Wr_wrap ∈ tables_1 ∨ ∃ host, Cond.methodLinkNest y.cls idx y_Wr_wrap host ∈ tables_1) (hk : hp_k h b = 11) (hd : decode cc pc = .ok (.invokevirtual idx, 3)) : fx_IV p l e R s m args below meth c H locs cells slots (F0 m pc ls (.int x2 :: .int x1 :: .ref b :: rest)) rest y_Wr_wrap [.ref b, .int x1, .int x2] 3 := fun T hT X => fx_invV (As := [.int x1, .int x2]) (Cn := "ChainJudge$Writer") C X hw1 (fx_m4 (List.mem_of_getElem? (i := 74) rfl)) (fx_selW C (fx_m4 (List.mem_of_getElem? (i := 75) rfl))) hm_Wr_wrap ⟨by decide, by decide⟩ (by rw [hT]; exact fx_clsO (ci := 10) (r := ("ChainJudge$Writer", fx_T10, 2)) C F rfl (by decide) hk) rfl (n := 2) (by decide +kernel) rfl rfl hd
end
def dl_Wr_part : List (Nat × Instr × Nat) := [(0, .aload_n 0, 1), (1, .invokevirtual 17, 3), (4, .istore 5, 2), (6, .aload_n 0, 1), (7, .aload_n 2, 1), (8, .iload_n 3, 1), (9, .iload 4, 2), (11, .invokevirtual 34, 3), (14, .aload_n 0, 1), (15, .iload_n 1, 1), (16, .iload 5, 2), (18, .invokevirtual 38, 3), (21, .return_, 1)]
theorem dk_Wr_part : fx_dec prog_13_method_8_code dl_Wr_part = true := by decide +kernel
theorem d_Wr_part_0 : decode prog_13_method_8_code 0 = .ok (.aload_n 0, 1) := fx_dat dk_Wr_part 0 rfl
theorem d_Wr_part_1 : decode prog_13_method_8_code 1 = .ok (.invokevirtual 17, 3) := fx_dat dk_Wr_part 1 rfl
theorem d_Wr_part_4 : decode prog_13_method_8_code 4 = .ok (.istore 5, 2) := fx_dat dk_Wr_part 2 rfl
theorem d_Wr_part_6 : decode prog_13_method_8_code 6 = .ok (.aload_n 0, 1) := fx_dat dk_Wr_part 3 rfl
theorem d_Wr_part_7 : decode prog_13_method_8_code 7 = .ok (.aload_n 2, 1) := fx_dat dk_Wr_part 4 rfl
theorem d_Wr_part_8 : decode prog_13_method_8_code 8 = .ok (.iload_n 3, 1) := fx_dat dk_Wr_part 5 rfl
theorem d_Wr_part_9 : decode prog_13_method_8_code 9 = .ok (.iload 4, 2) := fx_dat dk_Wr_part 6 rfl
theorem d_Wr_part_11 : decode prog_13_method_8_code 11 = .ok (.invokevirtual 34, 3) := fx_dat dk_Wr_part 7 rfl
theorem d_Wr_part_14 : decode prog_13_method_8_code 14 = .ok (.aload_n 0, 1) := fx_dat dk_Wr_part 8 rfl
theorem d_Wr_part_15 : decode prog_13_method_8_code 15 = .ok (.iload_n 1, 1) := fx_dat dk_Wr_part 9 rfl
theorem d_Wr_part_16 : decode prog_13_method_8_code 16 = .ok (.iload 5, 2) := fx_dat dk_Wr_part 10 rfl
theorem d_Wr_part_18 : decode prog_13_method_8_code 18 = .ok (.invokevirtual 38, 3) := fx_dat dk_Wr_part 11 rfl
theorem d_Wr_part_21 : decode prog_13_method_8_code 21 = .ok (.return_, 1) := fx_dat dk_Wr_part 12 rfl
def m_Wr_part (Q : AH → Prop) (r0 : Nat) (x1 : Int32) (r2 : Nat) (x3 : Int32) (x4 : Int32) (h : AH) : Prop := hp_k h r0 = 11 ∧ m_Wr_size (fun v1 h1 => fx_ext h h1 → m_Wr_all (fun h2 => fx_ext h1 h2 → m_Wr_wrap (fun h3 => fx_ext h2 h3 → Q h3) r0 x1 v1 h2) r0 r2 x3 x4 h1) r0 h
theorem b_Wr_part_0 {p : Program} {l : Launch} {e : Env} {R : Room} {s : State} {m : MethodId} {args : Array Value} {below : List Frame} {meth : Method} {c : Code} {D : DD} {h0 : AH} {Q : AH → Prop} (C : fx_CX D y_Wr_part prog_13_method_8_code 6 4 63 (none) [] h0 p R s m meth c) (hl : l.flags = flags0) (r0 : Nat) (x1 : Int32) (r2 : Nat) (x3 : Int32) (x4 : Int32) (h : AH) (hw : m_Wr_part Q r0 x1 r2 x3 x4 h) : ∀ (ls : Array Slot) (H : Heap) (locs : List Loc) (cells slots : Nat), lv_has ls 6 [(0, .ref r0), (1, .int x1), (2, .ref r2), (3, .int x3), (4, .int x4)] → fx_F D h0 h H locs cells slots → W p l e R s m args below meth c H locs cells slots (fx_Z D below s h0 (fx_oV Q fx_no)) (F0 m 0 ls []) := by
  unfold m_Wr_part at hw
  intro ls H locs cells slots hv F
  refine lv_aload_n C.ex C.by d_Wr_part_0 rfl (lv_at hv 0 rfl) ?_
  obtain ⟨hk1, hw⟩ := hw
  refine fx_callI C F (c_Wr_size hl hw) hm_Wr_size hi_Wr_size hv.1 (by decide) (Nat.le_of_ble_eq_true rfl) (iv_Wr_size C F lm_Wr_17 hk1 d_Wr_part_1) (fx_out0 _) fx_eno (fun v1 h1 H locs cells slots hw hx1 F => ?_)
  replace hw := hw hx1
  have hk1 := (hx1).k hk1
  refine lv_istore (lv' := [(5, .int v1), (0, .ref r0), (1, .int x1), (2, .ref r2), (3, .int x3), (4, .int x4)]) C.ex C.by d_Wr_part_4 hv (by decide) rfl (fun ls hv => ?_)
  refine lv_aload_n C.ex C.by d_Wr_part_6 rfl (lv_at hv 1 rfl) ?_
  refine lv_aload_n C.ex C.by d_Wr_part_7 rfl (lv_at hv 3 rfl) ?_
  refine lv_iload_n C.ex C.by d_Wr_part_8 rfl (lv_at hv 4 rfl) ?_
  refine lv_iload C.ex C.by d_Wr_part_9 (lv_at hv 5 rfl) ?_
  refine fx_callV C F (c_Wr_all hl hw) hm_Wr_all hi_Wr_all hv.1 (by decide) (Nat.le_of_ble_eq_true rfl) (iv_Wr_all C F lm_Wr_34 hk1 d_Wr_part_11) (fx_out0 _) fx_eno (fun h2 H locs cells slots hw hx2 F => ?_)
  replace hw := hw hx2
  have hk1 := (hx2).k hk1
  refine lv_aload_n C.ex C.by d_Wr_part_14 rfl (lv_at hv 1 rfl) ?_
  refine lv_iload_n C.ex C.by d_Wr_part_15 rfl (lv_at hv 2 rfl) ?_
  refine lv_iload C.ex C.by d_Wr_part_16 (lv_at hv 0 rfl) ?_
  refine fx_callV C F (c_Wr_wrap hl hw) hm_Wr_wrap hi_Wr_wrap hv.1 (by decide) (Nat.le_of_ble_eq_true rfl) (iv_Wr_wrap C F lm_Wr_38 hk1 d_Wr_part_18) (fx_out0 _) fx_eno (fun h3 H locs cells slots hw hx3 F => ?_)
  replace hw := hw hx3
  have hk1 := (hx3).k hk1
  exact fx_vret C F d_Wr_part_21 (Or.inl ⟨rfl, hw⟩)
theorem hm_Wr_part : fx_hd y_Wr_part prog_13_method_8_code 6 (none) [] ∈ tables_1 := (fx_m4 (List.mem_of_getElem? (i := 81) rfl))
theorem hi_Wr_part : Cond.initialized y_Wr_part.cls ∈ tables_1 := (fx_m1 (List.mem_of_getElem? (i := 14) rfl))
theorem c_Wr_part {l : Launch} (hl : l.flags = flags0) {D : DD} {Q : AH → Prop} {r0 : Nat} {x1 : Int32} {r2 : Nat} {x3 : Int32} {x4 : Int32} {h : AH} (hw : m_Wr_part Q r0 x1 r2 x3 x4 h) : fx_Mt l D y_Wr_part (fx_hd y_Wr_part prog_13_method_8_code 6 (none) []) 4 63 [.ref r0, .int x1, .ref r2, .int x3, .int x4] h (fx_oV Q fx_no) := by
  refine fx_ofW (plainFor_of_name (by decide)) (fun p e s m below meth c C F => ?_)
  have hv := lv_entry ([.ref r0, .int x1, .ref r2, .int x3, .int x4]) (n := 6) (Nat.le_of_ble_eq_true rfl)
  rw [lg_entry_eq]
  generalize (lg_sl ([.ref r0, .int x1, .ref r2, .int x3, .int x4]) ++ List.replicate (6 - (lg_sl ([.ref r0, .int x1, .ref r2, .int x3, .int x4])).length) Slot.unset).toArray = ls at hv ⊢
  have hv : lv_has ls 6 [(0, .ref r0), (1, .int x1), (2, .ref r2), (3, .int x3), (4, .int x4)] := hv
  exact b_Wr_part_0 C hl _ _ _ _ _ _ hw _ _ _ _ _ hv F
/-! ChainJudge$Issuer.extension([BZI)V: frames 5, words 80 -/
abbrev y_Iss_extension : MethodName := ⟨"ChainJudge$Issuer", "extension", "([BZI)V"⟩
theorem lm_Iss_34 : Cond.methodLink "ChainJudge$Issuer" 34 y_Wr_one ∈ tables_1 ∨ ∃ host, Cond.methodLinkNest "ChainJudge$Issuer" 34 y_Wr_one host ∈ tables_1 := Or.inl (fx_m4 (List.mem_of_getElem? (i := 57) rfl))
theorem lm_Iss_41 : Cond.methodLink "ChainJudge$Issuer" 41 y_Wr_wrap ∈ tables_1 ∨ ∃ host, Cond.methodLinkNest "ChainJudge$Issuer" 41 y_Wr_wrap host ∈ tables_1 := Or.inl (fx_m4 (List.mem_of_getElem? (i := 73) rfl))
theorem lm_Iss_45 : Cond.methodLink "ChainJudge$Issuer" 45 y_Wr_part ∈ tables_1 ∨ ∃ host, Cond.methodLinkNest "ChainJudge$Issuer" 45 y_Wr_part host ∈ tables_1 := Or.inl (fx_m4 (List.mem_of_getElem? (i := 78) rfl))
section
variable {p : Program} {l : Launch} {e : Env} {R : Room} {s : State} {m : MethodId} {args : Array Value} {below : List Frame} {meth : Method} {c : Code} {H : Heap} {locs : List Loc} {cells slots : Nat}
variable {D : DD} {y : MethodName} {cc : ByteArray} {nL kf kw : Nat} {ret : Option FieldType} {hh : List (Nat × Nat × Nat × Nat)} {h0 h : AH} {pc : Nat} {ls : Array Slot} {rest : List Value} {b idx : Nat}
theorem iv_Wr_part {x1 : Int32} {r2 : Nat} {x3 : Int32} {x4 : Int32} (C : fx_CX D y cc nL kf kw ret hh h0 p R s m meth c) (F : fx_F D h0 h H locs cells slots) (hw1 : Cond.methodLink y.cls idx y_Wr_part ∈ tables_1 ∨ ∃ host, Cond.methodLinkNest y.cls idx y_Wr_part host ∈ tables_1) (hk : hp_k h b = 11) (hd : decode cc pc = .ok (.invokevirtual idx, 3)) : fx_IV p l e R s m args below meth c H locs cells slots (F0 m pc ls (.int x4 :: .int x3 :: .ref r2 :: .int x1 :: .ref b :: rest)) rest y_Wr_part [.ref b, .int x1, .ref r2, .int x3, .int x4] 3 := fun T hT X => fx_invV (As := [.int x1, .ref r2, .int x3, .int x4]) (Cn := "ChainJudge$Writer") C X hw1 (fx_m4 (List.mem_of_getElem? (i := 79) rfl)) (fx_selW C (fx_m4 (List.mem_of_getElem? (i := 80) rfl))) hm_Wr_part ⟨by decide, by decide⟩ (by rw [hT]; exact fx_clsO (ci := 10) (r := ("ChainJudge$Writer", fx_T10, 2)) C F rfl (by decide) hk) rfl (n := 4) (by decide +kernel) rfl rfl hd
end
def dl_Iss_extension : List (Nat × Instr × Nat) := [(0, .aload_n 0, 1), (1, .getfield 10, 3), (4, .iconst 4, 1), (5, .iload_n 3, 1), (6, .invokevirtual 41, 3), (9, .iload_n 2, 1), (10, .ifCond .eq 29, 3), (13, .aload_n 0, 1), (14, .getfield 10, 3), (17, .sipush 255, 3), (20, .invokevirtual 34, 3), (23, .aload_n 0, 1), (24, .getfield 10, 3), (27, .iconst 1, 1), (28, .invokevirtual 34, 3), (31, .aload_n 0, 1), (32, .getfield 10, 3), (35, .iconst 1, 1), (36, .invokevirtual 34, 3), (39, .aload_n 0, 1), (40, .getfield 10, 3), (43, .bipush 6, 2), (45, .aload_n 1, 1), (46, .iconst 0, 1), (47, .aload_n 1, 1), (48, .arraylength, 1), (49, .invokevirtual 45, 3), (52, .aload_n 0, 1), (53, .getfield 10, 3), (56, .bipush 48, 2), (58, .iload_n 3, 1), (59, .invokevirtual 41, 3), (62, .return_, 1)]
theorem dk_Iss_extension : fx_dec prog_5_method_4_code dl_Iss_extension = true := by decide +kernel
theorem d_Iss_extension_0 : decode prog_5_method_4_code 0 = .ok (.aload_n 0, 1) := fx_dat dk_Iss_extension 0 rfl
theorem d_Iss_extension_1 : decode prog_5_method_4_code 1 = .ok (.getfield 10, 3) := fx_dat dk_Iss_extension 1 rfl
theorem d_Iss_extension_4 : decode prog_5_method_4_code 4 = .ok (.iconst 4, 1) := fx_dat dk_Iss_extension 2 rfl
theorem d_Iss_extension_5 : decode prog_5_method_4_code 5 = .ok (.iload_n 3, 1) := fx_dat dk_Iss_extension 3 rfl
theorem d_Iss_extension_6 : decode prog_5_method_4_code 6 = .ok (.invokevirtual 41, 3) := fx_dat dk_Iss_extension 4 rfl
theorem d_Iss_extension_9 : decode prog_5_method_4_code 9 = .ok (.iload_n 2, 1) := fx_dat dk_Iss_extension 5 rfl
theorem d_Iss_extension_10 : decode prog_5_method_4_code 10 = .ok (.ifCond .eq 29, 3) := fx_dat dk_Iss_extension 6 rfl
theorem d_Iss_extension_13 : decode prog_5_method_4_code 13 = .ok (.aload_n 0, 1) := fx_dat dk_Iss_extension 7 rfl
theorem d_Iss_extension_14 : decode prog_5_method_4_code 14 = .ok (.getfield 10, 3) := fx_dat dk_Iss_extension 8 rfl
theorem d_Iss_extension_17 : decode prog_5_method_4_code 17 = .ok (.sipush 255, 3) := fx_dat dk_Iss_extension 9 rfl
theorem d_Iss_extension_20 : decode prog_5_method_4_code 20 = .ok (.invokevirtual 34, 3) := fx_dat dk_Iss_extension 10 rfl
theorem d_Iss_extension_23 : decode prog_5_method_4_code 23 = .ok (.aload_n 0, 1) := fx_dat dk_Iss_extension 11 rfl
theorem d_Iss_extension_24 : decode prog_5_method_4_code 24 = .ok (.getfield 10, 3) := fx_dat dk_Iss_extension 12 rfl
theorem d_Iss_extension_27 : decode prog_5_method_4_code 27 = .ok (.iconst 1, 1) := fx_dat dk_Iss_extension 13 rfl
theorem d_Iss_extension_28 : decode prog_5_method_4_code 28 = .ok (.invokevirtual 34, 3) := fx_dat dk_Iss_extension 14 rfl
theorem d_Iss_extension_31 : decode prog_5_method_4_code 31 = .ok (.aload_n 0, 1) := fx_dat dk_Iss_extension 15 rfl
theorem d_Iss_extension_32 : decode prog_5_method_4_code 32 = .ok (.getfield 10, 3) := fx_dat dk_Iss_extension 16 rfl
theorem d_Iss_extension_35 : decode prog_5_method_4_code 35 = .ok (.iconst 1, 1) := fx_dat dk_Iss_extension 17 rfl
theorem d_Iss_extension_36 : decode prog_5_method_4_code 36 = .ok (.invokevirtual 34, 3) := fx_dat dk_Iss_extension 18 rfl
theorem d_Iss_extension_39 : decode prog_5_method_4_code 39 = .ok (.aload_n 0, 1) := fx_dat dk_Iss_extension 19 rfl
theorem d_Iss_extension_40 : decode prog_5_method_4_code 40 = .ok (.getfield 10, 3) := fx_dat dk_Iss_extension 20 rfl
theorem d_Iss_extension_43 : decode prog_5_method_4_code 43 = .ok (.bipush 6, 2) := fx_dat dk_Iss_extension 21 rfl
theorem d_Iss_extension_45 : decode prog_5_method_4_code 45 = .ok (.aload_n 1, 1) := fx_dat dk_Iss_extension 22 rfl
theorem d_Iss_extension_46 : decode prog_5_method_4_code 46 = .ok (.iconst 0, 1) := fx_dat dk_Iss_extension 23 rfl
theorem d_Iss_extension_47 : decode prog_5_method_4_code 47 = .ok (.aload_n 1, 1) := fx_dat dk_Iss_extension 24 rfl
theorem d_Iss_extension_48 : decode prog_5_method_4_code 48 = .ok (.arraylength, 1) := fx_dat dk_Iss_extension 25 rfl
theorem d_Iss_extension_49 : decode prog_5_method_4_code 49 = .ok (.invokevirtual 45, 3) := fx_dat dk_Iss_extension 26 rfl
theorem d_Iss_extension_52 : decode prog_5_method_4_code 52 = .ok (.aload_n 0, 1) := fx_dat dk_Iss_extension 27 rfl
theorem d_Iss_extension_53 : decode prog_5_method_4_code 53 = .ok (.getfield 10, 3) := fx_dat dk_Iss_extension 28 rfl
theorem d_Iss_extension_56 : decode prog_5_method_4_code 56 = .ok (.bipush 48, 2) := fx_dat dk_Iss_extension 29 rfl
theorem d_Iss_extension_58 : decode prog_5_method_4_code 58 = .ok (.iload_n 3, 1) := fx_dat dk_Iss_extension 30 rfl
theorem d_Iss_extension_59 : decode prog_5_method_4_code 59 = .ok (.invokevirtual 41, 3) := fx_dat dk_Iss_extension 31 rfl
theorem d_Iss_extension_62 : decode prog_5_method_4_code 62 = .ok (.return_, 1) := fx_dat dk_Iss_extension 32 rfl
def m_Iss_extension_39 (Q : AH → Prop) (r0 : Nat) (r1 : Nat) (x3 : Int32) (h : AH) : Prop := hp_k h r0 = 10 ∧ ∃ b1, hp_R h r0 0 = some b1 ∧ bk (hp_k h r1) ∧ hp_k h b1 = 11 ∧ m_Wr_part (fun h1 => fx_ext h h1 → ∃ b2, hp_R h1 r0 0 = some b2 ∧ hp_k h1 b2 = 11 ∧ m_Wr_wrap (fun h2 => fx_ext h1 h2 → Q h2) b2 (48 : Int32) x3 h1) b1 (6 : Int32) r1 (0 : Int32) (nI (hp_n h r1)) h
def m_Iss_extension (Q : AH → Prop) (r0 : Nat) (r1 : Nat) (x2 : Int32) (x3 : Int32) (h : AH) : Prop := hp_k h r0 = 10 ∧ ∃ b1, hp_R h r0 0 = some b1 ∧ hp_k h b1 = 11 ∧ m_Wr_wrap (fun h1 => fx_ext h h1 → (x2 = 0 → m_Iss_extension_39 Q r0 r1 x3 h1) ∧ (¬ x2 = 0 → ∃ b2, hp_R h1 r0 0 = some b2 ∧ hp_k h1 b2 = 11 ∧ m_Wr_one (fun h2 => fx_ext h1 h2 → ∃ b3, hp_R h2 r0 0 = some b3 ∧ hp_k h2 b3 = 11 ∧ m_Wr_one (fun h3 => fx_ext h2 h3 → ∃ b4, hp_R h3 r0 0 = some b4 ∧ hp_k h3 b4 = 11 ∧ m_Wr_one (fun h4 => fx_ext h3 h4 → m_Iss_extension_39 Q r0 r1 x3 h4) b4 (1 : Int32) h3) b3 (1 : Int32) h2) b2 (255 : Int32) h1)) b1 (4 : Int32) x3 h
theorem b_Iss_extension_39 {p : Program} {l : Launch} {e : Env} {R : Room} {s : State} {m : MethodId} {args : Array Value} {below : List Frame} {meth : Method} {c : Code} {D : DD} {h0 : AH} {Q : AH → Prop} (C : fx_CX D y_Iss_extension prog_5_method_4_code 4 5 80 (none) [] h0 p R s m meth c) (hl : l.flags = flags0) (r0 : Nat) (r1 : Nat) (x3 : Int32) (h : AH) (hw : m_Iss_extension_39 Q r0 r1 x3 h) : ∀ (ls : Array Slot) (H : Heap) (locs : List Loc) (cells slots : Nat), lv_has ls 4 [(0, .ref r0), (1, .ref r1), (3, .int x3)] → fx_F D h0 h H locs cells slots → W p l e R s m args below meth c H locs cells slots (fx_Z D below s h0 (fx_oV Q fx_no)) (F0 m 39 ls []) := by
  unfold m_Iss_extension_39 at hw
  intro ls H locs cells slots hv F
  refine lv_aload_n C.ex C.by d_Iss_extension_39 rfl (lv_at hv 0 rfl) ?_
  obtain ⟨hk1, hw⟩ := hw
  obtain ⟨b1, hb1, hw⟩ := hw
  refine fx_getR C F lf_Iss_10 hk1 rfl hb1 d_Iss_extension_40 ?_
  refine lv_bipush (v := (6 : Int32)) C.ex C.by d_Iss_extension_43 (by decide) ?_
  refine lv_aload_n C.ex C.by d_Iss_extension_45 rfl (lv_at hv 1 rfl) ?_
  refine lv_iconst (v := (0 : Int32)) C.ex C.by d_Iss_extension_46 (by decide) ?_
  refine lv_aload_n C.ex C.by d_Iss_extension_47 rfl (lv_at hv 1 rfl) ?_
  obtain ⟨hk2, hw⟩ := hw
  refine fx_alen C F hk2.gt d_Iss_extension_48 ?_
  obtain ⟨hk3, hw⟩ := hw
  refine fx_callV C F (c_Wr_part hl hw) hm_Wr_part hi_Wr_part hv.1 (by decide) (Nat.le_of_ble_eq_true rfl) (iv_Wr_part C F lm_Iss_45 hk3 d_Iss_extension_49) (fx_out0 _) fx_eno (fun h1 H locs cells slots hw hx1 F => ?_)
  replace hw := hw hx1
  have hk3 := (hx1).k hk3
  have hk1 := (hx1).k hk1
  have hk2 := (hx1).gb hk2
  refine lv_aload_n C.ex C.by d_Iss_extension_52 rfl (lv_at hv 0 rfl) ?_
  obtain ⟨b2, hb2, hw⟩ := hw
  refine fx_getR C F lf_Iss_10 hk1 rfl hb2 d_Iss_extension_53 ?_
  refine lv_bipush (v := (48 : Int32)) C.ex C.by d_Iss_extension_56 (by decide) ?_
  refine lv_iload_n C.ex C.by d_Iss_extension_58 rfl (lv_at hv 2 rfl) ?_
  obtain ⟨hk4, hw⟩ := hw
  refine fx_callV C F (c_Wr_wrap hl hw) hm_Wr_wrap hi_Wr_wrap hv.1 (by decide) (Nat.le_of_ble_eq_true rfl) (iv_Wr_wrap C F lm_Iss_41 hk4 d_Iss_extension_59) (fx_out0 _) fx_eno (fun h2 H locs cells slots hw hx2 F => ?_)
  replace hw := hw hx2
  have hk3 := (hx2).k hk3
  have hk4 := (hx2).k hk4
  have hk1 := (hx2).k hk1
  have hk2 := (hx2).gb hk2
  exact fx_vret C F d_Iss_extension_62 (Or.inl ⟨rfl, hw⟩)
theorem b_Iss_extension_0 {p : Program} {l : Launch} {e : Env} {R : Room} {s : State} {m : MethodId} {args : Array Value} {below : List Frame} {meth : Method} {c : Code} {D : DD} {h0 : AH} {Q : AH → Prop} (C : fx_CX D y_Iss_extension prog_5_method_4_code 4 5 80 (none) [] h0 p R s m meth c) (hl : l.flags = flags0) (r0 : Nat) (r1 : Nat) (x2 : Int32) (x3 : Int32) (h : AH) (hw : m_Iss_extension Q r0 r1 x2 x3 h) : ∀ (ls : Array Slot) (H : Heap) (locs : List Loc) (cells slots : Nat), lv_has ls 4 [(0, .ref r0), (1, .ref r1), (2, .int x2), (3, .int x3)] → fx_F D h0 h H locs cells slots → W p l e R s m args below meth c H locs cells slots (fx_Z D below s h0 (fx_oV Q fx_no)) (F0 m 0 ls []) := by
  unfold m_Iss_extension at hw
  intro ls H locs cells slots hv F
  refine lv_aload_n C.ex C.by d_Iss_extension_0 rfl (lv_at hv 0 rfl) ?_
  obtain ⟨hk1, hw⟩ := hw
  obtain ⟨b1, hb1, hw⟩ := hw
  refine fx_getR C F lf_Iss_10 hk1 rfl hb1 d_Iss_extension_1 ?_
  refine lv_iconst (v := (4 : Int32)) C.ex C.by d_Iss_extension_4 (by decide) ?_
  refine lv_iload_n C.ex C.by d_Iss_extension_5 rfl (lv_at hv 3 rfl) ?_
  obtain ⟨hk2, hw⟩ := hw
  refine fx_callV C F (c_Wr_wrap hl hw) hm_Wr_wrap hi_Wr_wrap hv.1 (by decide) (Nat.le_of_ble_eq_true rfl) (iv_Wr_wrap C F lm_Iss_41 hk2 d_Iss_extension_6) (fx_out0 _) fx_eno (fun h1 H locs cells slots hw hx1 F => ?_)
  replace hw := hw hx1
  have hk2 := (hx1).k hk2
  have hk1 := (hx1).k hk1
  refine lv_iload_n C.ex C.by d_Iss_extension_9 rfl (lv_at hv 2 rfl) ?_
  refine lv_if_eq C.ex C.by d_Iss_extension_10 rfl (fun hc => ?_) (fun hc => ?_)
  · replace hw := hw.1 hc
    exact b_Iss_extension_39 C hl _ _ _ _ hw _ _ _ _ _ (lv_sub hv [0, 1, 3] rfl) F
  · replace hw := hw.2 hc
    refine lv_aload_n C.ex C.by d_Iss_extension_13 rfl (lv_at hv 0 rfl) ?_
    obtain ⟨b2, hb2, hw⟩ := hw
    refine fx_getR C F lf_Iss_10 hk1 rfl hb2 d_Iss_extension_14 ?_
    refine lv_sipush (v := (255 : Int32)) C.ex C.by d_Iss_extension_17 (by decide) ?_
    obtain ⟨hk3, hw⟩ := hw
    refine fx_callV C F (c_Wr_one hl hw) hm_Wr_one hi_Wr_one hv.1 (by decide) (Nat.le_of_ble_eq_true rfl) (iv_Wr_one C F lm_Iss_34 hk3 d_Iss_extension_20) (fx_out0 _) fx_eno (fun h2 H locs cells slots hw hx2 F => ?_)
    replace hw := hw hx2
    have hk2 := (hx2).k hk2
    have hk3 := (hx2).k hk3
    have hk1 := (hx2).k hk1
    refine lv_aload_n C.ex C.by d_Iss_extension_23 rfl (lv_at hv 0 rfl) ?_
    obtain ⟨b3, hb3, hw⟩ := hw
    refine fx_getR C F lf_Iss_10 hk1 rfl hb3 d_Iss_extension_24 ?_
    refine lv_iconst (v := (1 : Int32)) C.ex C.by d_Iss_extension_27 (by decide) ?_
    obtain ⟨hk4, hw⟩ := hw
    refine fx_callV C F (c_Wr_one hl hw) hm_Wr_one hi_Wr_one hv.1 (by decide) (Nat.le_of_ble_eq_true rfl) (iv_Wr_one C F lm_Iss_34 hk4 d_Iss_extension_28) (fx_out0 _) fx_eno (fun h3 H locs cells slots hw hx3 F => ?_)
    replace hw := hw hx3
    have hk2 := (hx3).k hk2
    have hk3 := (hx3).k hk3
    have hk4 := (hx3).k hk4
    have hk1 := (hx3).k hk1
    refine lv_aload_n C.ex C.by d_Iss_extension_31 rfl (lv_at hv 0 rfl) ?_
    obtain ⟨b4, hb4, hw⟩ := hw
    refine fx_getR C F lf_Iss_10 hk1 rfl hb4 d_Iss_extension_32 ?_
    refine lv_iconst (v := (1 : Int32)) C.ex C.by d_Iss_extension_35 (by decide) ?_
    obtain ⟨hk5, hw⟩ := hw
    refine fx_callV C F (c_Wr_one hl hw) hm_Wr_one hi_Wr_one hv.1 (by decide) (Nat.le_of_ble_eq_true rfl) (iv_Wr_one C F lm_Iss_34 hk5 d_Iss_extension_36) (fx_out0 _) fx_eno (fun h4 H locs cells slots hw hx4 F => ?_)
    replace hw := hw hx4
    have hk2 := (hx4).k hk2
    have hk3 := (hx4).k hk3
    have hk4 := (hx4).k hk4
    have hk5 := (hx4).k hk5
    have hk1 := (hx4).k hk1
    exact b_Iss_extension_39 C hl _ _ _ _ hw _ _ _ _ _ (lv_sub hv [0, 1, 3] rfl) F
theorem hm_Iss_extension : fx_hd y_Iss_extension prog_5_method_4_code 4 (none) [] ∈ tables_1 := (fx_m4 (List.mem_of_getElem? (i := 72) rfl))
theorem hi_Iss_extension : Cond.initialized y_Iss_extension.cls ∈ tables_1 := (fx_m1 (List.mem_of_getElem? (i := 13) rfl))
theorem c_Iss_extension {l : Launch} (hl : l.flags = flags0) {D : DD} {Q : AH → Prop} {r0 : Nat} {r1 : Nat} {x2 : Int32} {x3 : Int32} {h : AH} (hw : m_Iss_extension Q r0 r1 x2 x3 h) : fx_Mt l D y_Iss_extension (fx_hd y_Iss_extension prog_5_method_4_code 4 (none) []) 5 80 [.ref r0, .ref r1, .int x2, .int x3] h (fx_oV Q fx_no) := by
  refine fx_ofW (plainFor_of_name (by decide)) (fun p e s m below meth c C F => ?_)
  have hv := lv_entry ([.ref r0, .ref r1, .int x2, .int x3]) (n := 4) (Nat.le_of_ble_eq_true rfl)
  rw [lg_entry_eq]
  generalize (lg_sl ([.ref r0, .ref r1, .int x2, .int x3]) ++ List.replicate (4 - (lg_sl ([.ref r0, .ref r1, .int x2, .int x3])).length) Slot.unset).toArray = ls at hv ⊢
  have hv : lv_has ls 4 [(0, .ref r0), (1, .ref r1), (2, .int x2), (3, .int x3)] := hv
  exact b_Iss_extension_0 C hl _ _ _ _ _ hw _ _ _ _ _ hv F
/-! ChainJudge$Issuer.hosts([BII)V: frames 6, words 95 -/
abbrev y_Iss_hosts : MethodName := ⟨"ChainJudge$Issuer", "hosts", "([BII)V"⟩
theorem ls_Iss_49 : fx_Ls "ChainJudge$Issuer" 49 5 := ⟨_, rfl, Or.inr ⟨_, (fx_m4 (List.mem_of_getElem? (i := 94) rfl))⟩⟩
theorem lm_Iss_30 : Cond.methodLink "ChainJudge$Issuer" 30 y_Wr_size ∈ tables_1 ∨ ∃ host, Cond.methodLinkNest "ChainJudge$Issuer" 30 y_Wr_size host ∈ tables_1 := Or.inl (fx_m4 (List.mem_of_getElem? (i := 53) rfl))
theorem lm_Iss_52 : Cond.methodLink "ChainJudge$Issuer" 52 y_Iss_extension ∈ tables_1 ∨ ∃ host, Cond.methodLinkNest "ChainJudge$Issuer" 52 y_Iss_extension host ∈ tables_1 := Or.inl (fx_m4 (List.mem_of_getElem? (i := 69) rfl))
section
variable {p : Program} {l : Launch} {e : Env} {R : Room} {s : State} {m : MethodId} {args : Array Value} {below : List Frame} {meth : Method} {c : Code} {H : Heap} {locs : List Loc} {cells slots : Nat}
variable {D : DD} {y : MethodName} {cc : ByteArray} {nL kf kw : Nat} {ret : Option FieldType} {hh : List (Nat × Nat × Nat × Nat)} {h0 h : AH} {pc : Nat} {ls : Array Slot} {rest : List Value} {b idx : Nat}
theorem iv_Iss_extension {r1 : Nat} {x2 : Int32} {x3 : Int32} (C : fx_CX D y cc nL kf kw ret hh h0 p R s m meth c) (F : fx_F D h0 h H locs cells slots) (hw1 : Cond.methodLink y.cls idx y_Iss_extension ∈ tables_1 ∨ ∃ host, Cond.methodLinkNest y.cls idx y_Iss_extension host ∈ tables_1) (hk : hp_k h b = 10) (hd : decode cc pc = .ok (.invokevirtual idx, 3)) : fx_IV p l e R s m args below meth c H locs cells slots (F0 m pc ls (.int x3 :: .int x2 :: .ref r1 :: .ref b :: rest)) rest y_Iss_extension [.ref b, .ref r1, .int x2, .int x3] 3 := fun T hT X => fx_invV (As := [.ref r1, .int x2, .int x3]) (Cn := "ChainJudge$Issuer") C X hw1 (fx_m4 (List.mem_of_getElem? (i := 71) rfl)) (fx_selP C ⟨by decide, by decide⟩ (fx_m2 (List.mem_of_getElem? (i := 85) rfl)) (fx_m4 (List.mem_of_getElem? (i := 70) rfl)) (fx_m4 (List.mem_of_getElem? (i := 71) rfl))) hm_Iss_extension ⟨by decide, by decide⟩ (by rw [hT]; exact fx_clsO (ci := 9) (r := ("ChainJudge$Issuer", fx_T9, 2)) C F rfl (by decide) hk) rfl (n := 3) (by decide +kernel) rfl rfl hd
end
def dl_Iss_hosts : List (Nat × Instr × Nat) := [(0, .aload_n 0, 1), (1, .getfield 10, 3), (4, .invokevirtual 30, 3), (7, .istore 4, 2), (9, .iload_n 3, 1), (10, .istore 5, 2), (12, .iload 5, 2), (14, .iload_n 2, 1), (15, .if_icmp .le 51, 3), (18, .iload 5, 2), (20, .istore 6, 2), (22, .aload_n 1, 1), (23, .iload 6, 2), (25, .iconst 1, 1), (26, .isub, 1), (27, .baload, 1), (28, .bipush 44, 2), (30, .if_icmp .eq 9, 3), (33, .iinc 6 (-1), 3), (36, .goto (-14), 3), (39, .aload_n 0, 1), (40, .getfield 10, 3), (43, .sipush 130, 3), (46, .aload_n 1, 1), (47, .iload 6, 2), (49, .iload 5, 2), (51, .iload 6, 2), (53, .isub, 1), (54, .invokevirtual 45, 3), (57, .iload 6, 2), (59, .iconst 1, 1), (60, .isub, 1), (61, .istore 5, 2), (63, .goto (-51), 3), (66, .aload_n 0, 1), (67, .getfield 10, 3), (70, .bipush 48, 2), (72, .iload 4, 2), (74, .invokevirtual 41, 3), (77, .aload_n 0, 1), (78, .getstatic 49, 3), (81, .iconst 0, 1), (82, .iload 4, 2), (84, .invokevirtual 52, 3), (87, .return_, 1)]
theorem dk_Iss_hosts : fx_dec prog_5_method_5_code dl_Iss_hosts = true := by decide +kernel
theorem d_Iss_hosts_0 : decode prog_5_method_5_code 0 = .ok (.aload_n 0, 1) := fx_dat dk_Iss_hosts 0 rfl
theorem d_Iss_hosts_1 : decode prog_5_method_5_code 1 = .ok (.getfield 10, 3) := fx_dat dk_Iss_hosts 1 rfl
theorem d_Iss_hosts_4 : decode prog_5_method_5_code 4 = .ok (.invokevirtual 30, 3) := fx_dat dk_Iss_hosts 2 rfl
theorem d_Iss_hosts_7 : decode prog_5_method_5_code 7 = .ok (.istore 4, 2) := fx_dat dk_Iss_hosts 3 rfl
theorem d_Iss_hosts_9 : decode prog_5_method_5_code 9 = .ok (.iload_n 3, 1) := fx_dat dk_Iss_hosts 4 rfl
theorem d_Iss_hosts_10 : decode prog_5_method_5_code 10 = .ok (.istore 5, 2) := fx_dat dk_Iss_hosts 5 rfl
theorem d_Iss_hosts_12 : decode prog_5_method_5_code 12 = .ok (.iload 5, 2) := fx_dat dk_Iss_hosts 6 rfl
theorem d_Iss_hosts_14 : decode prog_5_method_5_code 14 = .ok (.iload_n 2, 1) := fx_dat dk_Iss_hosts 7 rfl
theorem d_Iss_hosts_15 : decode prog_5_method_5_code 15 = .ok (.if_icmp .le 51, 3) := fx_dat dk_Iss_hosts 8 rfl
theorem d_Iss_hosts_18 : decode prog_5_method_5_code 18 = .ok (.iload 5, 2) := fx_dat dk_Iss_hosts 9 rfl
theorem d_Iss_hosts_20 : decode prog_5_method_5_code 20 = .ok (.istore 6, 2) := fx_dat dk_Iss_hosts 10 rfl
theorem d_Iss_hosts_22 : decode prog_5_method_5_code 22 = .ok (.aload_n 1, 1) := fx_dat dk_Iss_hosts 11 rfl
theorem d_Iss_hosts_23 : decode prog_5_method_5_code 23 = .ok (.iload 6, 2) := fx_dat dk_Iss_hosts 12 rfl
theorem d_Iss_hosts_25 : decode prog_5_method_5_code 25 = .ok (.iconst 1, 1) := fx_dat dk_Iss_hosts 13 rfl
theorem d_Iss_hosts_26 : decode prog_5_method_5_code 26 = .ok (.isub, 1) := fx_dat dk_Iss_hosts 14 rfl
theorem d_Iss_hosts_27 : decode prog_5_method_5_code 27 = .ok (.baload, 1) := fx_dat dk_Iss_hosts 15 rfl
theorem d_Iss_hosts_28 : decode prog_5_method_5_code 28 = .ok (.bipush 44, 2) := fx_dat dk_Iss_hosts 16 rfl
theorem d_Iss_hosts_30 : decode prog_5_method_5_code 30 = .ok (.if_icmp .eq 9, 3) := fx_dat dk_Iss_hosts 17 rfl
theorem d_Iss_hosts_33 : decode prog_5_method_5_code 33 = .ok (.iinc 6 (-1), 3) := fx_dat dk_Iss_hosts 18 rfl
theorem d_Iss_hosts_36 : decode prog_5_method_5_code 36 = .ok (.goto (-14), 3) := fx_dat dk_Iss_hosts 19 rfl
theorem d_Iss_hosts_39 : decode prog_5_method_5_code 39 = .ok (.aload_n 0, 1) := fx_dat dk_Iss_hosts 20 rfl
theorem d_Iss_hosts_40 : decode prog_5_method_5_code 40 = .ok (.getfield 10, 3) := fx_dat dk_Iss_hosts 21 rfl
theorem d_Iss_hosts_43 : decode prog_5_method_5_code 43 = .ok (.sipush 130, 3) := fx_dat dk_Iss_hosts 22 rfl
theorem d_Iss_hosts_46 : decode prog_5_method_5_code 46 = .ok (.aload_n 1, 1) := fx_dat dk_Iss_hosts 23 rfl
theorem d_Iss_hosts_47 : decode prog_5_method_5_code 47 = .ok (.iload 6, 2) := fx_dat dk_Iss_hosts 24 rfl
theorem d_Iss_hosts_49 : decode prog_5_method_5_code 49 = .ok (.iload 5, 2) := fx_dat dk_Iss_hosts 25 rfl
theorem d_Iss_hosts_51 : decode prog_5_method_5_code 51 = .ok (.iload 6, 2) := fx_dat dk_Iss_hosts 26 rfl
theorem d_Iss_hosts_53 : decode prog_5_method_5_code 53 = .ok (.isub, 1) := fx_dat dk_Iss_hosts 27 rfl
theorem d_Iss_hosts_54 : decode prog_5_method_5_code 54 = .ok (.invokevirtual 45, 3) := fx_dat dk_Iss_hosts 28 rfl
theorem d_Iss_hosts_57 : decode prog_5_method_5_code 57 = .ok (.iload 6, 2) := fx_dat dk_Iss_hosts 29 rfl
theorem d_Iss_hosts_59 : decode prog_5_method_5_code 59 = .ok (.iconst 1, 1) := fx_dat dk_Iss_hosts 30 rfl
theorem d_Iss_hosts_60 : decode prog_5_method_5_code 60 = .ok (.isub, 1) := fx_dat dk_Iss_hosts 31 rfl
theorem d_Iss_hosts_61 : decode prog_5_method_5_code 61 = .ok (.istore 5, 2) := fx_dat dk_Iss_hosts 32 rfl
theorem d_Iss_hosts_63 : decode prog_5_method_5_code 63 = .ok (.goto (-51), 3) := fx_dat dk_Iss_hosts 33 rfl
theorem d_Iss_hosts_66 : decode prog_5_method_5_code 66 = .ok (.aload_n 0, 1) := fx_dat dk_Iss_hosts 34 rfl
theorem d_Iss_hosts_67 : decode prog_5_method_5_code 67 = .ok (.getfield 10, 3) := fx_dat dk_Iss_hosts 35 rfl
theorem d_Iss_hosts_70 : decode prog_5_method_5_code 70 = .ok (.bipush 48, 2) := fx_dat dk_Iss_hosts 36 rfl
theorem d_Iss_hosts_72 : decode prog_5_method_5_code 72 = .ok (.iload 4, 2) := fx_dat dk_Iss_hosts 37 rfl
theorem d_Iss_hosts_74 : decode prog_5_method_5_code 74 = .ok (.invokevirtual 41, 3) := fx_dat dk_Iss_hosts 38 rfl
theorem d_Iss_hosts_77 : decode prog_5_method_5_code 77 = .ok (.aload_n 0, 1) := fx_dat dk_Iss_hosts 39 rfl
theorem d_Iss_hosts_78 : decode prog_5_method_5_code 78 = .ok (.getstatic 49, 3) := fx_dat dk_Iss_hosts 40 rfl
theorem d_Iss_hosts_81 : decode prog_5_method_5_code 81 = .ok (.iconst 0, 1) := fx_dat dk_Iss_hosts 41 rfl
theorem d_Iss_hosts_82 : decode prog_5_method_5_code 82 = .ok (.iload 4, 2) := fx_dat dk_Iss_hosts 42 rfl
theorem d_Iss_hosts_84 : decode prog_5_method_5_code 84 = .ok (.invokevirtual 52, 3) := fx_dat dk_Iss_hosts 43 rfl
theorem d_Iss_hosts_87 : decode prog_5_method_5_code 87 = .ok (.return_, 1) := fx_dat dk_Iss_hosts 44 rfl
def m_Iss_hosts_22_b (Q : AH → Prop) (X12 : Int32 × AH → Prop) (X22 : Int32 × AH → Prop) (r0 : Nat) (r1 : Nat) (x2 : Int32) (x4 : Int32) (x5 : Int32) (x6 : Int32) (h : AH) : Prop := bk (hp_k h r1) ∧ vp_in (x6 - (1 : Int32)) (hp_n h r1) ∧ (by8 (hp_I h r1 ((x6 - (1 : Int32))).toNatClampNeg) → ((hp_I h r1 ((x6 - (1 : Int32))).toNatClampNeg) = (44 : Int32) → hp_k h r0 = 10 ∧ ∃ b1, hp_R h r0 0 = some b1 ∧ hp_k h b1 = 11 ∧ m_Wr_part (fun h1 => fx_ext h h1 → ∀ v1 : Int32, v1 = (x6 - (1 : Int32)) → X12 (v1, h1)) b1 (130 : Int32) r1 x6 (x5 - x6) h) ∧ (¬ (hp_I h r1 ((x6 - (1 : Int32))).toNatClampNeg) = (44 : Int32) → ∀ v2 : Int32, v2 = (x6 + (-1 : Int32)) → X22 (v2, h)))
def m_Iss_hosts_22 (Q : AH → Prop) (X12 : Int32 × AH → Prop) (r0 : Nat) (r1 : Nat) (x2 : Int32) (x4 : Int32) (x5 : Int32) (x6 : Int32) (h : AH) : Prop := fx_loop (fun (X22 : Int32 × AH → Prop) (st : Int32 × AH) => m_Iss_hosts_22_b Q X12 X22 r0 r1 x2 x4 x5 st.1 st.2) (x6, h)
def m_Iss_hosts_12_b (Q : AH → Prop) (X12 : Int32 × AH → Prop) (r0 : Nat) (r1 : Nat) (x2 : Int32) (x4 : Int32) (x5 : Int32) (h : AH) : Prop := (x5 ≤ x2 → hp_k h r0 = 10 ∧ ∃ b1, hp_R h r0 0 = some b1 ∧ hp_k h b1 = 11 ∧ m_Wr_wrap (fun h1 => fx_ext h h1 → m_Iss_extension (fun h2 => fx_ext h1 h2 → Q h2) r0 (hp_c h1 5) (0 : Int32) x4 h1) b1 (48 : Int32) x4 h) ∧ (¬ x5 ≤ x2 → m_Iss_hosts_22 Q X12 r0 r1 x2 x4 x5 x5 h)
def m_Iss_hosts_12 (Q : AH → Prop) (r0 : Nat) (r1 : Nat) (x2 : Int32) (x4 : Int32) (x5 : Int32) (h : AH) : Prop := fx_loop (fun (X12 : Int32 × AH → Prop) (st : Int32 × AH) => m_Iss_hosts_12_b Q X12 r0 r1 x2 x4 st.1 st.2) (x5, h)
def m_Iss_hosts (Q : AH → Prop) (r0 : Nat) (r1 : Nat) (x2 : Int32) (x3 : Int32) (h : AH) : Prop := hp_k h r0 = 10 ∧ ∃ b1, hp_R h r0 0 = some b1 ∧ hp_k h b1 = 11 ∧ m_Wr_size (fun v1 h1 => fx_ext h h1 → m_Iss_hosts_12 Q r0 r1 x2 v1 x3 h1) b1 h
theorem b_Iss_hosts_22 {p : Program} {l : Launch} {e : Env} {R : Room} {s : State} {m : MethodId} {args : Array Value} {below : List Frame} {meth : Method} {c : Code} {D : DD} {h0 : AH} {Q : AH → Prop} {X12 : Int32 × AH → Prop} (C : fx_CX D y_Iss_hosts prog_5_method_5_code 7 6 95 (none) [] h0 p R s m meth c) (hl : l.flags = flags0) (r0 : Nat) (r1 : Nat) (x2 : Int32) (x4 : Int32) (x5 : Int32) (x6 : Int32) (h : AH) (hX12 : ∀ st, X12 st → ∀ (ls : Array Slot) (H : Heap) (locs : List Loc) (cells slots : Nat), lv_has ls 7 [(0, .ref r0), (1, .ref r1), (2, .int x2), (4, .int x4), (5, .int st.1)] → fx_F D h0 st.2 H locs cells slots → W p l e R s m args below meth c H locs cells slots (fx_Z D below s h0 (fx_oV Q fx_no)) (F0 m 12 ls [])) (hw : m_Iss_hosts_22 Q X12 r0 r1 x2 x4 x5 x6 h) : ∀ (ls : Array Slot) (H : Heap) (locs : List Loc) (cells slots : Nat), lv_has ls 7 [(0, .ref r0), (1, .ref r1), (2, .int x2), (4, .int x4), (5, .int x5), (6, .int x6)] → fx_F D h0 h H locs cells slots → W p l e R s m args below meth c H locs cells slots (fx_Z D below s h0 (fx_oV Q fx_no)) (F0 m 22 ls []) := by
  refine fx_loop.use hw (fun st => ∀ (ls : Array Slot) (H : Heap) (locs : List Loc) (cells slots : Nat), lv_has ls 7 [(0, .ref r0), (1, .ref r1), (2, .int x2), (4, .int x4), (5, .int x5), (6, .int st.1)] → fx_F D h0 st.2 H locs cells slots → W p l e R s m args below meth c H locs cells slots (fx_Z D below s h0 (fx_oV Q fx_no)) (F0 m 22 ls [])) (fun X22 st hX22 hw => ?_)
  obtain ⟨x6, h⟩ := st
  replace hw : m_Iss_hosts_22_b Q X12 X22 r0 r1 x2 x4 x5 x6 h := hw
  unfold m_Iss_hosts_22_b at hw
  intro ls H locs cells slots hv F
  refine lv_aload_n C.ex C.by d_Iss_hosts_22 rfl (lv_at hv 1 rfl) ?_
  refine lv_iload C.ex C.by d_Iss_hosts_23 (lv_at hv 5 rfl) ?_
  refine lv_iconst (v := (1 : Int32)) C.ex C.by d_Iss_hosts_25 (by decide) ?_
  refine lv_isub C.ex C.by d_Iss_hosts_26 ?_
  obtain ⟨hk1, hw⟩ := hw
  obtain ⟨hi1, hw⟩ := hw
  refine fx_bald C F hk1 hi1 d_Iss_hosts_27 (fun h8 => ?_)
  replace hw := hw h8
  refine lv_bipush (v := (44 : Int32)) C.ex C.by d_Iss_hosts_28 (by decide) ?_
  refine lv_icmp_eq C.ex C.by d_Iss_hosts_30 rfl (fun hc => ?_) (fun hc => ?_)
  · replace hw := hw.1 hc
    refine lv_aload_n C.ex C.by d_Iss_hosts_39 rfl (lv_at hv 0 rfl) ?_
    obtain ⟨hk2, hw⟩ := hw
    obtain ⟨b1, hb1, hw⟩ := hw
    refine fx_getR C F lf_Iss_10 hk2 rfl hb1 d_Iss_hosts_40 ?_
    refine lv_sipush (v := (130 : Int32)) C.ex C.by d_Iss_hosts_43 (by decide) ?_
    refine lv_aload_n C.ex C.by d_Iss_hosts_46 rfl (lv_at hv 1 rfl) ?_
    refine lv_iload C.ex C.by d_Iss_hosts_47 (lv_at hv 5 rfl) ?_
    refine lv_iload C.ex C.by d_Iss_hosts_49 (lv_at hv 4 rfl) ?_
    refine lv_iload C.ex C.by d_Iss_hosts_51 (lv_at hv 5 rfl) ?_
    refine lv_isub C.ex C.by d_Iss_hosts_53 ?_
    obtain ⟨hk3, hw⟩ := hw
    refine fx_callV C F (c_Wr_part hl hw) hm_Wr_part hi_Wr_part hv.1 (by decide) (Nat.le_of_ble_eq_true rfl) (iv_Wr_part C F lm_Iss_45 hk3 d_Iss_hosts_54) (fx_out0 _) fx_eno (fun h1 H locs cells slots hw hx1 F => ?_)
    replace hw := hw hx1
    have hk3 := (hx1).k hk3
    have hk2 := (hx1).k hk2
    have hk1 := (hx1).gb hk1
    refine lv_iload C.ex C.by d_Iss_hosts_57 (lv_at hv 5 rfl) ?_
    refine lv_iconst (v := (1 : Int32)) C.ex C.by d_Iss_hosts_59 (by decide) ?_
    refine lv_isub C.ex C.by d_Iss_hosts_60 ?_
    let v1 : Int32 := (x6 - (1 : Int32))
    replace hw := hw v1 rfl
    refine lv_istore (lv' := [(5, .int v1), (0, .ref r0), (1, .ref r1), (2, .int x2), (4, .int x4), (6, .int x6)]) C.ex C.by d_Iss_hosts_61 hv (by decide) rfl (fun ls hv => ?_)
    refine lv_goto C.ex C.by d_Iss_hosts_63 rfl ?_
    exact hX12 _ hw _ _ _ _ _ (lv_sub hv [1, 2, 3, 4, 0] rfl) F
  · replace hw := hw.2 hc
    let v2 : Int32 := (x6 + (-1 : Int32))
    replace hw := hw v2 rfl
    refine lv_iinc (v := v2) (k := 5) (lv' := [(6, .int v2), (0, .ref r0), (1, .ref r1), (2, .int x2), (4, .int x4), (5, .int x5)]) C.ex C.by d_Iss_hosts_33 hv rfl (congrArg (fun z => x6 + z) (by decide)) (by decide) rfl (fun ls hv => ?_)
    refine lv_goto C.ex C.by d_Iss_hosts_36 rfl ?_
    exact hX22 _ hw _ _ _ _ _ (lv_sub hv [1, 2, 3, 4, 5, 0] rfl) F
theorem b_Iss_hosts_12 {p : Program} {l : Launch} {e : Env} {R : Room} {s : State} {m : MethodId} {args : Array Value} {below : List Frame} {meth : Method} {c : Code} {D : DD} {h0 : AH} {Q : AH → Prop} (C : fx_CX D y_Iss_hosts prog_5_method_5_code 7 6 95 (none) [] h0 p R s m meth c) (hl : l.flags = flags0) (r0 : Nat) (r1 : Nat) (x2 : Int32) (x4 : Int32) (x5 : Int32) (h : AH) (hw : m_Iss_hosts_12 Q r0 r1 x2 x4 x5 h) : ∀ (ls : Array Slot) (H : Heap) (locs : List Loc) (cells slots : Nat), lv_has ls 7 [(0, .ref r0), (1, .ref r1), (2, .int x2), (4, .int x4), (5, .int x5)] → fx_F D h0 h H locs cells slots → W p l e R s m args below meth c H locs cells slots (fx_Z D below s h0 (fx_oV Q fx_no)) (F0 m 12 ls []) := by
  refine fx_loop.use hw (fun st => ∀ (ls : Array Slot) (H : Heap) (locs : List Loc) (cells slots : Nat), lv_has ls 7 [(0, .ref r0), (1, .ref r1), (2, .int x2), (4, .int x4), (5, .int st.1)] → fx_F D h0 st.2 H locs cells slots → W p l e R s m args below meth c H locs cells slots (fx_Z D below s h0 (fx_oV Q fx_no)) (F0 m 12 ls [])) (fun X12 st hX12 hw => ?_)
  obtain ⟨x5, h⟩ := st
  replace hw : m_Iss_hosts_12_b Q X12 r0 r1 x2 x4 x5 h := hw
  unfold m_Iss_hosts_12_b at hw
  intro ls H locs cells slots hv F
  refine lv_iload C.ex C.by d_Iss_hosts_12 (lv_at hv 4 rfl) ?_
  refine lv_iload_n C.ex C.by d_Iss_hosts_14 rfl (lv_at hv 2 rfl) ?_
  refine lv_icmp_le C.ex C.by d_Iss_hosts_15 rfl (fun hc => ?_) (fun hc => ?_)
  · replace hw := hw.1 hc
    refine lv_aload_n C.ex C.by d_Iss_hosts_66 rfl (lv_at hv 0 rfl) ?_
    obtain ⟨hk1, hw⟩ := hw
    obtain ⟨b1, hb1, hw⟩ := hw
    refine fx_getR C F lf_Iss_10 hk1 rfl hb1 d_Iss_hosts_67 ?_
    refine lv_bipush (v := (48 : Int32)) C.ex C.by d_Iss_hosts_70 (by decide) ?_
    refine lv_iload C.ex C.by d_Iss_hosts_72 (lv_at hv 3 rfl) ?_
    obtain ⟨hk2, hw⟩ := hw
    refine fx_callV C F (c_Wr_wrap hl hw) hm_Wr_wrap hi_Wr_wrap hv.1 (by decide) (Nat.le_of_ble_eq_true rfl) (iv_Wr_wrap C F lm_Iss_41 hk2 d_Iss_hosts_74) (fx_out0 _) fx_eno (fun h1 H locs cells slots hw hx1 F => ?_)
    replace hw := hw hx1
    have hk2 := (hx1).k hk2
    have hk1 := (hx1).k hk1
    refine lv_aload_n C.ex C.by d_Iss_hosts_77 rfl (lv_at hv 0 rfl) ?_
    refine fx_gets C F ls_Iss_49 d_Iss_hosts_78 ?_
    refine lv_iconst (v := (0 : Int32)) C.ex C.by d_Iss_hosts_81 (by decide) ?_
    refine lv_iload C.ex C.by d_Iss_hosts_82 (lv_at hv 3 rfl) ?_
    refine fx_callV C F (c_Iss_extension hl hw) hm_Iss_extension hi_Iss_extension hv.1 (by decide) (Nat.le_of_ble_eq_true rfl) (iv_Iss_extension C F lm_Iss_52 hk1 d_Iss_hosts_84) (fx_out0 _) fx_eno (fun h2 H locs cells slots hw hx2 F => ?_)
    replace hw := hw hx2
    have hk2 := (hx2).k hk2
    have hk1 := (hx2).k hk1
    exact fx_vret C F d_Iss_hosts_87 (Or.inl ⟨rfl, hw⟩)
  · replace hw := hw.2 hc
    refine lv_iload C.ex C.by d_Iss_hosts_18 (lv_at hv 4 rfl) ?_
    refine lv_istore (lv' := [(6, .int x5), (0, .ref r0), (1, .ref r1), (2, .int x2), (4, .int x4), (5, .int x5)]) C.ex C.by d_Iss_hosts_20 hv (by decide) rfl (fun ls hv => ?_)
    exact b_Iss_hosts_22 C hl _ _ _ _ _ _ _ hX12 hw _ _ _ _ _ (lv_sub hv [1, 2, 3, 4, 5, 0] rfl) F
theorem b_Iss_hosts_0 {p : Program} {l : Launch} {e : Env} {R : Room} {s : State} {m : MethodId} {args : Array Value} {below : List Frame} {meth : Method} {c : Code} {D : DD} {h0 : AH} {Q : AH → Prop} (C : fx_CX D y_Iss_hosts prog_5_method_5_code 7 6 95 (none) [] h0 p R s m meth c) (hl : l.flags = flags0) (r0 : Nat) (r1 : Nat) (x2 : Int32) (x3 : Int32) (h : AH) (hw : m_Iss_hosts Q r0 r1 x2 x3 h) : ∀ (ls : Array Slot) (H : Heap) (locs : List Loc) (cells slots : Nat), lv_has ls 7 [(0, .ref r0), (1, .ref r1), (2, .int x2), (3, .int x3)] → fx_F D h0 h H locs cells slots → W p l e R s m args below meth c H locs cells slots (fx_Z D below s h0 (fx_oV Q fx_no)) (F0 m 0 ls []) := by
  unfold m_Iss_hosts at hw
  intro ls H locs cells slots hv F
  refine lv_aload_n C.ex C.by d_Iss_hosts_0 rfl (lv_at hv 0 rfl) ?_
  obtain ⟨hk1, hw⟩ := hw
  obtain ⟨b1, hb1, hw⟩ := hw
  refine fx_getR C F lf_Iss_10 hk1 rfl hb1 d_Iss_hosts_1 ?_
  obtain ⟨hk2, hw⟩ := hw
  refine fx_callI C F (c_Wr_size hl hw) hm_Wr_size hi_Wr_size hv.1 (by decide) (Nat.le_of_ble_eq_true rfl) (iv_Wr_size C F lm_Iss_30 hk2 d_Iss_hosts_4) (fx_out0 _) fx_eno (fun v1 h1 H locs cells slots hw hx1 F => ?_)
  replace hw := hw hx1
  have hk2 := (hx1).k hk2
  have hk1 := (hx1).k hk1
  refine lv_istore (lv' := [(4, .int v1), (0, .ref r0), (1, .ref r1), (2, .int x2), (3, .int x3)]) C.ex C.by d_Iss_hosts_7 hv (by decide) rfl (fun ls hv => ?_)
  refine lv_iload_n C.ex C.by d_Iss_hosts_9 rfl (lv_at hv 4 rfl) ?_
  refine lv_istore (lv' := [(5, .int x3), (4, .int v1), (0, .ref r0), (1, .ref r1), (2, .int x2), (3, .int x3)]) C.ex C.by d_Iss_hosts_10 hv (by decide) rfl (fun ls hv => ?_)
  exact b_Iss_hosts_12 C hl _ _ _ _ _ _ hw _ _ _ _ _ (lv_sub hv [2, 3, 4, 1, 0] rfl) F
theorem hm_Iss_hosts : fx_hd y_Iss_hosts prog_5_method_5_code 7 (none) [] ∈ tables_1 := (fx_m4 (List.mem_of_getElem? (i := 93) rfl))
theorem hi_Iss_hosts : Cond.initialized y_Iss_hosts.cls ∈ tables_1 := (fx_m1 (List.mem_of_getElem? (i := 13) rfl))
theorem c_Iss_hosts {l : Launch} (hl : l.flags = flags0) {D : DD} {Q : AH → Prop} {r0 : Nat} {r1 : Nat} {x2 : Int32} {x3 : Int32} {h : AH} (hw : m_Iss_hosts Q r0 r1 x2 x3 h) : fx_Mt l D y_Iss_hosts (fx_hd y_Iss_hosts prog_5_method_5_code 7 (none) []) 6 95 [.ref r0, .ref r1, .int x2, .int x3] h (fx_oV Q fx_no) := by
  refine fx_ofW (plainFor_of_name (by decide)) (fun p e s m below meth c C F => ?_)
  have hv := lv_entry ([.ref r0, .ref r1, .int x2, .int x3]) (n := 7) (Nat.le_of_ble_eq_true rfl)
  rw [lg_entry_eq]
  generalize (lg_sl ([.ref r0, .ref r1, .int x2, .int x3]) ++ List.replicate (7 - (lg_sl ([.ref r0, .ref r1, .int x2, .int x3])).length) Slot.unset).toArray = ls at hv ⊢
  have hv : lv_has ls 7 [(0, .ref r0), (1, .ref r1), (2, .int x2), (3, .int x3)] := hv
  exact b_Iss_hosts_0 C hl _ _ _ _ _ hw _ _ _ _ _ hv F
/-! ChainJudge$Writer.number(I)V: frames 4, words 63 -/
abbrev y_Wr_number : MethodName := ⟨"ChainJudge$Writer", "number", "(I)V"⟩
def dl_Wr_number : List (Nat × Instr × Nat) := [(0, .aload_n 0, 1), (1, .invokevirtual 17, 3), (4, .istore_n 2, 1), (5, .iload_n 1, 1), (6, .istore_n 3, 1), (7, .aload_n 0, 1), (8, .iload_n 3, 1), (9, .invokevirtual 31, 3), (12, .iload_n 3, 1), (13, .bipush 8, 2), (15, .iushr, 1), (16, .istore_n 3, 1), (17, .iload_n 3, 1), (18, .ifCond .gt (-11), 3), (21, .aload_n 0, 1), (22, .getfield 7, 3), (25, .aload_n 0, 1), (26, .getfield 13, 3), (29, .baload, 1), (30, .ifCond .ge 8, 3), (33, .aload_n 0, 1), (34, .iconst 0, 1), (35, .invokevirtual 31, 3), (38, .aload_n 0, 1), (39, .iconst 2, 1), (40, .iload_n 2, 1), (41, .invokevirtual 38, 3), (44, .return_, 1)]
theorem dk_Wr_number : fx_dec prog_13_method_9_code dl_Wr_number = true := by decide +kernel
theorem d_Wr_number_0 : decode prog_13_method_9_code 0 = .ok (.aload_n 0, 1) := fx_dat dk_Wr_number 0 rfl
theorem d_Wr_number_1 : decode prog_13_method_9_code 1 = .ok (.invokevirtual 17, 3) := fx_dat dk_Wr_number 1 rfl
theorem d_Wr_number_4 : decode prog_13_method_9_code 4 = .ok (.istore_n 2, 1) := fx_dat dk_Wr_number 2 rfl
theorem d_Wr_number_5 : decode prog_13_method_9_code 5 = .ok (.iload_n 1, 1) := fx_dat dk_Wr_number 3 rfl
theorem d_Wr_number_6 : decode prog_13_method_9_code 6 = .ok (.istore_n 3, 1) := fx_dat dk_Wr_number 4 rfl
theorem d_Wr_number_7 : decode prog_13_method_9_code 7 = .ok (.aload_n 0, 1) := fx_dat dk_Wr_number 5 rfl
theorem d_Wr_number_8 : decode prog_13_method_9_code 8 = .ok (.iload_n 3, 1) := fx_dat dk_Wr_number 6 rfl
theorem d_Wr_number_9 : decode prog_13_method_9_code 9 = .ok (.invokevirtual 31, 3) := fx_dat dk_Wr_number 7 rfl
theorem d_Wr_number_12 : decode prog_13_method_9_code 12 = .ok (.iload_n 3, 1) := fx_dat dk_Wr_number 8 rfl
theorem d_Wr_number_13 : decode prog_13_method_9_code 13 = .ok (.bipush 8, 2) := fx_dat dk_Wr_number 9 rfl
theorem d_Wr_number_15 : decode prog_13_method_9_code 15 = .ok (.iushr, 1) := fx_dat dk_Wr_number 10 rfl
theorem d_Wr_number_16 : decode prog_13_method_9_code 16 = .ok (.istore_n 3, 1) := fx_dat dk_Wr_number 11 rfl
theorem d_Wr_number_17 : decode prog_13_method_9_code 17 = .ok (.iload_n 3, 1) := fx_dat dk_Wr_number 12 rfl
theorem d_Wr_number_18 : decode prog_13_method_9_code 18 = .ok (.ifCond .gt (-11), 3) := fx_dat dk_Wr_number 13 rfl
theorem d_Wr_number_21 : decode prog_13_method_9_code 21 = .ok (.aload_n 0, 1) := fx_dat dk_Wr_number 14 rfl
theorem d_Wr_number_22 : decode prog_13_method_9_code 22 = .ok (.getfield 7, 3) := fx_dat dk_Wr_number 15 rfl
theorem d_Wr_number_25 : decode prog_13_method_9_code 25 = .ok (.aload_n 0, 1) := fx_dat dk_Wr_number 16 rfl
theorem d_Wr_number_26 : decode prog_13_method_9_code 26 = .ok (.getfield 13, 3) := fx_dat dk_Wr_number 17 rfl
theorem d_Wr_number_29 : decode prog_13_method_9_code 29 = .ok (.baload, 1) := fx_dat dk_Wr_number 18 rfl
theorem d_Wr_number_30 : decode prog_13_method_9_code 30 = .ok (.ifCond .ge 8, 3) := fx_dat dk_Wr_number 19 rfl
theorem d_Wr_number_33 : decode prog_13_method_9_code 33 = .ok (.aload_n 0, 1) := fx_dat dk_Wr_number 20 rfl
theorem d_Wr_number_34 : decode prog_13_method_9_code 34 = .ok (.iconst 0, 1) := fx_dat dk_Wr_number 21 rfl
theorem d_Wr_number_35 : decode prog_13_method_9_code 35 = .ok (.invokevirtual 31, 3) := fx_dat dk_Wr_number 22 rfl
theorem d_Wr_number_38 : decode prog_13_method_9_code 38 = .ok (.aload_n 0, 1) := fx_dat dk_Wr_number 23 rfl
theorem d_Wr_number_39 : decode prog_13_method_9_code 39 = .ok (.iconst 2, 1) := fx_dat dk_Wr_number 24 rfl
theorem d_Wr_number_40 : decode prog_13_method_9_code 40 = .ok (.iload_n 2, 1) := fx_dat dk_Wr_number 25 rfl
theorem d_Wr_number_41 : decode prog_13_method_9_code 41 = .ok (.invokevirtual 38, 3) := fx_dat dk_Wr_number 26 rfl
theorem d_Wr_number_44 : decode prog_13_method_9_code 44 = .ok (.return_, 1) := fx_dat dk_Wr_number 27 rfl
def m_Wr_number_38 (Q : AH → Prop) (r0 : Nat) (x2 : Int32) (h : AH) : Prop := hp_k h r0 = 11 ∧ m_Wr_wrap (fun h1 => fx_ext h h1 → Q h1) r0 (2 : Int32) x2 h
def m_Wr_number_7_b (Q : AH → Prop) (X7 : Int32 × AH → Prop) (r0 : Nat) (x2 : Int32) (x3 : Int32) (h : AH) : Prop := hp_k h r0 = 11 ∧ m_Wr_one (fun h1 => fx_ext h h1 → ∀ v1 : Int32, v1 = (sh_iu x3 (8 : Int32)) → (0 < v1 → X7 (v1, h1)) ∧ (¬ 0 < v1 → ∃ b1, hp_R h1 r0 0 = some b1 ∧ bk (hp_k h1 b1) ∧ vp_in (hp_I h1 r0 1) (hp_n h1 b1) ∧ (by8 (hp_I h1 b1 ((hp_I h1 r0 1)).toNatClampNeg) → (0 ≤ (hp_I h1 b1 ((hp_I h1 r0 1)).toNatClampNeg) → m_Wr_number_38 Q r0 x2 h1) ∧ (¬ 0 ≤ (hp_I h1 b1 ((hp_I h1 r0 1)).toNatClampNeg) → m_Wr_one (fun h2 => fx_ext h1 h2 → m_Wr_number_38 Q r0 x2 h2) r0 (0 : Int32) h1)))) r0 x3 h
def m_Wr_number_7 (Q : AH → Prop) (r0 : Nat) (x2 : Int32) (x3 : Int32) (h : AH) : Prop := fx_loop (fun (X7 : Int32 × AH → Prop) (st : Int32 × AH) => m_Wr_number_7_b Q X7 r0 x2 st.1 st.2) (x3, h)
def m_Wr_number (Q : AH → Prop) (r0 : Nat) (x1 : Int32) (h : AH) : Prop := hp_k h r0 = 11 ∧ m_Wr_size (fun v1 h1 => fx_ext h h1 → m_Wr_number_7 Q r0 v1 x1 h1) r0 h
theorem b_Wr_number_38 {p : Program} {l : Launch} {e : Env} {R : Room} {s : State} {m : MethodId} {args : Array Value} {below : List Frame} {meth : Method} {c : Code} {D : DD} {h0 : AH} {Q : AH → Prop} (C : fx_CX D y_Wr_number prog_13_method_9_code 4 4 63 (none) [] h0 p R s m meth c) (hl : l.flags = flags0) (r0 : Nat) (x2 : Int32) (h : AH) (hw : m_Wr_number_38 Q r0 x2 h) : ∀ (ls : Array Slot) (H : Heap) (locs : List Loc) (cells slots : Nat), lv_has ls 4 [(0, .ref r0), (2, .int x2)] → fx_F D h0 h H locs cells slots → W p l e R s m args below meth c H locs cells slots (fx_Z D below s h0 (fx_oV Q fx_no)) (F0 m 38 ls []) := by
  unfold m_Wr_number_38 at hw
  intro ls H locs cells slots hv F
  refine lv_aload_n C.ex C.by d_Wr_number_38 rfl (lv_at hv 0 rfl) ?_
  refine lv_iconst (v := (2 : Int32)) C.ex C.by d_Wr_number_39 (by decide) ?_
  refine lv_iload_n C.ex C.by d_Wr_number_40 rfl (lv_at hv 1 rfl) ?_
  obtain ⟨hk1, hw⟩ := hw
  refine fx_callV C F (c_Wr_wrap hl hw) hm_Wr_wrap hi_Wr_wrap hv.1 (by decide) (Nat.le_of_ble_eq_true rfl) (iv_Wr_wrap C F lm_Wr_38 hk1 d_Wr_number_41) (fx_out0 _) fx_eno (fun h1 H locs cells slots hw hx1 F => ?_)
  replace hw := hw hx1
  have hk1 := (hx1).k hk1
  exact fx_vret C F d_Wr_number_44 (Or.inl ⟨rfl, hw⟩)
theorem b_Wr_number_7 {p : Program} {l : Launch} {e : Env} {R : Room} {s : State} {m : MethodId} {args : Array Value} {below : List Frame} {meth : Method} {c : Code} {D : DD} {h0 : AH} {Q : AH → Prop} (C : fx_CX D y_Wr_number prog_13_method_9_code 4 4 63 (none) [] h0 p R s m meth c) (hl : l.flags = flags0) (r0 : Nat) (x2 : Int32) (x3 : Int32) (h : AH) (hw : m_Wr_number_7 Q r0 x2 x3 h) : ∀ (ls : Array Slot) (H : Heap) (locs : List Loc) (cells slots : Nat), lv_has ls 4 [(0, .ref r0), (2, .int x2), (3, .int x3)] → fx_F D h0 h H locs cells slots → W p l e R s m args below meth c H locs cells slots (fx_Z D below s h0 (fx_oV Q fx_no)) (F0 m 7 ls []) := by
  refine fx_loop.use hw (fun st => ∀ (ls : Array Slot) (H : Heap) (locs : List Loc) (cells slots : Nat), lv_has ls 4 [(0, .ref r0), (2, .int x2), (3, .int st.1)] → fx_F D h0 st.2 H locs cells slots → W p l e R s m args below meth c H locs cells slots (fx_Z D below s h0 (fx_oV Q fx_no)) (F0 m 7 ls [])) (fun X7 st hX7 hw => ?_)
  obtain ⟨x3, h⟩ := st
  replace hw : m_Wr_number_7_b Q X7 r0 x2 x3 h := hw
  unfold m_Wr_number_7_b at hw
  intro ls H locs cells slots hv F
  refine lv_aload_n C.ex C.by d_Wr_number_7 rfl (lv_at hv 0 rfl) ?_
  refine lv_iload_n C.ex C.by d_Wr_number_8 rfl (lv_at hv 2 rfl) ?_
  obtain ⟨hk1, hw⟩ := hw
  refine fx_callV C F (c_Wr_one hl hw) hm_Wr_one hi_Wr_one hv.1 (by decide) (Nat.le_of_ble_eq_true rfl) (iv_Wr_one C F lm_Wr_31 hk1 d_Wr_number_9) (fx_out0 _) fx_eno (fun h1 H locs cells slots hw hx1 F => ?_)
  replace hw := hw hx1
  have hk1 := (hx1).k hk1
  refine lv_iload_n C.ex C.by d_Wr_number_12 rfl (lv_at hv 2 rfl) ?_
  refine lv_bipush (v := (8 : Int32)) C.ex C.by d_Wr_number_13 (by decide) ?_
  refine lv_iushr (v := (sh_iu x3 (8 : Int32))) C.ex C.by d_Wr_number_15 rfl ?_
  let v1 : Int32 := (sh_iu x3 (8 : Int32))
  replace hw := hw v1 rfl
  refine lv_istore_n (lv' := [(3, .int v1), (0, .ref r0), (2, .int x2)]) C.ex C.by d_Wr_number_16 rfl hv (by decide) rfl (fun ls hv => ?_)
  refine lv_iload_n C.ex C.by d_Wr_number_17 rfl (lv_at hv 0 rfl) ?_
  refine lv_if_gt C.ex C.by d_Wr_number_18 rfl (fun hc => ?_) (fun hc => ?_)
  · replace hw := hw.1 hc
    exact hX7 _ hw _ _ _ _ _ (lv_sub hv [1, 2, 0] rfl) F
  · replace hw := hw.2 hc
    refine lv_aload_n C.ex C.by d_Wr_number_21 rfl (lv_at hv 1 rfl) ?_
    obtain ⟨b1, hb1, hw⟩ := hw
    refine fx_getR C F lf_Wr_7 hk1 rfl hb1 d_Wr_number_22 ?_
    refine lv_aload_n C.ex C.by d_Wr_number_25 rfl (lv_at hv 1 rfl) ?_
    refine fx_getI C F lf_Wr_13 hk1 rfl d_Wr_number_26 ?_
    obtain ⟨hk2, hw⟩ := hw
    obtain ⟨hi1, hw⟩ := hw
    refine fx_bald C F hk2 hi1 d_Wr_number_29 (fun h8 => ?_)
    replace hw := hw h8
    refine lv_if_ge C.ex C.by d_Wr_number_30 rfl (fun hc => ?_) (fun hc => ?_)
    · replace hw := hw.1 hc
      exact b_Wr_number_38 C hl _ _ _ hw _ _ _ _ _ (lv_sub hv [1, 2] rfl) F
    · replace hw := hw.2 hc
      refine lv_aload_n C.ex C.by d_Wr_number_33 rfl (lv_at hv 1 rfl) ?_
      refine lv_iconst (v := (0 : Int32)) C.ex C.by d_Wr_number_34 (by decide) ?_
      refine fx_callV C F (c_Wr_one hl hw) hm_Wr_one hi_Wr_one hv.1 (by decide) (Nat.le_of_ble_eq_true rfl) (iv_Wr_one C F lm_Wr_31 hk1 d_Wr_number_35) (fx_out0 _) fx_eno (fun h2 H locs cells slots hw hx2 F => ?_)
      replace hw := hw hx2
      have hk2 := (hx2).gb hk2
      have hk1 := (hx2).k hk1
      exact b_Wr_number_38 C hl _ _ _ hw _ _ _ _ _ (lv_sub hv [1, 2] rfl) F
theorem b_Wr_number_0 {p : Program} {l : Launch} {e : Env} {R : Room} {s : State} {m : MethodId} {args : Array Value} {below : List Frame} {meth : Method} {c : Code} {D : DD} {h0 : AH} {Q : AH → Prop} (C : fx_CX D y_Wr_number prog_13_method_9_code 4 4 63 (none) [] h0 p R s m meth c) (hl : l.flags = flags0) (r0 : Nat) (x1 : Int32) (h : AH) (hw : m_Wr_number Q r0 x1 h) : ∀ (ls : Array Slot) (H : Heap) (locs : List Loc) (cells slots : Nat), lv_has ls 4 [(0, .ref r0), (1, .int x1)] → fx_F D h0 h H locs cells slots → W p l e R s m args below meth c H locs cells slots (fx_Z D below s h0 (fx_oV Q fx_no)) (F0 m 0 ls []) := by
  unfold m_Wr_number at hw
  intro ls H locs cells slots hv F
  refine lv_aload_n C.ex C.by d_Wr_number_0 rfl (lv_at hv 0 rfl) ?_
  obtain ⟨hk1, hw⟩ := hw
  refine fx_callI C F (c_Wr_size hl hw) hm_Wr_size hi_Wr_size hv.1 (by decide) (Nat.le_of_ble_eq_true rfl) (iv_Wr_size C F lm_Wr_17 hk1 d_Wr_number_1) (fx_out0 _) fx_eno (fun v1 h1 H locs cells slots hw hx1 F => ?_)
  replace hw := hw hx1
  have hk1 := (hx1).k hk1
  refine lv_istore_n (lv' := [(2, .int v1), (0, .ref r0), (1, .int x1)]) C.ex C.by d_Wr_number_4 rfl hv (by decide) rfl (fun ls hv => ?_)
  refine lv_iload_n C.ex C.by d_Wr_number_5 rfl (lv_at hv 2 rfl) ?_
  refine lv_istore_n (lv' := [(3, .int x1), (2, .int v1), (0, .ref r0), (1, .int x1)]) C.ex C.by d_Wr_number_6 rfl hv (by decide) rfl (fun ls hv => ?_)
  exact b_Wr_number_7 C hl _ _ _ _ hw _ _ _ _ _ (lv_sub hv [2, 1, 0] rfl) F
theorem hm_Wr_number : fx_hd y_Wr_number prog_13_method_9_code 4 (none) [] ∈ tables_1 := (fx_m4 (List.mem_of_getElem? (i := 99) rfl))
theorem hi_Wr_number : Cond.initialized y_Wr_number.cls ∈ tables_1 := (fx_m1 (List.mem_of_getElem? (i := 14) rfl))
theorem c_Wr_number {l : Launch} (hl : l.flags = flags0) {D : DD} {Q : AH → Prop} {r0 : Nat} {x1 : Int32} {h : AH} (hw : m_Wr_number Q r0 x1 h) : fx_Mt l D y_Wr_number (fx_hd y_Wr_number prog_13_method_9_code 4 (none) []) 4 63 [.ref r0, .int x1] h (fx_oV Q fx_no) := by
  refine fx_ofW (plainFor_of_name (by decide)) (fun p e s m below meth c C F => ?_)
  have hv := lv_entry ([.ref r0, .int x1]) (n := 4) (Nat.le_of_ble_eq_true rfl)
  rw [lg_entry_eq]
  generalize (lg_sl ([.ref r0, .int x1]) ++ List.replicate (4 - (lg_sl ([.ref r0, .int x1])).length) Slot.unset).toArray = ls at hv ⊢
  have hv : lv_has ls 4 [(0, .ref r0), (1, .int x1)] := hv
  exact b_Wr_number_0 C hl _ _ _ hw _ _ _ _ _ hv F
