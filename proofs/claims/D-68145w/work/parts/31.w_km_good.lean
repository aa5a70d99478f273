set_option maxRecDepth 10000
/-! ChainJudge$KeyedMarks.good(I[BII[BII[BII)Z: frames 9, words 160 -/
abbrev y_KM_good : MethodName := ⟨"ChainJudge$KeyedMarks", "good", "(I[BII[BII[BII)Z"⟩
theorem lm_KM_60 : Cond.methodLink "ChainJudge$KeyedMarks" 60 y_KM_mark ∈ tables_1 ∨ ∃ host, Cond.methodLinkNest "ChainJudge$KeyedMarks" 60 y_KM_mark host ∈ tables_1 := Or.inl (fx_m5 (List.mem_of_getElem? (i := 177) rfl))
def dl_KM_good : List (Nat × Instr × Nat) := [(0, .iload 7, 2), (2, .bipush 32, 2), (4, .if_icmp .eq 5, 3), (7, .iconst 0, 1), (8, .ireturn, 1), (9, .aload_n 0, 1), (10, .aload_n 2, 1), (11, .iload_n 3, 1), (12, .aload 8, 2), (14, .iload 9, 2), (16, .iload 10, 2), (18, .invokevirtual 60, 3), (21, .astore 11, 2), (23, .iconst 0, 1), (24, .istore 12, 2), (26, .iload 12, 2), (28, .bipush 32, 2), (30, .if_icmp .ge 27, 3), (33, .aload 11, 2), (35, .iload 12, 2), (37, .baload, 1), (38, .aload 5, 2), (40, .iload 6, 2), (42, .iload 12, 2), (44, .iadd, 1), (45, .baload, 1), (46, .if_icmp .eq 5, 3), (49, .iconst 0, 1), (50, .ireturn, 1), (51, .iinc 12 1, 3), (54, .goto (-28), 3), (57, .iconst 1, 1), (58, .ireturn, 1)]
theorem dk_KM_good : fx_dec prog_7_method_7_code dl_KM_good = true := by decide +kernel
theorem d_KM_good_0 : decode prog_7_method_7_code 0 = .ok (.iload 7, 2) := fx_dat dk_KM_good 0 rfl
theorem d_KM_good_2 : decode prog_7_method_7_code 2 = .ok (.bipush 32, 2) := fx_dat dk_KM_good 1 rfl
theorem d_KM_good_4 : decode prog_7_method_7_code 4 = .ok (.if_icmp .eq 5, 3) := fx_dat dk_KM_good 2 rfl
theorem d_KM_good_7 : decode prog_7_method_7_code 7 = .ok (.iconst 0, 1) := fx_dat dk_KM_good 3 rfl
theorem d_KM_good_8 : decode prog_7_method_7_code 8 = .ok (.ireturn, 1) := fx_dat dk_KM_good 4 rfl
theorem d_KM_good_9 : decode prog_7_method_7_code 9 = .ok (.aload_n 0, 1) := fx_dat dk_KM_good 5 rfl
theorem d_KM_good_10 : decode prog_7_method_7_code 10 = .ok (.aload_n 2, 1) := fx_dat dk_KM_good 6 rfl
theorem d_KM_good_11 : decode prog_7_method_7_code 11 = .ok (.iload_n 3, 1) := fx_dat dk_KM_good 7 rfl
theorem d_KM_good_12 : decode prog_7_method_7_code 12 = .ok (.aload 8, 2) := fx_dat dk_KM_good 8 rfl
theorem d_KM_good_14 : decode prog_7_method_7_code 14 = .ok (.iload 9, 2) := fx_dat dk_KM_good 9 rfl
theorem d_KM_good_16 : decode prog_7_method_7_code 16 = .ok (.iload 10, 2) := fx_dat dk_KM_good 10 rfl
theorem d_KM_good_18 : decode prog_7_method_7_code 18 = .ok (.invokevirtual 60, 3) := fx_dat dk_KM_good 11 rfl
theorem d_KM_good_21 : decode prog_7_method_7_code 21 = .ok (.astore 11, 2) := fx_dat dk_KM_good 12 rfl
theorem d_KM_good_23 : decode prog_7_method_7_code 23 = .ok (.iconst 0, 1) := fx_dat dk_KM_good 13 rfl
theorem d_KM_good_24 : decode prog_7_method_7_code 24 = .ok (.istore 12, 2) := fx_dat dk_KM_good 14 rfl
theorem d_KM_good_26 : decode prog_7_method_7_code 26 = .ok (.iload 12, 2) := fx_dat dk_KM_good 15 rfl
theorem d_KM_good_28 : decode prog_7_method_7_code 28 = .ok (.bipush 32, 2) := fx_dat dk_KM_good 16 rfl
theorem d_KM_good_30 : decode prog_7_method_7_code 30 = .ok (.if_icmp .ge 27, 3) := fx_dat dk_KM_good 17 rfl
theorem d_KM_good_33 : decode prog_7_method_7_code 33 = .ok (.aload 11, 2) := fx_dat dk_KM_good 18 rfl
theorem d_KM_good_35 : decode prog_7_method_7_code 35 = .ok (.iload 12, 2) := fx_dat dk_KM_good 19 rfl
theorem d_KM_good_37 : decode prog_7_method_7_code 37 = .ok (.baload, 1) := fx_dat dk_KM_good 20 rfl
theorem d_KM_good_38 : decode prog_7_method_7_code 38 = .ok (.aload 5, 2) := fx_dat dk_KM_good 21 rfl
theorem d_KM_good_40 : decode prog_7_method_7_code 40 = .ok (.iload 6, 2) := fx_dat dk_KM_good 22 rfl
theorem d_KM_good_42 : decode prog_7_method_7_code 42 = .ok (.iload 12, 2) := fx_dat dk_KM_good 23 rfl
theorem d_KM_good_44 : decode prog_7_method_7_code 44 = .ok (.iadd, 1) := fx_dat dk_KM_good 24 rfl
theorem d_KM_good_45 : decode prog_7_method_7_code 45 = .ok (.baload, 1) := fx_dat dk_KM_good 25 rfl
theorem d_KM_good_46 : decode prog_7_method_7_code 46 = .ok (.if_icmp .eq 5, 3) := fx_dat dk_KM_good 26 rfl
theorem d_KM_good_49 : decode prog_7_method_7_code 49 = .ok (.iconst 0, 1) := fx_dat dk_KM_good 27 rfl
theorem d_KM_good_50 : decode prog_7_method_7_code 50 = .ok (.ireturn, 1) := fx_dat dk_KM_good 28 rfl
theorem d_KM_good_51 : decode prog_7_method_7_code 51 = .ok (.iinc 12 1, 3) := fx_dat dk_KM_good 29 rfl
theorem d_KM_good_54 : decode prog_7_method_7_code 54 = .ok (.goto (-28), 3) := fx_dat dk_KM_good 30 rfl
theorem d_KM_good_57 : decode prog_7_method_7_code 57 = .ok (.iconst 1, 1) := fx_dat dk_KM_good 31 rfl
theorem d_KM_good_58 : decode prog_7_method_7_code 58 = .ok (.ireturn, 1) := fx_dat dk_KM_good 32 rfl
def m_KM_good_26_b (Q : Int32 → AH → Prop) (X26 : Int32 × AH → Prop) (r5 : Nat) (x6 : Int32) (r11 : Nat) (x12 : Int32) (h : AH) : Prop := ((32 : Int32) ≤ x12 → Q (1 : Int32) h) ∧ (¬ (32 : Int32) ≤ x12 → bk (hp_k h r11) ∧ vp_in x12 (hp_n h r11) ∧ (by8 (hp_I h r11 x12.toNatClampNeg) → bk (hp_k h r5) ∧ vp_in (x6 + x12) (hp_n h r5) ∧ (by8 (hp_I h r5 ((x6 + x12)).toNatClampNeg) → ((hp_I h r11 x12.toNatClampNeg) = (hp_I h r5 ((x6 + x12)).toNatClampNeg) → ∀ v1 : Int32, v1 = (x12 + (1 : Int32)) → X26 (v1, h)) ∧ (¬ (hp_I h r11 x12.toNatClampNeg) = (hp_I h r5 ((x6 + x12)).toNatClampNeg) → Q (0 : Int32) h))))
def m_KM_good_26 (Q : Int32 → AH → Prop) (r5 : Nat) (x6 : Int32) (r11 : Nat) (x12 : Int32) (h : AH) : Prop := fx_loop (fun (X26 : Int32 × AH → Prop) (st : Int32 × AH) => m_KM_good_26_b Q X26 r5 x6 r11 st.1 st.2) (x12, h)
def m_KM_good (Q : Int32 → AH → Prop) (r0 : Nat) (x1 : Int32) (r2 : Nat) (x3 : Int32) (x4 : Int32) (r5 : Nat) (x6 : Int32) (x7 : Int32) (r8 : Nat) (x9 : Int32) (x10 : Int32) (h : AH) : Prop := (x7 = (32 : Int32) → hp_k h r0 = 4 ∧ m_KM_mark (fun q1 h1 => fx_ext h h1 → m_KM_good_26 Q r5 x6 q1 (0 : Int32) h1) r0 r2 x3 r8 x9 x10 h) ∧ (¬ x7 = (32 : Int32) → Q (0 : Int32) h)
theorem b_KM_good_26 {p : Program} {l : Launch} {e : Env} {R : Room} {s : State} {m : MethodId} {args : Array Value} {below : List Frame} {meth : Method} {c : Code} {D : DD} {h0 : AH} {Q : Int32 → AH → Prop} (C : fx_CX D y_KM_good prog_7_method_7_code 13 9 160 (Option.some FieldType.boolean) [] h0 p R s m meth c) (hl : l.flags = flags0) (r5 : Nat) (x6 : Int32) (r11 : Nat) (x12 : Int32) (h : AH) (hw : m_KM_good_26 Q r5 x6 r11 x12 h) : ∀ (ls : Array Slot) (H : Heap) (locs : List Loc) (cells slots : Nat), lv_has ls 13 [(5, .ref r5), (6, .int x6), (11, .ref r11), (12, .int x12)] → fx_F D h0 h H locs cells slots → W p l e R s m args below meth c H locs cells slots (fx_Z D below s h0 (fx_oZ Q fx_no)) (F0 m 26 ls []) := by
  refine fx_loop.use hw (fun st => ∀ (ls : Array Slot) (H : Heap) (locs : List Loc) (cells slots : Nat), lv_has ls 13 [(5, .ref r5), (6, .int x6), (11, .ref r11), (12, .int st.1)] → fx_F D h0 st.2 H locs cells slots → W p l e R s m args below meth c H locs cells slots (fx_Z D below s h0 (fx_oZ Q fx_no)) (F0 m 26 ls [])) (fun X26 st hX26 hw => ?_)
  obtain ⟨x12, h⟩ := st
  replace hw : m_KM_good_26_b Q X26 r5 x6 r11 x12 h := hw
  unfold m_KM_good_26_b at hw
  intro ls H locs cells slots hv F
  refine lv_iload C.ex C.by d_KM_good_26 (lv_at hv 3 rfl) ?_
  refine lv_bipush (v := (32 : Int32)) C.ex C.by d_KM_good_28 (by decide) ?_
  refine lv_icmp_ge C.ex C.by d_KM_good_30 rfl (fun hc => ?_) (fun hc => ?_)
  · replace hw := hw.1 hc
    refine lv_iconst (v := (1 : Int32)) C.ex C.by d_KM_good_57 (by decide) ?_
    exact fx_zret C F d_KM_good_58 (Or.inr rfl) (Or.inl ⟨_, rfl, Or.inr rfl, hw⟩)
  · replace hw := hw.2 hc
    refine lv_aload C.ex C.by d_KM_good_33 (lv_at hv 2 rfl) ?_
    refine lv_iload C.ex C.by d_KM_good_35 (lv_at hv 3 rfl) ?_
    obtain ⟨hk1, hw⟩ := hw
    obtain ⟨hi1, hw⟩ := hw
    refine fx_bald C F hk1 hi1 d_KM_good_37 (fun h8 => ?_)
    replace hw := hw h8
    refine lv_aload C.ex C.by d_KM_good_38 (lv_at hv 0 rfl) ?_
    refine lv_iload C.ex C.by d_KM_good_40 (lv_at hv 1 rfl) ?_
    refine lv_iload C.ex C.by d_KM_good_42 (lv_at hv 3 rfl) ?_
    refine lv_iadd C.ex C.by d_KM_good_44 ?_
    obtain ⟨hk2, hw⟩ := hw
    obtain ⟨hi2, hw⟩ := hw
    refine fx_bald C F hk2 hi2 d_KM_good_45 (fun h8 => ?_)
    replace hw := hw h8
    refine lv_icmp_eq C.ex C.by d_KM_good_46 rfl (fun hc => ?_) (fun hc => ?_)
    · replace hw := hw.1 hc
      let v1 : Int32 := (x12 + (1 : Int32))
      replace hw := hw v1 rfl
      refine lv_iinc (v := v1) (k := 3) (lv' := [(12, .int v1), (5, .ref r5), (6, .int x6), (11, .ref r11)]) C.ex C.by d_KM_good_51 hv rfl (congrArg (fun z => x12 + z) (by decide)) (by decide) rfl (fun ls hv => ?_)
      refine lv_goto C.ex C.by d_KM_good_54 rfl ?_
      exact hX26 _ hw _ _ _ _ _ (lv_sub hv [1, 2, 3, 0] rfl) F
    · replace hw := hw.2 hc
      refine lv_iconst (v := (0 : Int32)) C.ex C.by d_KM_good_49 (by decide) ?_
      exact fx_zret C F d_KM_good_50 (Or.inl rfl) (Or.inl ⟨_, rfl, Or.inl rfl, hw⟩)
theorem b_KM_good_0 {p : Program} {l : Launch} {e : Env} {R : Room} {s : State} {m : MethodId} {args : Array Value} {below : List Frame} {meth : Method} {c : Code} {D : DD} {h0 : AH} {Q : Int32 → AH → Prop} (C : fx_CX D y_KM_good prog_7_method_7_code 13 9 160 (Option.some FieldType.boolean) [] h0 p R s m meth c) (hl : l.flags = flags0) (r0 : Nat) (x1 : Int32) (r2 : Nat) (x3 : Int32) (x4 : Int32) (r5 : Nat) (x6 : Int32) (x7 : Int32) (r8 : Nat) (x9 : Int32) (x10 : Int32) (h : AH) (hw : m_KM_good Q r0 x1 r2 x3 x4 r5 x6 x7 r8 x9 x10 h) : ∀ (ls : Array Slot) (H : Heap) (locs : List Loc) (cells slots : Nat), lv_has ls 13 [(0, .ref r0), (1, .int x1), (2, .ref r2), (3, .int x3), (4, .int x4), (5, .ref r5), (6, .int x6), (7, .int x7), (8, .ref r8), (9, .int x9), (10, .int x10)] → fx_F D h0 h H locs cells slots → W p l e R s m args below meth c H locs cells slots (fx_Z D below s h0 (fx_oZ Q fx_no)) (F0 m 0 ls []) := by
  unfold m_KM_good at hw
  intro ls H locs cells slots hv F
  refine lv_iload C.ex C.by d_KM_good_0 (lv_at hv 7 rfl) ?_
  refine lv_bipush (v := (32 : Int32)) C.ex C.by d_KM_good_2 (by decide) ?_
  refine lv_icmp_eq C.ex C.by d_KM_good_4 rfl (fun hc => ?_) (fun hc => ?_)
  · replace hw := hw.1 hc
    refine lv_aload_n C.ex C.by d_KM_good_9 rfl (lv_at hv 0 rfl) ?_
    refine lv_aload_n C.ex C.by d_KM_good_10 rfl (lv_at hv 2 rfl) ?_
    refine lv_iload_n C.ex C.by d_KM_good_11 rfl (lv_at hv 3 rfl) ?_
    refine lv_aload C.ex C.by d_KM_good_12 (lv_at hv 8 rfl) ?_
    refine lv_iload C.ex C.by d_KM_good_14 (lv_at hv 9 rfl) ?_
    refine lv_iload C.ex C.by d_KM_good_16 (lv_at hv 10 rfl) ?_
    obtain ⟨hk1, hw⟩ := hw
    refine fx_callR C F (c_KM_mark hl hw) hm_KM_mark hi_KM_mark hv.1 (by decide) (Nat.le_of_ble_eq_true rfl) (iv_KM_mark C F lm_KM_60 hk1 d_KM_good_18) (fx_out0 _) fx_eno (fun q1 h1 H locs cells slots hw hx1 F => ?_)
    replace hw := hw hx1
    have hk1 := (hx1).k hk1
    refine lv_astore (lv' := [(11, .ref q1), (0, .ref r0), (1, .int x1), (2, .ref r2), (3, .int x3), (4, .int x4), (5, .ref r5), (6, .int x6), (7, .int x7), (8, .ref r8), (9, .int x9), (10, .int x10)]) C.ex C.by d_KM_good_21 hv (by decide) rfl (fun ls hv => ?_)
    refine lv_iconst (v := (0 : Int32)) C.ex C.by d_KM_good_23 (by decide) ?_
    refine lv_istore (lv' := [(12, .int (0 : Int32)), (11, .ref q1), (0, .ref r0), (1, .int x1), (2, .ref r2), (3, .int x3), (4, .int x4), (5, .ref r5), (6, .int x6), (7, .int x7), (8, .ref r8), (9, .int x9), (10, .int x10)]) C.ex C.by d_KM_good_24 hv (by decide) rfl (fun ls hv => ?_)
    exact b_KM_good_26 C hl _ _ _ _ _ hw _ _ _ _ _ (lv_sub hv [7, 8, 1, 0] rfl) F
  · replace hw := hw.2 hc
    refine lv_iconst (v := (0 : Int32)) C.ex C.by d_KM_good_7 (by decide) ?_
    exact fx_zret C F d_KM_good_8 (Or.inl rfl) (Or.inl ⟨_, rfl, Or.inl rfl, hw⟩)
theorem hm_KM_good : fx_hd y_KM_good prog_7_method_7_code 13 (Option.some FieldType.boolean) [] ∈ tables_1 := (fx_m5 (List.mem_of_getElem? (i := 176) rfl))
theorem hi_KM_good : Cond.initialized y_KM_good.cls ∈ tables_1 := (fx_m1 (List.mem_of_getElem? (i := 6) rfl))
theorem c_KM_good {l : Launch} (hl : l.flags = flags0) {D : DD} {Q : Int32 → AH → Prop} {r0 : Nat} {x1 : Int32} {r2 : Nat} {x3 : Int32} {x4 : Int32} {r5 : Nat} {x6 : Int32} {x7 : Int32} {r8 : Nat} {x9 : Int32} {x10 : Int32} {h : AH} (hw : m_KM_good Q r0 x1 r2 x3 x4 r5 x6 x7 r8 x9 x10 h) : fx_Mt l D y_KM_good (fx_hd y_KM_good prog_7_method_7_code 13 (Option.some FieldType.boolean) []) 9 160 [.ref r0, .int x1, .ref r2, .int x3, .int x4, .ref r5, .int x6, .int x7, .ref r8, .int x9, .int x10] h (fx_oZ Q fx_no) := by
  refine fx_ofW (plainFor_of_name (by decide)) (fun p e s m below meth c C F => ?_)
  have hv := lv_entry ([.ref r0, .int x1, .ref r2, .int x3, .int x4, .ref r5, .int x6, .int x7, .ref r8, .int x9, .int x10]) (n := 13) (Nat.le_of_ble_eq_true rfl)
  rw [lg_entry_eq]
  generalize (lg_sl ([.ref r0, .int x1, .ref r2, .int x3, .int x4, .ref r5, .int x6, .int x7, .ref r8, .int x9, .int x10]) ++ List.replicate (13 - (lg_sl ([.ref r0, .int x1, .ref r2, .int x3, .int x4, .ref r5, .int x6, .int x7, .ref r8, .int x9, .int x10])).length) Slot.unset).toArray = ls at hv ⊢
  have hv : lv_has ls 13 [(0, .ref r0), (1, .int x1), (2, .ref r2), (3, .int x3), (4, .int x4), (5, .ref r5), (6, .int x6), (7, .int x7), (8, .ref r8), (9, .int x9), (10, .int x10)] := hv
  exact b_KM_good_0 C hl _ _ _ _ _ _ _ _ _ _ _ _ hw _ _ _ _ _ hv F
/-! ChainJudge$Certificate.markedBy(LChainJudge$Certificate;)Z: frames 10, words 184 -/
abbrev y_Cert_markedBy : MethodName := ⟨"ChainJudge$Certificate", "markedBy", "(LChainJudge$Certificate;)Z"⟩
theorem lm_Cert_225 : Cond.methodLink "ChainJudge$Certificate" 225 (⟨"ChainJudge$Marks", "good", "(I[BII[BII[BII)Z"⟩ : MethodName) ∈ tables_1 := (fx_m5 (List.mem_of_getElem? (i := 169) rfl))
section
variable {p : Program} {l : Launch} {e : Env} {R : Room} {s : State} {m : MethodId} {args : Array Value} {below : List Frame} {meth : Method} {c : Code} {H : Heap} {locs : List Loc} {cells slots : Nat}
variable {D : DD} {y : MethodName} {cc : ByteArray} {nL kf kw : Nat} {ret : Option FieldType} {hh : List (Nat × Nat × Nat × Nat)} {h0 h : AH} {pc : Nat} {ls : Array Slot} {rest : List Value} {b idx : Nat}
theorem iv_KM_good_f {x1 : Int32} {r2 : Nat} {x3 : Int32} {x4 : Int32} {r5 : Nat} {x6 : Int32} {x7 : Int32} {r8 : Nat} {x9 : Int32} {x10 : Int32} (C : fx_CX D y cc nL kf kw ret hh h0 p R s m meth c) (F : fx_F D h0 h H locs cells slots) (hw1 : Cond.methodLink y.cls idx (⟨"ChainJudge$Marks", "good", "(I[BII[BII[BII)Z"⟩ : MethodName) ∈ tables_1) (hk : hp_k h b = 4) (hd : decode cc pc = .ok (.invokeinterface idx 11, 5)) : fx_IV p l e R s m args below meth c H locs cells slots (F0 m pc ls (.int x10 :: .int x9 :: .ref r8 :: .int x7 :: .int x6 :: .ref r5 :: .int x4 :: .int x3 :: .ref r2 :: .int x1 :: .ref b :: rest)) rest y_KM_good [.ref b, .int x1, .ref r2, .int x3, .int x4, .ref r5, .int x6, .int x7, .ref r8, .int x9, .int x10] 5 := fun T hT X => fx_invF (As := [.int x1, .ref r2, .int x3, .int x4, .ref r5, .int x6, .int x7, .ref r8, .int x9, .int x10]) (x' := (⟨"ChainJudge$Marks", "good", "(I[BII[BII[BII)Z"⟩ : MethodName)) (Cn := "ChainJudge$KeyedMarks") C X hw1 (fx_m5 (List.mem_of_getElem? (i := 174) rfl)) (fx_m5 (List.mem_of_getElem? (i := 171) rfl)) (fx_m5 (List.mem_of_getElem? (i := 170) rfl)) (by decide +kernel) (fx_m5 (List.mem_of_getElem? (i := 175) rfl)) (fx_m5 (List.mem_of_getElem? (i := 173) rfl)) (fx_m3 (List.mem_of_getElem? (i := 151) rfl)) (fx_m5 (List.mem_of_getElem? (i := 172) rfl)) ⟨by decide, by decide⟩ (by rw [hT]; exact fx_clsO (ci := 3) (r := ("ChainJudge$KeyedMarks", fx_T3, 2)) C F rfl (by decide) hk) rfl (n := 10) (by decide +kernel) rfl rfl hd
end
def dl_Cert_markedBy : List (Nat × Instr × Nat) := [(0, .aload_n 1, 1), (1, .getfield 51, 3), (4, .aload_n 0, 1), (5, .getfield 54, 3), (8, .if_icmp .ne 74, 3), (11, .aload_n 0, 1), (12, .getfield 101, 3), (15, .aload_n 1, 1), (16, .getfield 51, 3), (19, .aload_n 1, 1), (20, .getfield 16, 3), (23, .aload_n 1, 1), (24, .getfield 39, 3), (27, .aload_n 1, 1), (28, .getfield 42, 3), (31, .aload_n 1, 1), (32, .getfield 39, 3), (35, .isub, 1), (36, .aload_n 0, 1), (37, .getfield 16, 3), (40, .aload_n 0, 1), (41, .getfield 45, 3), (44, .aload_n 0, 1), (45, .getfield 48, 3), (48, .aload_n 0, 1), (49, .getfield 45, 3), (52, .isub, 1), (53, .aload_n 0, 1), (54, .getfield 16, 3), (57, .aload_n 0, 1), (58, .getfield 20, 3), (61, .aload_n 0, 1), (62, .getfield 24, 3), (65, .aload_n 0, 1), (66, .getfield 20, 3), (69, .isub, 1), (70, .invokeinterface 225 11, 5), (75, .ifCond .eq 7, 3), (78, .iconst 1, 1), (79, .goto 4, 3), (82, .iconst 0, 1), (83, .ireturn, 1)]
theorem dk_Cert_markedBy : fx_dec prog_2_method_18_code dl_Cert_markedBy = true := by decide +kernel
theorem d_Cert_markedBy_0 : decode prog_2_method_18_code 0 = .ok (.aload_n 1, 1) := fx_dat dk_Cert_markedBy 0 rfl
theorem d_Cert_markedBy_1 : decode prog_2_method_18_code 1 = .ok (.getfield 51, 3) := fx_dat dk_Cert_markedBy 1 rfl
theorem d_Cert_markedBy_4 : decode prog_2_method_18_code 4 = .ok (.aload_n 0, 1) := fx_dat dk_Cert_markedBy 2 rfl
theorem d_Cert_markedBy_5 : decode prog_2_method_18_code 5 = .ok (.getfield 54, 3) := fx_dat dk_Cert_markedBy 3 rfl
theorem d_Cert_markedBy_8 : decode prog_2_method_18_code 8 = .ok (.if_icmp .ne 74, 3) := fx_dat dk_Cert_markedBy 4 rfl
theorem d_Cert_markedBy_11 : decode prog_2_method_18_code 11 = .ok (.aload_n 0, 1) := fx_dat dk_Cert_markedBy 5 rfl
theorem d_Cert_markedBy_12 : decode prog_2_method_18_code 12 = .ok (.getfield 101, 3) := fx_dat dk_Cert_markedBy 6 rfl
theorem d_Cert_markedBy_15 : decode prog_2_method_18_code 15 = .ok (.aload_n 1, 1) := fx_dat dk_Cert_markedBy 7 rfl
theorem d_Cert_markedBy_16 : decode prog_2_method_18_code 16 = .ok (.getfield 51, 3) := fx_dat dk_Cert_markedBy 8 rfl
theorem d_Cert_markedBy_19 : decode prog_2_method_18_code 19 = .ok (.aload_n 1, 1) := fx_dat dk_Cert_markedBy 9 rfl
theorem d_Cert_markedBy_20 : decode prog_2_method_18_code 20 = .ok (.getfield 16, 3) := fx_dat dk_Cert_markedBy 10 rfl
theorem d_Cert_markedBy_23 : decode prog_2_method_18_code 23 = .ok (.aload_n 1, 1) := fx_dat dk_Cert_markedBy 11 rfl
theorem d_Cert_markedBy_24 : decode prog_2_method_18_code 24 = .ok (.getfield 39, 3) := fx_dat dk_Cert_markedBy 12 rfl
theorem d_Cert_markedBy_27 : decode prog_2_method_18_code 27 = .ok (.aload_n 1, 1) := fx_dat dk_Cert_markedBy 13 rfl
theorem d_Cert_markedBy_28 : decode prog_2_method_18_code 28 = .ok (.getfield 42, 3) := fx_dat dk_Cert_markedBy 14 rfl
theorem d_Cert_markedBy_31 : decode prog_2_method_18_code 31 = .ok (.aload_n 1, 1) := fx_dat dk_Cert_markedBy 15 rfl
theorem d_Cert_markedBy_32 : decode prog_2_method_18_code 32 = .ok (.getfield 39, 3) := fx_dat dk_Cert_markedBy 16 rfl
theorem d_Cert_markedBy_35 : decode prog_2_method_18_code 35 = .ok (.isub, 1) := fx_dat dk_Cert_markedBy 17 rfl
theorem d_Cert_markedBy_36 : decode prog_2_method_18_code 36 = .ok (.aload_n 0, 1) := fx_dat dk_Cert_markedBy 18 rfl
theorem d_Cert_markedBy_37 : decode prog_2_method_18_code 37 = .ok (.getfield 16, 3) := fx_dat dk_Cert_markedBy 19 rfl
theorem d_Cert_markedBy_40 : decode prog_2_method_18_code 40 = .ok (.aload_n 0, 1) := fx_dat dk_Cert_markedBy 20 rfl
theorem d_Cert_markedBy_41 : decode prog_2_method_18_code 41 = .ok (.getfield 45, 3) := fx_dat dk_Cert_markedBy 21 rfl
theorem d_Cert_markedBy_44 : decode prog_2_method_18_code 44 = .ok (.aload_n 0, 1) := fx_dat dk_Cert_markedBy 22 rfl
theorem d_Cert_markedBy_45 : decode prog_2_method_18_code 45 = .ok (.getfield 48, 3) := fx_dat dk_Cert_markedBy 23 rfl
theorem d_Cert_markedBy_48 : decode prog_2_method_18_code 48 = .ok (.aload_n 0, 1) := fx_dat dk_Cert_markedBy 24 rfl
theorem d_Cert_markedBy_49 : decode prog_2_method_18_code 49 = .ok (.getfield 45, 3) := fx_dat dk_Cert_markedBy 25 rfl
theorem d_Cert_markedBy_52 : decode prog_2_method_18_code 52 = .ok (.isub, 1) := fx_dat dk_Cert_markedBy 26 rfl
theorem d_Cert_markedBy_53 : decode prog_2_method_18_code 53 = .ok (.aload_n 0, 1) := fx_dat dk_Cert_markedBy 27 rfl
theorem d_Cert_markedBy_54 : decode prog_2_method_18_code 54 = .ok (.getfield 16, 3) := fx_dat dk_Cert_markedBy 28 rfl
theorem d_Cert_markedBy_57 : decode prog_2_method_18_code 57 = .ok (.aload_n 0, 1) := fx_dat dk_Cert_markedBy 29 rfl
theorem d_Cert_markedBy_58 : decode prog_2_method_18_code 58 = .ok (.getfield 20, 3) := fx_dat dk_Cert_markedBy 30 rfl
theorem d_Cert_markedBy_61 : decode prog_2_method_18_code 61 = .ok (.aload_n 0, 1) := fx_dat dk_Cert_markedBy 31 rfl
theorem d_Cert_markedBy_62 : decode prog_2_method_18_code 62 = .ok (.getfield 24, 3) := fx_dat dk_Cert_markedBy 32 rfl
theorem d_Cert_markedBy_65 : decode prog_2_method_18_code 65 = .ok (.aload_n 0, 1) := fx_dat dk_Cert_markedBy 33 rfl
theorem d_Cert_markedBy_66 : decode prog_2_method_18_code 66 = .ok (.getfield 20, 3) := fx_dat dk_Cert_markedBy 34 rfl
theorem d_Cert_markedBy_69 : decode prog_2_method_18_code 69 = .ok (.isub, 1) := fx_dat dk_Cert_markedBy 35 rfl
theorem d_Cert_markedBy_70 : decode prog_2_method_18_code 70 = .ok (.invokeinterface 225 11, 5) := fx_dat dk_Cert_markedBy 36 rfl
theorem d_Cert_markedBy_75 : decode prog_2_method_18_code 75 = .ok (.ifCond .eq 7, 3) := fx_dat dk_Cert_markedBy 37 rfl
theorem d_Cert_markedBy_78 : decode prog_2_method_18_code 78 = .ok (.iconst 1, 1) := fx_dat dk_Cert_markedBy 38 rfl
theorem d_Cert_markedBy_79 : decode prog_2_method_18_code 79 = .ok (.goto 4, 3) := fx_dat dk_Cert_markedBy 39 rfl
theorem d_Cert_markedBy_82 : decode prog_2_method_18_code 82 = .ok (.iconst 0, 1) := fx_dat dk_Cert_markedBy 40 rfl
theorem d_Cert_markedBy_83 : decode prog_2_method_18_code 83 = .ok (.ireturn, 1) := fx_dat dk_Cert_markedBy 41 rfl
def m_Cert_markedBy_83 (Q : Int32 → AH → Prop) (sx0 : Int32) (h : AH) : Prop := zb sx0 ∧ Q sx0 h
def m_Cert_markedBy_82 (Q : Int32 → AH → Prop) (h : AH) : Prop := m_Cert_markedBy_83 Q (0 : Int32) h
def m_Cert_markedBy (Q : Int32 → AH → Prop) (r0 : Nat) (r1 : Nat) (h : AH) : Prop := hp_k h r1 = 8 ∧ hp_k h r0 = 8 ∧ (¬ (hp_I h r1 13) = (hp_I h r0 14) → m_Cert_markedBy_82 Q h) ∧ ((hp_I h r1 13) = (hp_I h r0 14) → ∃ b1, hp_R h r0 0 = some b1 ∧ ∃ b2, hp_R h r1 2 = some b2 ∧ ∃ b3, hp_R h r0 2 = some b3 ∧ hp_k h b1 = 4 ∧ m_KM_good (fun v1 h1 => fx_ext h h1 → zb v1 → (v1 = 0 → m_Cert_markedBy_82 Q h1) ∧ (¬ v1 = 0 → m_Cert_markedBy_83 Q (1 : Int32) h1)) b1 (hp_I h r1 13) b2 (hp_I h r1 9) ((hp_I h r1 10) - (hp_I h r1 9)) b3 (hp_I h r0 11) ((hp_I h r0 12) - (hp_I h r0 11)) b3 (hp_I h r0 3) ((hp_I h r0 4) - (hp_I h r0 3)) h)
theorem b_Cert_markedBy_83 {p : Program} {l : Launch} {e : Env} {R : Room} {s : State} {m : MethodId} {args : Array Value} {below : List Frame} {meth : Method} {c : Code} {D : DD} {h0 : AH} {Q : Int32 → AH → Prop} (C : fx_CX D y_Cert_markedBy prog_2_method_18_code 2 10 184 (Option.some FieldType.boolean) [] h0 p R s m meth c) (hl : l.flags = flags0) (sx0 : Int32) (h : AH) (hw : m_Cert_markedBy_83 Q sx0 h) : ∀ (ls : Array Slot) (H : Heap) (locs : List Loc) (cells slots : Nat), lv_has ls 2 [] → fx_F D h0 h H locs cells slots → W p l e R s m args below meth c H locs cells slots (fx_Z D below s h0 (fx_oZ Q fx_no)) (F0 m 83 ls [.int sx0]) := by
  unfold m_Cert_markedBy_83 at hw
  intro ls H locs cells slots hv F
  exact fx_zret C F d_Cert_markedBy_83 hw.1 (Or.inl ⟨_, rfl, hw.1, hw.2⟩)
theorem b_Cert_markedBy_82 {p : Program} {l : Launch} {e : Env} {R : Room} {s : State} {m : MethodId} {args : Array Value} {below : List Frame} {meth : Method} {c : Code} {D : DD} {h0 : AH} {Q : Int32 → AH → Prop} (C : fx_CX D y_Cert_markedBy prog_2_method_18_code 2 10 184 (Option.some FieldType.boolean) [] h0 p R s m meth c) (hl : l.flags = flags0) (h : AH) (hw : m_Cert_markedBy_82 Q h) : ∀ (ls : Array Slot) (H : Heap) (locs : List Loc) (cells slots : Nat), lv_has ls 2 [] → fx_F D h0 h H locs cells slots → W p l e R s m args below meth c H locs cells slots (fx_Z D below s h0 (fx_oZ Q fx_no)) (F0 m 82 ls []) := by
  unfold m_Cert_markedBy_82 at hw
  intro ls H locs cells slots hv F
  refine lv_iconst (v := (0 : Int32)) C.ex C.by d_Cert_markedBy_82 (by decide) ?_
  exact b_Cert_markedBy_83 C hl _ _ hw _ _ _ _ _ hv F
theorem b_Cert_markedBy_0 {p : Program} {l : Launch} {e : Env} {R : Room} {s : State} {m : MethodId} {args : Array Value} {below : List Frame} {meth : Method} {c : Code} {D : DD} {h0 : AH} {Q : Int32 → AH → Prop} (C : fx_CX D y_Cert_markedBy prog_2_method_18_code 2 10 184 (Option.some FieldType.boolean) [] h0 p R s m meth c) (hl : l.flags = flags0) (r0 : Nat) (r1 : Nat) (h : AH) (hw : m_Cert_markedBy Q r0 r1 h) : ∀ (ls : Array Slot) (H : Heap) (locs : List Loc) (cells slots : Nat), lv_has ls 2 [(0, .ref r0), (1, .ref r1)] → fx_F D h0 h H locs cells slots → W p l e R s m args below meth c H locs cells slots (fx_Z D below s h0 (fx_oZ Q fx_no)) (F0 m 0 ls []) := by
  unfold m_Cert_markedBy at hw
  intro ls H locs cells slots hv F
  refine lv_aload_n C.ex C.by d_Cert_markedBy_0 rfl (lv_at hv 1 rfl) ?_
  obtain ⟨hk1, hw⟩ := hw
  refine fx_getI C F lf_Cert_51 hk1 rfl d_Cert_markedBy_1 ?_
  refine lv_aload_n C.ex C.by d_Cert_markedBy_4 rfl (lv_at hv 0 rfl) ?_
  obtain ⟨hk2, hw⟩ := hw
  refine fx_getI C F lf_Cert_54 hk2 rfl d_Cert_markedBy_5 ?_
  refine lv_icmp_ne C.ex C.by d_Cert_markedBy_8 rfl (fun hc => ?_) (fun hc => ?_)
  · replace hw := hw.1 hc
    exact b_Cert_markedBy_82 C hl _ hw _ _ _ _ _ (lv_sub hv [] rfl) F
  · replace hw := hw.2 hc
    refine lv_aload_n C.ex C.by d_Cert_markedBy_11 rfl (lv_at hv 0 rfl) ?_
    obtain ⟨b1, hb1, hw⟩ := hw
    refine fx_getR C F lf_Cert_101 hk2 rfl hb1 d_Cert_markedBy_12 ?_
    refine lv_aload_n C.ex C.by d_Cert_markedBy_15 rfl (lv_at hv 1 rfl) ?_
    refine fx_getI C F lf_Cert_51 hk1 rfl d_Cert_markedBy_16 ?_
    refine lv_aload_n C.ex C.by d_Cert_markedBy_19 rfl (lv_at hv 1 rfl) ?_
    obtain ⟨b2, hb2, hw⟩ := hw
    refine fx_getR C F lf_Cert_16 hk1 rfl hb2 d_Cert_markedBy_20 ?_
    refine lv_aload_n C.ex C.by d_Cert_markedBy_23 rfl (lv_at hv 1 rfl) ?_
    refine fx_getI C F lf_Cert_39 hk1 rfl d_Cert_markedBy_24 ?_
    refine lv_aload_n C.ex C.by d_Cert_markedBy_27 rfl (lv_at hv 1 rfl) ?_
    refine fx_getI C F lf_Cert_42 hk1 rfl d_Cert_markedBy_28 ?_
    refine lv_aload_n C.ex C.by d_Cert_markedBy_31 rfl (lv_at hv 1 rfl) ?_
    refine fx_getI C F lf_Cert_39 hk1 rfl d_Cert_markedBy_32 ?_
    refine lv_isub C.ex C.by d_Cert_markedBy_35 ?_
    refine lv_aload_n C.ex C.by d_Cert_markedBy_36 rfl (lv_at hv 0 rfl) ?_
    obtain ⟨b3, hb3, hw⟩ := hw
    refine fx_getR C F lf_Cert_16 hk2 rfl hb3 d_Cert_markedBy_37 ?_
    refine lv_aload_n C.ex C.by d_Cert_markedBy_40 rfl (lv_at hv 0 rfl) ?_
    refine fx_getI C F lf_Cert_45 hk2 rfl d_Cert_markedBy_41 ?_
    refine lv_aload_n C.ex C.by d_Cert_markedBy_44 rfl (lv_at hv 0 rfl) ?_
    refine fx_getI C F lf_Cert_48 hk2 rfl d_Cert_markedBy_45 ?_
    refine lv_aload_n C.ex C.by d_Cert_markedBy_48 rfl (lv_at hv 0 rfl) ?_
    refine fx_getI C F lf_Cert_45 hk2 rfl d_Cert_markedBy_49 ?_
    refine lv_isub C.ex C.by d_Cert_markedBy_52 ?_
    refine lv_aload_n C.ex C.by d_Cert_markedBy_53 rfl (lv_at hv 0 rfl) ?_
    refine fx_getR C F lf_Cert_16 hk2 rfl hb3 d_Cert_markedBy_54 ?_
    refine lv_aload_n C.ex C.by d_Cert_markedBy_57 rfl (lv_at hv 0 rfl) ?_
    refine fx_getI C F lf_Cert_20 hk2 rfl d_Cert_markedBy_58 ?_
    refine lv_aload_n C.ex C.by d_Cert_markedBy_61 rfl (lv_at hv 0 rfl) ?_
    refine fx_getI C F lf_Cert_24 hk2 rfl d_Cert_markedBy_62 ?_
    refine lv_aload_n C.ex C.by d_Cert_markedBy_65 rfl (lv_at hv 0 rfl) ?_
    refine fx_getI C F lf_Cert_20 hk2 rfl d_Cert_markedBy_66 ?_
    refine lv_isub C.ex C.by d_Cert_markedBy_69 ?_
    obtain ⟨hk3, hw⟩ := hw
    refine fx_callZ C F (c_KM_good hl hw) hm_KM_good hi_KM_good hv.1 (by decide) (Nat.le_of_ble_eq_true rfl) (iv_KM_good_f C F lm_Cert_225 hk3 d_Cert_markedBy_70) (fx_out0 _) fx_eno (fun v1 h1 H locs cells slots hw hx1 hzb F => ?_)
    replace hw := hw hx1 hzb
    have hk3 := (hx1).k hk3
    have hk2 := (hx1).k hk2
    have hk1 := (hx1).k hk1
    refine lv_if_eq C.ex C.by d_Cert_markedBy_75 rfl (fun hc => ?_) (fun hc => ?_)
    · replace hw := hw.1 hc
      exact b_Cert_markedBy_82 C hl _ hw _ _ _ _ _ (lv_sub hv [] rfl) F
    · replace hw := hw.2 hc
      refine lv_iconst (v := (1 : Int32)) C.ex C.by d_Cert_markedBy_78 (by decide) ?_
      refine lv_goto C.ex C.by d_Cert_markedBy_79 rfl ?_
      exact b_Cert_markedBy_83 C hl _ _ hw _ _ _ _ _ (lv_sub hv [] rfl) F
theorem hm_Cert_markedBy : fx_hd y_Cert_markedBy prog_2_method_18_code 2 (Option.some FieldType.boolean) [] ∈ tables_1 := (fx_m5 (List.mem_of_getElem? (i := 167) rfl))
theorem hi_Cert_markedBy : Cond.initialized y_Cert_markedBy.cls ∈ tables_1 := (fx_m1 (List.mem_of_getElem? (i := 11) rfl))
theorem c_Cert_markedBy {l : Launch} (hl : l.flags = flags0) {D : DD} {Q : Int32 → AH → Prop} {r0 : Nat} {r1 : Nat} {h : AH} (hw : m_Cert_markedBy Q r0 r1 h) : fx_Mt l D y_Cert_markedBy (fx_hd y_Cert_markedBy prog_2_method_18_code 2 (Option.some FieldType.boolean) []) 10 184 [.ref r0, .ref r1] h (fx_oZ Q fx_no) := by
  refine fx_ofW (plainFor_of_name (by decide)) (fun p e s m below meth c C F => ?_)
  have hv := lv_entry ([.ref r0, .ref r1]) (n := 2) (Nat.le_of_ble_eq_true rfl)
  rw [lg_entry_eq]
  generalize (lg_sl ([.ref r0, .ref r1]) ++ List.replicate (2 - (lg_sl ([.ref r0, .ref r1])).length) Slot.unset).toArray = ls at hv ⊢
  have hv : lv_has ls 2 [(0, .ref r0), (1, .ref r1)] := hv
  exact b_Cert_markedBy_0 C hl _ _ _ hw _ _ _ _ _ hv F
/-! ChainJudge$Paths.used(I)Z: frames 0, words 0 -/
abbrev y_Paths_used : MethodName := ⟨"ChainJudge$Paths", "used", "(I)Z"⟩
def dl_Paths_used : List (Nat × Instr × Nat) := [(0, .iconst 0, 1), (1, .istore_n 2, 1), (2, .iload_n 2, 1), (3, .aload_n 0, 1), (4, .getfield 31, 3), (7, .if_icmp .ge 21, 3), (10, .aload_n 0, 1), (11, .getfield 27, 3), (14, .iload_n 2, 1), (15, .iaload, 1), (16, .iload_n 1, 1), (17, .if_icmp .ne 5, 3), (20, .iconst 1, 1), (21, .ireturn, 1), (22, .iinc 2 1, 3), (25, .goto (-23), 3), (28, .iconst 0, 1), (29, .ireturn, 1)]
theorem dk_Paths_used : fx_dec prog_9_method_4_code dl_Paths_used = true := by decide +kernel
theorem d_Paths_used_0 : decode prog_9_method_4_code 0 = .ok (.iconst 0, 1) := fx_dat dk_Paths_used 0 rfl
theorem d_Paths_used_1 : decode prog_9_method_4_code 1 = .ok (.istore_n 2, 1) := fx_dat dk_Paths_used 1 rfl
theorem d_Paths_used_2 : decode prog_9_method_4_code 2 = .ok (.iload_n 2, 1) := fx_dat dk_Paths_used 2 rfl
theorem d_Paths_used_3 : decode prog_9_method_4_code 3 = .ok (.aload_n 0, 1) := fx_dat dk_Paths_used 3 rfl
theorem d_Paths_used_4 : decode prog_9_method_4_code 4 = .ok (.getfield 31, 3) := fx_dat dk_Paths_used 4 rfl
theorem d_Paths_used_7 : decode prog_9_method_4_code 7 = .ok (.if_icmp .ge 21, 3) := fx_dat dk_Paths_used 5 rfl
theorem d_Paths_used_10 : decode prog_9_method_4_code 10 = .ok (.aload_n 0, 1) := fx_dat dk_Paths_used 6 rfl
theorem d_Paths_used_11 : decode prog_9_method_4_code 11 = .ok (.getfield 27, 3) := fx_dat dk_Paths_used 7 rfl
theorem d_Paths_used_14 : decode prog_9_method_4_code 14 = .ok (.iload_n 2, 1) := fx_dat dk_Paths_used 8 rfl
theorem d_Paths_used_15 : decode prog_9_method_4_code 15 = .ok (.iaload, 1) := fx_dat dk_Paths_used 9 rfl
theorem d_Paths_used_16 : decode prog_9_method_4_code 16 = .ok (.iload_n 1, 1) := fx_dat dk_Paths_used 10 rfl
theorem d_Paths_used_17 : decode prog_9_method_4_code 17 = .ok (.if_icmp .ne 5, 3) := fx_dat dk_Paths_used 11 rfl
theorem d_Paths_used_20 : decode prog_9_method_4_code 20 = .ok (.iconst 1, 1) := fx_dat dk_Paths_used 12 rfl
theorem d_Paths_used_21 : decode prog_9_method_4_code 21 = .ok (.ireturn, 1) := fx_dat dk_Paths_used 13 rfl
theorem d_Paths_used_22 : decode prog_9_method_4_code 22 = .ok (.iinc 2 1, 3) := fx_dat dk_Paths_used 14 rfl
theorem d_Paths_used_25 : decode prog_9_method_4_code 25 = .ok (.goto (-23), 3) := fx_dat dk_Paths_used 15 rfl
theorem d_Paths_used_28 : decode prog_9_method_4_code 28 = .ok (.iconst 0, 1) := fx_dat dk_Paths_used 16 rfl
theorem d_Paths_used_29 : decode prog_9_method_4_code 29 = .ok (.ireturn, 1) := fx_dat dk_Paths_used 17 rfl
def m_Paths_used_2_b (Q : Int32 → AH → Prop) (X2 : Int32 × AH → Prop) (r0 : Nat) (x1 : Int32) (x2 : Int32) (h : AH) : Prop := hp_k h r0 = 7 ∧ ((hp_I h r0 6) ≤ x2 → Q (0 : Int32) h) ∧ (¬ (hp_I h r0 6) ≤ x2 → ∃ b1, hp_R h r0 5 = some b1 ∧ ik (hp_k h b1) ∧ vp_in x2 (hp_n h b1) ∧ (¬ (hp_I h b1 x2.toNatClampNeg) = x1 → ∀ v1 : Int32, v1 = (x2 + (1 : Int32)) → X2 (v1, h)) ∧ ((hp_I h b1 x2.toNatClampNeg) = x1 → Q (1 : Int32) h))
def m_Paths_used_2 (Q : Int32 → AH → Prop) (r0 : Nat) (x1 : Int32) (x2 : Int32) (h : AH) : Prop := fx_loop (fun (X2 : Int32 × AH → Prop) (st : Int32 × AH) => m_Paths_used_2_b Q X2 r0 x1 st.1 st.2) (x2, h)
def m_Paths_used (Q : Int32 → AH → Prop) (r0 : Nat) (x1 : Int32) (h : AH) : Prop := m_Paths_used_2 Q r0 x1 (0 : Int32) h
theorem b_Paths_used_2 {p : Program} {l : Launch} {e : Env} {R : Room} {s : State} {m : MethodId} {args : Array Value} {below : List Frame} {meth : Method} {c : Code} {D : DD} {h0 : AH} {Q : Int32 → AH → Prop} (C : fx_CX D y_Paths_used prog_9_method_4_code 3 0 0 (Option.some FieldType.boolean) [] h0 p R s m meth c) (hl : l.flags = flags0) (r0 : Nat) (x1 : Int32) (x2 : Int32) (h : AH) (hw : m_Paths_used_2 Q r0 x1 x2 h) : ∀ (ls : Array Slot) (H : Heap) (locs : List Loc) (cells slots : Nat), lv_has ls 3 [(0, .ref r0), (1, .int x1), (2, .int x2)] → fx_F D h0 h H locs cells slots → W p l e R s m args below meth c H locs cells slots (fx_Z D below s h0 (fx_oZ Q fx_no)) (F0 m 2 ls []) := by
  refine fx_loop.use hw (fun st => ∀ (ls : Array Slot) (H : Heap) (locs : List Loc) (cells slots : Nat), lv_has ls 3 [(0, .ref r0), (1, .int x1), (2, .int st.1)] → fx_F D h0 st.2 H locs cells slots → W p l e R s m args below meth c H locs cells slots (fx_Z D below s h0 (fx_oZ Q fx_no)) (F0 m 2 ls [])) (fun X2 st hX2 hw => ?_)
  obtain ⟨x2, h⟩ := st
  replace hw : m_Paths_used_2_b Q X2 r0 x1 x2 h := hw
  unfold m_Paths_used_2_b at hw
  intro ls H locs cells slots hv F
  refine lv_iload_n C.ex C.by d_Paths_used_2 rfl (lv_at hv 2 rfl) ?_
  refine lv_aload_n C.ex C.by d_Paths_used_3 rfl (lv_at hv 0 rfl) ?_
  obtain ⟨hk1, hw⟩ := hw
  refine fx_getI C F lf_Paths_31 hk1 rfl d_Paths_used_4 ?_
  refine lv_icmp_ge C.ex C.by d_Paths_used_7 rfl (fun hc => ?_) (fun hc => ?_)
  · replace hw := hw.1 hc
    refine lv_iconst (v := (0 : Int32)) C.ex C.by d_Paths_used_28 (by decide) ?_
    exact fx_zret C F d_Paths_used_29 (Or.inl rfl) (Or.inl ⟨_, rfl, Or.inl rfl, hw⟩)
  · replace hw := hw.2 hc
    refine lv_aload_n C.ex C.by d_Paths_used_10 rfl (lv_at hv 0 rfl) ?_
    obtain ⟨b1, hb1, hw⟩ := hw
    refine fx_getR C F lf_Paths_27 hk1 rfl hb1 d_Paths_used_11 ?_
    refine lv_iload_n C.ex C.by d_Paths_used_14 rfl (lv_at hv 2 rfl) ?_
    obtain ⟨hk2, hw⟩ := hw
    obtain ⟨hi1, hw⟩ := hw
    refine fx_iald C F hk2 hi1 d_Paths_used_15 ?_
    refine lv_iload_n C.ex C.by d_Paths_used_16 rfl (lv_at hv 1 rfl) ?_
    refine lv_icmp_ne C.ex C.by d_Paths_used_17 rfl (fun hc => ?_) (fun hc => ?_)
    · replace hw := hw.1 hc
      let v1 : Int32 := (x2 + (1 : Int32))
      replace hw := hw v1 rfl
      refine lv_iinc (v := v1) (k := 2) (lv' := [(2, .int v1), (0, .ref r0), (1, .int x1)]) C.ex C.by d_Paths_used_22 hv rfl (congrArg (fun z => x2 + z) (by decide)) (by decide) rfl (fun ls hv => ?_)
      refine lv_goto C.ex C.by d_Paths_used_25 rfl ?_
      exact hX2 _ hw _ _ _ _ _ (lv_sub hv [1, 2, 0] rfl) F
    · replace hw := hw.2 hc
      refine lv_iconst (v := (1 : Int32)) C.ex C.by d_Paths_used_20 (by decide) ?_
      exact fx_zret C F d_Paths_used_21 (Or.inr rfl) (Or.inl ⟨_, rfl, Or.inr rfl, hw⟩)
theorem b_Paths_used_0 {p : Program} {l : Launch} {e : Env} {R : Room} {s : State} {m : MethodId} {args : Array Value} {below : List Frame} {meth : Method} {c : Code} {D : DD} {h0 : AH} {Q : Int32 → AH → Prop} (C : fx_CX D y_Paths_used prog_9_method_4_code 3 0 0 (Option.some FieldType.boolean) [] h0 p R s m meth c) (hl : l.flags = flags0) (r0 : Nat) (x1 : Int32) (h : AH) (hw : m_Paths_used Q r0 x1 h) : ∀ (ls : Array Slot) (H : Heap) (locs : List Loc) (cells slots : Nat), lv_has ls 3 [(0, .ref r0), (1, .int x1)] → fx_F D h0 h H locs cells slots → W p l e R s m args below meth c H locs cells slots (fx_Z D below s h0 (fx_oZ Q fx_no)) (F0 m 0 ls []) := by
  unfold m_Paths_used at hw
  intro ls H locs cells slots hv F
  refine lv_iconst (v := (0 : Int32)) C.ex C.by d_Paths_used_0 (by decide) ?_
  refine lv_istore_n (lv' := [(2, .int (0 : Int32)), (0, .ref r0), (1, .int x1)]) C.ex C.by d_Paths_used_1 rfl hv (by decide) rfl (fun ls hv => ?_)
  exact b_Paths_used_2 C hl _ _ _ _ hw _ _ _ _ _ (lv_sub hv [1, 2, 0] rfl) F
theorem hm_Paths_used : fx_hd y_Paths_used prog_9_method_4_code 3 (Option.some FieldType.boolean) [] ∈ tables_1 := (fx_m5 (List.mem_of_getElem? (i := 185) rfl))
theorem hi_Paths_used : Cond.initialized y_Paths_used.cls ∈ tables_1 := (fx_m1 (List.mem_of_getElem? (i := 10) rfl))
theorem c_Paths_used {l : Launch} (hl : l.flags = flags0) {D : DD} {Q : Int32 → AH → Prop} {r0 : Nat} {x1 : Int32} {h : AH} (hw : m_Paths_used Q r0 x1 h) : fx_Mt l D y_Paths_used (fx_hd y_Paths_used prog_9_method_4_code 3 (Option.some FieldType.boolean) []) 0 0 [.ref r0, .int x1] h (fx_oZ Q fx_no) := by
  refine fx_ofW (plainFor_of_name (by decide)) (fun p e s m below meth c C F => ?_)
  have hv := lv_entry ([.ref r0, .int x1]) (n := 3) (Nat.le_of_ble_eq_true rfl)
  rw [lg_entry_eq]
  generalize (lg_sl ([.ref r0, .int x1]) ++ List.replicate (3 - (lg_sl ([.ref r0, .int x1])).length) Slot.unset).toArray = ls at hv ⊢
  have hv : lv_has ls 3 [(0, .ref r0), (1, .int x1)] := hv
  exact b_Paths_used_0 C hl _ _ _ hw _ _ _ _ _ hv F
/-! ChainJudge$Paths.next(LChainJudge$Certificate;)I: frames 11, words 197 -/
abbrev y_Paths_next : MethodName := ⟨"ChainJudge$Paths", "next", "(LChainJudge$Certificate;)I"⟩
theorem lm_Paths_62 : Cond.methodLink "ChainJudge$Paths" 62 y_Paths_used ∈ tables_1 ∨ ∃ host, Cond.methodLinkNest "ChainJudge$Paths" 62 y_Paths_used host ∈ tables_1 := Or.inl (fx_m5 (List.mem_of_getElem? (i := 182) rfl))
theorem lm_Paths_66 : Cond.methodLink "ChainJudge$Paths" 66 y_Cert_issuedBy ∈ tables_1 ∨ ∃ host, Cond.methodLinkNest "ChainJudge$Paths" 66 y_Cert_issuedBy host ∈ tables_1 := Or.inl (fx_m5 (List.mem_of_getElem? (i := 160) rfl))
theorem lm_Paths_70 : Cond.methodLink "ChainJudge$Paths" 70 y_Cert_markedBy ∈ tables_1 ∨ ∃ host, Cond.methodLinkNest "ChainJudge$Paths" 70 y_Cert_markedBy host ∈ tables_1 := Or.inl (fx_m5 (List.mem_of_getElem? (i := 164) rfl))
section
variable {p : Program} {l : Launch} {e : Env} {R : Room} {s : State} {m : MethodId} {args : Array Value} {below : List Frame} {meth : Method} {c : Code} {H : Heap} {locs : List Loc} {cells slots : Nat}
variable {D : DD} {y : MethodName} {cc : ByteArray} {nL kf kw : Nat} {ret : Option FieldType} {hh : List (Nat × Nat × Nat × Nat)} {h0 h : AH} {pc : Nat} {ls : Array Slot} {rest : List Value} {b idx : Nat}
theorem iv_Cert_issuedBy {r1 : Nat} (C : fx_CX D y cc nL kf kw ret hh h0 p R s m meth c) (F : fx_F D h0 h H locs cells slots) (hw1 : Cond.methodLink y.cls idx y_Cert_issuedBy ∈ tables_1 ∨ ∃ host, Cond.methodLinkNest y.cls idx y_Cert_issuedBy host ∈ tables_1) (hk : hp_k h b = 8) (hd : decode cc pc = .ok (.invokevirtual idx, 3)) : fx_IV p l e R s m args below meth c H locs cells slots (F0 m pc ls (.ref r1 :: .ref b :: rest)) rest y_Cert_issuedBy [.ref b, .ref r1] 3 := fun T hT X => fx_invV (As := [.ref r1]) (Cn := "ChainJudge$Certificate") C X hw1 (fx_m5 (List.mem_of_getElem? (i := 161) rfl)) (fx_selW C (fx_m5 (List.mem_of_getElem? (i := 162) rfl))) hm_Cert_issuedBy ⟨by decide, by decide⟩ (by rw [hT]; exact fx_clsO (ci := 7) (r := ("ChainJudge$Certificate", fx_T7, 29)) C F rfl (by decide) hk) rfl (n := 1) (by decide +kernel) rfl rfl hd
theorem iv_Cert_markedBy {r1 : Nat} (C : fx_CX D y cc nL kf kw ret hh h0 p R s m meth c) (F : fx_F D h0 h H locs cells slots) (hw1 : Cond.methodLink y.cls idx y_Cert_markedBy ∈ tables_1 ∨ ∃ host, Cond.methodLinkNest y.cls idx y_Cert_markedBy host ∈ tables_1) (hk : hp_k h b = 8) (hd : decode cc pc = .ok (.invokevirtual idx, 3)) : fx_IV p l e R s m args below meth c H locs cells slots (F0 m pc ls (.ref r1 :: .ref b :: rest)) rest y_Cert_markedBy [.ref b, .ref r1] 3 := fun T hT X => fx_invV (As := [.ref r1]) (Cn := "ChainJudge$Certificate") C X hw1 (fx_m5 (List.mem_of_getElem? (i := 165) rfl)) (fx_selW C (fx_m5 (List.mem_of_getElem? (i := 166) rfl))) hm_Cert_markedBy ⟨by decide, by decide⟩ (by rw [hT]; exact fx_clsO (ci := 7) (r := ("ChainJudge$Certificate", fx_T7, 29)) C F rfl (by decide) hk) rfl (n := 1) (by decide +kernel) rfl rfl hd
theorem iv_Paths_used {x1 : Int32} (C : fx_CX D y cc nL kf kw ret hh h0 p R s m meth c) (F : fx_F D h0 h H locs cells slots) (hw1 : Cond.methodLink y.cls idx y_Paths_used ∈ tables_1 ∨ ∃ host, Cond.methodLinkNest y.cls idx y_Paths_used host ∈ tables_1) (hk : hp_k h b = 7) (hd : decode cc pc = .ok (.invokevirtual idx, 3)) : fx_IV p l e R s m args below meth c H locs cells slots (F0 m pc ls (.int x1 :: .ref b :: rest)) rest y_Paths_used [.ref b, .int x1] 3 := fun T hT X => fx_invV (As := [.int x1]) (Cn := "ChainJudge$Paths") C X hw1 (fx_m5 (List.mem_of_getElem? (i := 184) rfl)) (fx_selP C ⟨by decide, by decide⟩ (fx_m1 (List.mem_of_getElem? (i := 160) rfl)) (fx_m5 (List.mem_of_getElem? (i := 183) rfl)) (fx_m5 (List.mem_of_getElem? (i := 184) rfl))) hm_Paths_used ⟨by decide, by decide⟩ (by rw [hT]; exact fx_clsO (ci := 6) (r := ("ChainJudge$Paths", fx_T6, 8)) C F rfl (by decide) hk) rfl (n := 1) (by decide +kernel) rfl rfl hd
end
def dl_Paths_next : List (Nat × Instr × Nat) := [(0, .iconst 0, 1), (1, .istore_n 2, 1), (2, .iconst 0, 1), (3, .istore_n 3, 1), (4, .iload_n 3, 1), (5, .aload_n 0, 1), (6, .getfield 19, 3), (9, .if_icmp .ge 60, 3), (12, .aload_n 0, 1), (13, .iload_n 3, 1), (14, .invokevirtual 62, 3), (17, .ifCond .ne 46, 3), (20, .aload_n 1, 1), (21, .aload_n 0, 1), (22, .getfield 10, 3), (25, .iload_n 3, 1), (26, .invokevirtual 54, 3), (29, .checkcast 45, 3), (32, .invokevirtual 66, 3), (35, .ifCond .ne 6, 3), (38, .goto 25, 3), (41, .iconst 1, 1), (42, .istore_n 2, 1), (43, .aload_n 1, 1), (44, .aload_n 0, 1), (45, .getfield 10, 3), (48, .iload_n 3, 1), (49, .invokevirtual 54, 3), (52, .checkcast 45, 3), (55, .invokevirtual 70, 3), (58, .ifCond .eq 5, 3), (61, .iload_n 3, 1), (62, .ireturn, 1), (63, .iinc 3 1, 3), (66, .goto (-62), 3), (69, .iload_n 2, 1), (70, .ifCond .eq 8, 3), (73, .bipush (-2), 2), (75, .goto 4, 3), (78, .iconst (-1), 1), (79, .ireturn, 1)]
theorem dk_Paths_next : fx_dec prog_9_method_5_code dl_Paths_next = true := by decide +kernel
theorem d_Paths_next_0 : decode prog_9_method_5_code 0 = .ok (.iconst 0, 1) := fx_dat dk_Paths_next 0 rfl
theorem d_Paths_next_1 : decode prog_9_method_5_code 1 = .ok (.istore_n 2, 1) := fx_dat dk_Paths_next 1 rfl
theorem d_Paths_next_2 : decode prog_9_method_5_code 2 = .ok (.iconst 0, 1) := fx_dat dk_Paths_next 2 rfl
theorem d_Paths_next_3 : decode prog_9_method_5_code 3 = .ok (.istore_n 3, 1) := fx_dat dk_Paths_next 3 rfl
theorem d_Paths_next_4 : decode prog_9_method_5_code 4 = .ok (.iload_n 3, 1) := fx_dat dk_Paths_next 4 rfl
theorem d_Paths_next_5 : decode prog_9_method_5_code 5 = .ok (.aload_n 0, 1) := fx_dat dk_Paths_next 5 rfl
theorem d_Paths_next_6 : decode prog_9_method_5_code 6 = .ok (.getfield 19, 3) := fx_dat dk_Paths_next 6 rfl
theorem d_Paths_next_9 : decode prog_9_method_5_code 9 = .ok (.if_icmp .ge 60, 3) := fx_dat dk_Paths_next 7 rfl
theorem d_Paths_next_12 : decode prog_9_method_5_code 12 = .ok (.aload_n 0, 1) := fx_dat dk_Paths_next 8 rfl
theorem d_Paths_next_13 : decode prog_9_method_5_code 13 = .ok (.iload_n 3, 1) := fx_dat dk_Paths_next 9 rfl
theorem d_Paths_next_14 : decode prog_9_method_5_code 14 = .ok (.invokevirtual 62, 3) := fx_dat dk_Paths_next 10 rfl
theorem d_Paths_next_17 : decode prog_9_method_5_code 17 = .ok (.ifCond .ne 46, 3) := fx_dat dk_Paths_next 11 rfl
theorem d_Paths_next_20 : decode prog_9_method_5_code 20 = .ok (.aload_n 1, 1) := fx_dat dk_Paths_next 12 rfl
theorem d_Paths_next_21 : decode prog_9_method_5_code 21 = .ok (.aload_n 0, 1) := fx_dat dk_Paths_next 13 rfl
theorem d_Paths_next_22 : decode prog_9_method_5_code 22 = .ok (.getfield 10, 3) := fx_dat dk_Paths_next 14 rfl
theorem d_Paths_next_25 : decode prog_9_method_5_code 25 = .ok (.iload_n 3, 1) := fx_dat dk_Paths_next 15 rfl
theorem d_Paths_next_26 : decode prog_9_method_5_code 26 = .ok (.invokevirtual 54, 3) := fx_dat dk_Paths_next 16 rfl
theorem d_Paths_next_29 : decode prog_9_method_5_code 29 = .ok (.checkcast 45, 3) := fx_dat dk_Paths_next 17 rfl
theorem d_Paths_next_32 : decode prog_9_method_5_code 32 = .ok (.invokevirtual 66, 3) := fx_dat dk_Paths_next 18 rfl
theorem d_Paths_next_35 : decode prog_9_method_5_code 35 = .ok (.ifCond .ne 6, 3) := fx_dat dk_Paths_next 19 rfl
theorem d_Paths_next_38 : decode prog_9_method_5_code 38 = .ok (.goto 25, 3) := fx_dat dk_Paths_next 20 rfl
theorem d_Paths_next_41 : decode prog_9_method_5_code 41 = .ok (.iconst 1, 1) := fx_dat dk_Paths_next 21 rfl
theorem d_Paths_next_42 : decode prog_9_method_5_code 42 = .ok (.istore_n 2, 1) := fx_dat dk_Paths_next 22 rfl
theorem d_Paths_next_43 : decode prog_9_method_5_code 43 = .ok (.aload_n 1, 1) := fx_dat dk_Paths_next 23 rfl
theorem d_Paths_next_44 : decode prog_9_method_5_code 44 = .ok (.aload_n 0, 1) := fx_dat dk_Paths_next 24 rfl
theorem d_Paths_next_45 : decode prog_9_method_5_code 45 = .ok (.getfield 10, 3) := fx_dat dk_Paths_next 25 rfl
theorem d_Paths_next_48 : decode prog_9_method_5_code 48 = .ok (.iload_n 3, 1) := fx_dat dk_Paths_next 26 rfl
theorem d_Paths_next_49 : decode prog_9_method_5_code 49 = .ok (.invokevirtual 54, 3) := fx_dat dk_Paths_next 27 rfl
theorem d_Paths_next_52 : decode prog_9_method_5_code 52 = .ok (.checkcast 45, 3) := fx_dat dk_Paths_next 28 rfl
theorem d_Paths_next_55 : decode prog_9_method_5_code 55 = .ok (.invokevirtual 70, 3) := fx_dat dk_Paths_next 29 rfl
theorem d_Paths_next_58 : decode prog_9_method_5_code 58 = .ok (.ifCond .eq 5, 3) := fx_dat dk_Paths_next 30 rfl
theorem d_Paths_next_61 : decode prog_9_method_5_code 61 = .ok (.iload_n 3, 1) := fx_dat dk_Paths_next 31 rfl
theorem d_Paths_next_62 : decode prog_9_method_5_code 62 = .ok (.ireturn, 1) := fx_dat dk_Paths_next 32 rfl
theorem d_Paths_next_63 : decode prog_9_method_5_code 63 = .ok (.iinc 3 1, 3) := fx_dat dk_Paths_next 33 rfl
theorem d_Paths_next_66 : decode prog_9_method_5_code 66 = .ok (.goto (-62), 3) := fx_dat dk_Paths_next 34 rfl
theorem d_Paths_next_69 : decode prog_9_method_5_code 69 = .ok (.iload_n 2, 1) := fx_dat dk_Paths_next 35 rfl
theorem d_Paths_next_70 : decode prog_9_method_5_code 70 = .ok (.ifCond .eq 8, 3) := fx_dat dk_Paths_next 36 rfl
theorem d_Paths_next_73 : decode prog_9_method_5_code 73 = .ok (.bipush (-2), 2) := fx_dat dk_Paths_next 37 rfl
theorem d_Paths_next_75 : decode prog_9_method_5_code 75 = .ok (.goto 4, 3) := fx_dat dk_Paths_next 38 rfl
theorem d_Paths_next_78 : decode prog_9_method_5_code 78 = .ok (.iconst (-1), 1) := fx_dat dk_Paths_next 39 rfl
theorem d_Paths_next_79 : decode prog_9_method_5_code 79 = .ok (.ireturn, 1) := fx_dat dk_Paths_next 40 rfl
def m_Paths_next_79 (Q : Int32 → AH → Prop) (sx0 : Int32) (h : AH) : Prop := Q sx0 h
def m_Paths_next_63 (Q : Int32 → AH → Prop) (X4 : Int32 × Int32 × AH → Prop) (r0 : Nat) (r1 : Nat) (x2 : Int32) (x3 : Int32) (h : AH) : Prop := ∀ v1 : Int32, v1 = (x3 + (1 : Int32)) → X4 (x2, v1, h)
def m_Paths_next_4_b (Q : Int32 → AH → Prop) (X4 : Int32 × Int32 × AH → Prop) (r0 : Nat) (r1 : Nat) (x2 : Int32) (x3 : Int32) (h : AH) : Prop := hp_k h r0 = 7 ∧ ((hp_I h r0 3) ≤ x3 → (x2 = 0 → m_Paths_next_79 Q (-1 : Int32) h) ∧ (¬ x2 = 0 → m_Paths_next_79 Q (-2 : Int32) h)) ∧ (¬ (hp_I h r0 3) ≤ x3 → m_Paths_used (fun v1 h1 => fx_ext h h1 → zb v1 → (¬ v1 = 0 → m_Paths_next_63 Q X4 r0 r1 x2 x3 h1) ∧ (v1 = 0 → ∃ b1, hp_R h1 r0 1 = some b1 ∧ hp_k h1 b1 = 12 ∧ m_AL_get (fun q1 h2 => fx_ext h1 h2 → hp_k h2 q1 = 8 ∧ hp_k h2 r1 = 8 ∧ m_Cert_issuedBy (fun v2 h3 => fx_ext h2 h3 → zb v2 → (¬ v2 = 0 → ∃ b2, hp_R h3 r0 1 = some b2 ∧ hp_k h3 b2 = 12 ∧ m_AL_get (fun q2 h4 => fx_ext h3 h4 → hp_k h4 q2 = 8 ∧ m_Cert_markedBy (fun v3 h5 => fx_ext h4 h5 → zb v3 → (v3 = 0 → m_Paths_next_63 Q X4 r0 r1 (1 : Int32) x3 h5) ∧ (¬ v3 = 0 → Q x3 h5)) r1 q2 h4) b2 x3 h3) ∧ (v2 = 0 → m_Paths_next_63 Q X4 r0 r1 x2 x3 h3)) r1 q1 h2) b1 x3 h1)) r0 x3 h)
def m_Paths_next_4 (Q : Int32 → AH → Prop) (r0 : Nat) (r1 : Nat) (x2 : Int32) (x3 : Int32) (h : AH) : Prop := fx_loop (fun (X4 : Int32 × Int32 × AH → Prop) (st : Int32 × Int32 × AH) => m_Paths_next_4_b Q X4 r0 r1 st.1 st.2.1 st.2.2) (x2, x3, h)
def m_Paths_next (Q : Int32 → AH → Prop) (r0 : Nat) (r1 : Nat) (h : AH) : Prop := m_Paths_next_4 Q r0 r1 (0 : Int32) (0 : Int32) h
theorem b_Paths_next_79 {p : Program} {l : Launch} {e : Env} {R : Room} {s : State} {m : MethodId} {args : Array Value} {below : List Frame} {meth : Method} {c : Code} {D : DD} {h0 : AH} {Q : Int32 → AH → Prop} (C : fx_CX D y_Paths_next prog_9_method_5_code 4 11 197 (Option.some FieldType.int) [] h0 p R s m meth c) (hl : l.flags = flags0) (sx0 : Int32) (h : AH) (hw : m_Paths_next_79 Q sx0 h) : ∀ (ls : Array Slot) (H : Heap) (locs : List Loc) (cells slots : Nat), lv_has ls 4 [] → fx_F D h0 h H locs cells slots → W p l e R s m args below meth c H locs cells slots (fx_Z D below s h0 (fx_oI Q fx_no)) (F0 m 79 ls [.int sx0]) := by
  unfold m_Paths_next_79 at hw
  intro ls H locs cells slots hv F
  exact fx_iret C F d_Paths_next_79 (Or.inl ⟨_, rfl, hw⟩)
theorem b_Paths_next_63 {p : Program} {l : Launch} {e : Env} {R : Room} {s : State} {m : MethodId} {args : Array Value} {below : List Frame} {meth : Method} {c : Code} {D : DD} {h0 : AH} {Q : Int32 → AH → Prop} {X4 : Int32 × Int32 × AH → Prop} (C : fx_CX D y_Paths_next prog_9_method_5_code 4 11 197 (Option.some FieldType.int) [] h0 p R s m meth c) (hl : l.flags = flags0) (r0 : Nat) (r1 : Nat) (x2 : Int32) (x3 : Int32) (h : AH) (hX4 : ∀ st, X4 st → ∀ (ls : Array Slot) (H : Heap) (locs : List Loc) (cells slots : Nat), lv_has ls 4 [(0, .ref r0), (1, .ref r1), (2, .int st.1), (3, .int st.2.1)] → fx_F D h0 st.2.2 H locs cells slots → W p l e R s m args below meth c H locs cells slots (fx_Z D below s h0 (fx_oI Q fx_no)) (F0 m 4 ls [])) (hw : m_Paths_next_63 Q X4 r0 r1 x2 x3 h) : ∀ (ls : Array Slot) (H : Heap) (locs : List Loc) (cells slots : Nat), lv_has ls 4 [(0, .ref r0), (1, .ref r1), (2, .int x2), (3, .int x3)] → fx_F D h0 h H locs cells slots → W p l e R s m args below meth c H locs cells slots (fx_Z D below s h0 (fx_oI Q fx_no)) (F0 m 63 ls []) := by
  unfold m_Paths_next_63 at hw
  intro ls H locs cells slots hv F
  let v1 : Int32 := (x3 + (1 : Int32))
  replace hw := hw v1 rfl
  refine lv_iinc (v := v1) (k := 3) (lv' := [(3, .int v1), (0, .ref r0), (1, .ref r1), (2, .int x2)]) C.ex C.by d_Paths_next_63 hv rfl (congrArg (fun z => x3 + z) (by decide)) (by decide) rfl (fun ls hv => ?_)
  refine lv_goto C.ex C.by d_Paths_next_66 rfl ?_
  exact hX4 _ hw _ _ _ _ _ (lv_sub hv [1, 2, 3, 0] rfl) F
theorem b_Paths_next_4 {p : Program} {l : Launch} {e : Env} {R : Room} {s : State} {m : MethodId} {args : Array Value} {below : List Frame} {meth : Method} {c : Code} {D : DD} {h0 : AH} {Q : Int32 → AH → Prop} (C : fx_CX D y_Paths_next prog_9_method_5_code 4 11 197 (Option.some FieldType.int) [] h0 p R s m meth c) (hl : l.flags = flags0) (r0 : Nat) (r1 : Nat) (x2 : Int32) (x3 : Int32) (h : AH) (hw : m_Paths_next_4 Q r0 r1 x2 x3 h) : ∀ (ls : Array Slot) (H : Heap) (locs : List Loc) (cells slots : Nat), lv_has ls 4 [(0, .ref r0), (1, .ref r1), (2, .int x2), (3, .int x3)] → fx_F D h0 h H locs cells slots → W p l e R s m args below meth c H locs cells slots (fx_Z D below s h0 (fx_oI Q fx_no)) (F0 m 4 ls []) := by
  refine fx_loop.use hw (fun st => ∀ (ls : Array Slot) (H : Heap) (locs : List Loc) (cells slots : Nat), lv_has ls 4 [(0, .ref r0), (1, .ref r1), (2, .int st.1), (3, .int st.2.1)] → fx_F D h0 st.2.2 H locs cells slots → W p l e R s m args below meth c H locs cells slots (fx_Z D below s h0 (fx_oI Q fx_no)) (F0 m 4 ls [])) (fun X4 st hX4 hw => ?_)
  obtain ⟨x2, x3, h⟩ := st
  replace hw : m_Paths_next_4_b Q X4 r0 r1 x2 x3 h := hw
  unfold m_Paths_next_4_b at hw
  intro ls H locs cells slots hv F
  refine lv_iload_n C.ex C.by d_Paths_next_4 rfl (lv_at hv 3 rfl) ?_
  refine lv_aload_n C.ex C.by d_Paths_next_5 rfl (lv_at hv 0 rfl) ?_
  obtain ⟨hk1, hw⟩ := hw
  refine fx_getI C F lf_Paths_19 hk1 rfl d_Paths_next_6 ?_
  refine lv_icmp_ge C.ex C.by d_Paths_next_9 rfl (fun hc => ?_) (fun hc => ?_)
  · replace hw := hw.1 hc
    refine lv_iload_n C.ex C.by d_Paths_next_69 rfl (lv_at hv 2 rfl) ?_
    refine lv_if_eq C.ex C.by d_Paths_next_70 rfl (fun hc => ?_) (fun hc => ?_)
    · replace hw := hw.1 hc
      refine lv_iconst (v := (-1 : Int32)) C.ex C.by d_Paths_next_78 (by decide) ?_
      exact b_Paths_next_79 C hl _ _ hw _ _ _ _ _ (lv_sub hv [] rfl) F
    · replace hw := hw.2 hc
      refine lv_bipush (v := (-2 : Int32)) C.ex C.by d_Paths_next_73 (by decide) ?_
      refine lv_goto C.ex C.by d_Paths_next_75 rfl ?_
      exact b_Paths_next_79 C hl _ _ hw _ _ _ _ _ (lv_sub hv [] rfl) F
  · replace hw := hw.2 hc
    refine lv_aload_n C.ex C.by d_Paths_next_12 rfl (lv_at hv 0 rfl) ?_
    refine lv_iload_n C.ex C.by d_Paths_next_13 rfl (lv_at hv 3 rfl) ?_
    refine fx_callZ C F (c_Paths_used hl hw) hm_Paths_used hi_Paths_used hv.1 (by decide) (Nat.le_of_ble_eq_true rfl) (iv_Paths_used C F lm_Paths_62 hk1 d_Paths_next_14) (fx_out0 _) fx_eno (fun v1 h1 H locs cells slots hw hx1 hzb F => ?_)
    replace hw := hw hx1 hzb
    have hk1 := (hx1).k hk1
    refine lv_if_ne C.ex C.by d_Paths_next_17 rfl (fun hc => ?_) (fun hc => ?_)
    · replace hw := hw.1 hc
      exact b_Paths_next_63 C hl _ _ _ _ _ hX4 hw _ _ _ _ _ hv F
    · replace hw := hw.2 hc
      refine lv_aload_n C.ex C.by d_Paths_next_20 rfl (lv_at hv 1 rfl) ?_
      refine lv_aload_n C.ex C.by d_Paths_next_21 rfl (lv_at hv 0 rfl) ?_
      obtain ⟨b1, hb1, hw⟩ := hw
      refine fx_getR C F lf_Paths_10 hk1 rfl hb1 d_Paths_next_22 ?_
      refine lv_iload_n C.ex C.by d_Paths_next_25 rfl (lv_at hv 3 rfl) ?_
      obtain ⟨hk2, hw⟩ := hw
      refine fx_callR C F (c_AL_get hl hw) hm_AL_get hi_AL_get hv.1 (by decide) (Nat.le_of_ble_eq_true rfl) (iv_AL_get C F lm_Paths_54 hk2 d_Paths_next_26) (fx_out0 _) fx_eno (fun q1 h2 H locs cells slots hw hx2 F => ?_)
      replace hw := hw hx2
      have hk2 := (hx2).k hk2
      have hk1 := (hx2).k hk1
      obtain ⟨hk3, hw⟩ := hw
      refine fx_cast (ci := 7) (r := ("ChainJudge$Certificate", fx_T7, 29)) (nm := "ChainJudge$Certificate") C F rfl (by decide) hk3 (fx_m5 (List.mem_of_getElem? (i := 146) rfl)) (fx_m8 (List.mem_of_getElem? (i := 8) rfl)) d_Paths_next_29 ?_
      obtain ⟨hk4, hw⟩ := hw
      refine fx_callZ C F (c_Cert_issuedBy hl hw) hm_Cert_issuedBy hi_Cert_issuedBy hv.1 (by decide) (Nat.le_of_ble_eq_true rfl) (iv_Cert_issuedBy C F lm_Paths_66 hk4 d_Paths_next_32) (fx_out0 _) fx_eno (fun v2 h3 H locs cells slots hw hx3 hzb F => ?_)
      replace hw := hw hx3 hzb
      have hk2 := (hx3).k hk2
      have hk3 := (hx3).k hk3
      have hk1 := (hx3).k hk1
      have hk4 := (hx3).k hk4
      refine lv_if_ne C.ex C.by d_Paths_next_35 rfl (fun hc => ?_) (fun hc => ?_)
      · replace hw := hw.1 hc
        refine lv_iconst (v := (1 : Int32)) C.ex C.by d_Paths_next_41 (by decide) ?_
        refine lv_istore_n (lv' := [(2, .int (1 : Int32)), (0, .ref r0), (1, .ref r1), (3, .int x3)]) C.ex C.by d_Paths_next_42 rfl hv (by decide) rfl (fun ls hv => ?_)
        refine lv_aload_n C.ex C.by d_Paths_next_43 rfl (lv_at hv 2 rfl) ?_
        refine lv_aload_n C.ex C.by d_Paths_next_44 rfl (lv_at hv 1 rfl) ?_
        obtain ⟨b2, hb2, hw⟩ := hw
        refine fx_getR C F lf_Paths_10 hk1 rfl hb2 d_Paths_next_45 ?_
        refine lv_iload_n C.ex C.by d_Paths_next_48 rfl (lv_at hv 3 rfl) ?_
        obtain ⟨hk5, hw⟩ := hw
        refine fx_callR C F (c_AL_get hl hw) hm_AL_get hi_AL_get hv.1 (by decide) (Nat.le_of_ble_eq_true rfl) (iv_AL_get C F lm_Paths_54 hk5 d_Paths_next_49) (fx_out0 _) fx_eno (fun q2 h4 H locs cells slots hw hx4 F => ?_)
        replace hw := hw hx4
        have hk2 := (hx4).k hk2
        have hk5 := (hx4).k hk5
        have hk3 := (hx4).k hk3
        have hk1 := (hx4).k hk1
        have hk4 := (hx4).k hk4
        obtain ⟨hk6, hw⟩ := hw
        refine fx_cast (ci := 7) (r := ("ChainJudge$Certificate", fx_T7, 29)) (nm := "ChainJudge$Certificate") C F rfl (by decide) hk6 (fx_m5 (List.mem_of_getElem? (i := 146) rfl)) (fx_m8 (List.mem_of_getElem? (i := 8) rfl)) d_Paths_next_52 ?_
        refine fx_callZ C F (c_Cert_markedBy hl hw) hm_Cert_markedBy hi_Cert_markedBy hv.1 (by decide) (Nat.le_of_ble_eq_true rfl) (iv_Cert_markedBy C F lm_Paths_70 hk4 d_Paths_next_55) (fx_out0 _) fx_eno (fun v3 h5 H locs cells slots hw hx5 hzb F => ?_)
        replace hw := hw hx5 hzb
        have hk2 := (hx5).k hk2
        have hk5 := (hx5).k hk5
        have hk3 := (hx5).k hk3
        have hk6 := (hx5).k hk6
        have hk1 := (hx5).k hk1
        have hk4 := (hx5).k hk4
        refine lv_if_eq C.ex C.by d_Paths_next_58 rfl (fun hc => ?_) (fun hc => ?_)
        · replace hw := hw.1 hc
          exact b_Paths_next_63 C hl _ _ _ _ _ hX4 hw _ _ _ _ _ (lv_sub hv [1, 2, 0, 3] rfl) F
        · replace hw := hw.2 hc
          refine lv_iload_n C.ex C.by d_Paths_next_61 rfl (lv_at hv 3 rfl) ?_
          exact fx_iret C F d_Paths_next_62 (Or.inl ⟨_, rfl, hw⟩)
      · replace hw := hw.2 hc
        refine lv_goto C.ex C.by d_Paths_next_38 rfl ?_
        exact b_Paths_next_63 C hl _ _ _ _ _ hX4 hw _ _ _ _ _ hv F
theorem b_Paths_next_0 {p : Program} {l : Launch} {e : Env} {R : Room} {s : State} {m : MethodId} {args : Array Value} {below : List Frame} {meth : Method} {c : Code} {D : DD} {h0 : AH} {Q : Int32 → AH → Prop} (C : fx_CX D y_Paths_next prog_9_method_5_code 4 11 197 (Option.some FieldType.int) [] h0 p R s m meth c) (hl : l.flags = flags0) (r0 : Nat) (r1 : Nat) (h : AH) (hw : m_Paths_next Q r0 r1 h) : ∀ (ls : Array Slot) (H : Heap) (locs : List Loc) (cells slots : Nat), lv_has ls 4 [(0, .ref r0), (1, .ref r1)] → fx_F D h0 h H locs cells slots → W p l e R s m args below meth c H locs cells slots (fx_Z D below s h0 (fx_oI Q fx_no)) (F0 m 0 ls []) := by
  unfold m_Paths_next at hw
  intro ls H locs cells slots hv F
  refine lv_iconst (v := (0 : Int32)) C.ex C.by d_Paths_next_0 (by decide) ?_
  refine lv_istore_n (lv' := [(2, .int (0 : Int32)), (0, .ref r0), (1, .ref r1)]) C.ex C.by d_Paths_next_1 rfl hv (by decide) rfl (fun ls hv => ?_)
  refine lv_iconst (v := (0 : Int32)) C.ex C.by d_Paths_next_2 (by decide) ?_
  refine lv_istore_n (lv' := [(3, .int (0 : Int32)), (2, .int (0 : Int32)), (0, .ref r0), (1, .ref r1)]) C.ex C.by d_Paths_next_3 rfl hv (by decide) rfl (fun ls hv => ?_)
  exact b_Paths_next_4 C hl _ _ _ _ _ hw _ _ _ _ _ (lv_sub hv [2, 3, 1, 0] rfl) F
theorem hm_Paths_next : fx_hd y_Paths_next prog_9_method_5_code 4 (Option.some FieldType.int) [] ∈ tables_1 := (fx_m5 (List.mem_of_getElem? (i := 181) rfl))
theorem hi_Paths_next : Cond.initialized y_Paths_next.cls ∈ tables_1 := (fx_m1 (List.mem_of_getElem? (i := 10) rfl))
theorem c_Paths_next {l : Launch} (hl : l.flags = flags0) {D : DD} {Q : Int32 → AH → Prop} {r0 : Nat} {r1 : Nat} {h : AH} (hw : m_Paths_next Q r0 r1 h) : fx_Mt l D y_Paths_next (fx_hd y_Paths_next prog_9_method_5_code 4 (Option.some FieldType.int) []) 11 197 [.ref r0, .ref r1] h (fx_oI Q fx_no) := by
  refine fx_ofW (plainFor_of_name (by decide)) (fun p e s m below meth c C F => ?_)
  have hv := lv_entry ([.ref r0, .ref r1]) (n := 4) (Nat.le_of_ble_eq_true rfl)
  rw [lg_entry_eq]
  generalize (lg_sl ([.ref r0, .ref r1]) ++ List.replicate (4 - (lg_sl ([.ref r0, .ref r1])).length) Slot.unset).toArray = ls at hv ⊢
  have hv : lv_has ls 4 [(0, .ref r0), (1, .ref r1)] := hv
  exact b_Paths_next_0 C hl _ _ _ hw _ _ _ _ _ hv F
/-! ChainJudge$Paths.find()I: frames 12, words 212 -/
abbrev y_Paths_find : MethodName := ⟨"ChainJudge$Paths", "find", "()I"⟩
theorem lm_Paths_73 : Cond.methodLink "ChainJudge$Paths" 73 y_Paths_next ∈ tables_1 ∨ ∃ host, Cond.methodLinkNest "ChainJudge$Paths" 73 y_Paths_next host ∈ tables_1 := Or.inl (fx_m5 (List.mem_of_getElem? (i := 178) rfl))
section
variable {p : Program} {l : Launch} {e : Env} {R : Room} {s : State} {m : MethodId} {args : Array Value} {below : List Frame} {meth : Method} {c : Code} {H : Heap} {locs : List Loc} {cells slots : Nat}
variable {D : DD} {y : MethodName} {cc : ByteArray} {nL kf kw : Nat} {ret : Option FieldType} {hh : List (Nat × Nat × Nat × Nat)} {h0 h : AH} {pc : Nat} {ls : Array Slot} {rest : List Value} {b idx : Nat}
theorem iv_Paths_next {r1 : Nat} (C : fx_CX D y cc nL kf kw ret hh h0 p R s m meth c) (F : fx_F D h0 h H locs cells slots) (hw1 : Cond.methodLink y.cls idx y_Paths_next ∈ tables_1 ∨ ∃ host, Cond.methodLinkNest y.cls idx y_Paths_next host ∈ tables_1) (hk : hp_k h b = 7) (hd : decode cc pc = .ok (.invokevirtual idx, 3)) : fx_IV p l e R s m args below meth c H locs cells slots (F0 m pc ls (.ref r1 :: .ref b :: rest)) rest y_Paths_next [.ref b, .ref r1] 3 := fun T hT X => fx_invV (As := [.ref r1]) (Cn := "ChainJudge$Paths") C X hw1 (fx_m5 (List.mem_of_getElem? (i := 180) rfl)) (fx_selP C ⟨by decide, by decide⟩ (fx_m1 (List.mem_of_getElem? (i := 160) rfl)) (fx_m5 (List.mem_of_getElem? (i := 179) rfl)) (fx_m5 (List.mem_of_getElem? (i := 180) rfl))) hm_Paths_next ⟨by decide, by decide⟩ (by rw [hT]; exact fx_clsO (ci := 6) (r := ("ChainJudge$Paths", fx_T6, 8)) C F rfl (by decide) hk) rfl (n := 1) (by decide +kernel) rfl rfl hd
end
def dl_Paths_find : List (Nat × Instr × Nat) := [(0, .aload_n 0, 1), (1, .getfield 27, 3), (4, .iconst 0, 1), (5, .iconst 0, 1), (6, .iastore, 1), (7, .aload_n 0, 1), (8, .iconst 1, 1), (9, .putfield 31, 3), (12, .aload_n 0, 1), (13, .getfield 10, 3), (16, .aload_n 0, 1), (17, .getfield 27, 3), (20, .aload_n 0, 1), (21, .getfield 31, 3), (24, .iconst 1, 1), (25, .isub, 1), (26, .iaload, 1), (27, .invokevirtual 54, 3), (30, .checkcast 45, 3), (33, .astore_n 1, 1), (34, .iconst 0, 1), (35, .istore_n 2, 1), (36, .iconst 0, 1), (37, .istore_n 3, 1), (38, .iload_n 3, 1), (39, .aload_n 0, 1), (40, .getfield 16, 3), (43, .invokevirtual 42, 3), (46, .if_icmp .ge 56, 3), (49, .aload_n 0, 1), (50, .getfield 16, 3), (53, .iload_n 3, 1), (54, .invokevirtual 54, 3), (57, .checkcast 45, 3), (60, .astore 4, 2), (62, .aload_n 1, 1), (63, .aload 4, 2), (65, .invokevirtual 66, 3), (68, .ifCond .ne 6, 3), (71, .goto 25, 3), (74, .iconst 1, 1), (75, .istore_n 2, 1), (76, .aload_n 1, 1), (77, .aload 4, 2), (79, .invokevirtual 70, 3), (82, .ifCond .ne 6, 3), (85, .goto 11, 3), (88, .aload_n 0, 1), (89, .aload 4, 2), (91, .putfield 34, 3), (94, .iconst 0, 1), (95, .ireturn, 1), (96, .iinc 3 1, 3), (99, .goto (-61), 3), (102, .aload_n 0, 1), (103, .aload_n 1, 1), (104, .invokevirtual 73, 3), (107, .istore_n 3, 1), (108, .iload_n 3, 1), (109, .ifCond .ge 21, 3), (112, .iload_n 3, 1), (113, .bipush (-2), 2), (115, .if_icmp .eq 7, 3), (118, .iload_n 2, 1), (119, .ifCond .eq 8, 3), (122, .bipush 42, 2), (124, .goto 5, 3), (127, .bipush 48, 2), (129, .ireturn, 1), (130, .aload_n 0, 1), (131, .getfield 31, 3), (134, .bipush 8, 2), (136, .if_icmp .ne 6, 3), (139, .bipush 48, 2), (141, .ireturn, 1), (142, .aload_n 0, 1), (143, .getfield 27, 3), (146, .aload_n 0, 1), (147, .dup, 1), (148, .getfield 31, 3), (151, .dup_x1, 1), (152, .iconst 1, 1), (153, .iadd, 1), (154, .putfield 31, 3), (157, .iload_n 3, 1), (158, .iastore, 1), (159, .goto (-147), 3)]
theorem dk_Paths_find : fx_dec prog_9_method_6_code dl_Paths_find = true := by decide +kernel
theorem d_Paths_find_0 : decode prog_9_method_6_code 0 = .ok (.aload_n 0, 1) := fx_dat dk_Paths_find 0 rfl
theorem d_Paths_find_1 : decode prog_9_method_6_code 1 = .ok (.getfield 27, 3) := fx_dat dk_Paths_find 1 rfl
theorem d_Paths_find_4 : decode prog_9_method_6_code 4 = .ok (.iconst 0, 1) := fx_dat dk_Paths_find 2 rfl
theorem d_Paths_find_5 : decode prog_9_method_6_code 5 = .ok (.iconst 0, 1) := fx_dat dk_Paths_find 3 rfl
theorem d_Paths_find_6 : decode prog_9_method_6_code 6 = .ok (.iastore, 1) := fx_dat dk_Paths_find 4 rfl
theorem d_Paths_find_7 : decode prog_9_method_6_code 7 = .ok (.aload_n 0, 1) := fx_dat dk_Paths_find 5 rfl
theorem d_Paths_find_8 : decode prog_9_method_6_code 8 = .ok (.iconst 1, 1) := fx_dat dk_Paths_find 6 rfl
theorem d_Paths_find_9 : decode prog_9_method_6_code 9 = .ok (.putfield 31, 3) := fx_dat dk_Paths_find 7 rfl
theorem d_Paths_find_12 : decode prog_9_method_6_code 12 = .ok (.aload_n 0, 1) := fx_dat dk_Paths_find 8 rfl
theorem d_Paths_find_13 : decode prog_9_method_6_code 13 = .ok (.getfield 10, 3) := fx_dat dk_Paths_find 9 rfl
theorem d_Paths_find_16 : decode prog_9_method_6_code 16 = .ok (.aload_n 0, 1) := fx_dat dk_Paths_find 10 rfl
theorem d_Paths_find_17 : decode prog_9_method_6_code 17 = .ok (.getfield 27, 3) := fx_dat dk_Paths_find 11 rfl
theorem d_Paths_find_20 : decode prog_9_method_6_code 20 = .ok (.aload_n 0, 1) := fx_dat dk_Paths_find 12 rfl
theorem d_Paths_find_21 : decode prog_9_method_6_code 21 = .ok (.getfield 31, 3) := fx_dat dk_Paths_find 13 rfl
theorem d_Paths_find_24 : decode prog_9_method_6_code 24 = .ok (.iconst 1, 1) := fx_dat dk_Paths_find 14 rfl
theorem d_Paths_find_25 : decode prog_9_method_6_code 25 = .ok (.isub, 1) := fx_dat dk_Paths_find 15 rfl
theorem d_Paths_find_26 : decode prog_9_method_6_code 26 = .ok (.iaload, 1) := fx_dat dk_Paths_find 16 rfl
theorem d_Paths_find_27 : decode prog_9_method_6_code 27 = .ok (.invokevirtual 54, 3) := fx_dat dk_Paths_find 17 rfl
theorem d_Paths_find_30 : decode prog_9_method_6_code 30 = .ok (.checkcast 45, 3) := fx_dat dk_Paths_find 18 rfl
theorem d_Paths_find_33 : decode prog_9_method_6_code 33 = .ok (.astore_n 1, 1) := fx_dat dk_Paths_find 19 rfl
theorem d_Paths_find_34 : decode prog_9_method_6_code 34 = .ok (.iconst 0, 1) := fx_dat dk_Paths_find 20 rfl
theorem d_Paths_find_35 : decode prog_9_method_6_code 35 = .ok (.istore_n 2, 1) := fx_dat dk_Paths_find 21 rfl
theorem d_Paths_find_36 : decode prog_9_method_6_code 36 = .ok (.iconst 0, 1) := fx_dat dk_Paths_find 22 rfl
theorem d_Paths_find_37 : decode prog_9_method_6_code 37 = .ok (.istore_n 3, 1) := fx_dat dk_Paths_find 23 rfl
theorem d_Paths_find_38 : decode prog_9_method_6_code 38 = .ok (.iload_n 3, 1) := fx_dat dk_Paths_find 24 rfl
theorem d_Paths_find_39 : decode prog_9_method_6_code 39 = .ok (.aload_n 0, 1) := fx_dat dk_Paths_find 25 rfl
theorem d_Paths_find_40 : decode prog_9_method_6_code 40 = .ok (.getfield 16, 3) := fx_dat dk_Paths_find 26 rfl
theorem d_Paths_find_43 : decode prog_9_method_6_code 43 = .ok (.invokevirtual 42, 3) := fx_dat dk_Paths_find 27 rfl
theorem d_Paths_find_46 : decode prog_9_method_6_code 46 = .ok (.if_icmp .ge 56, 3) := fx_dat dk_Paths_find 28 rfl
theorem d_Paths_find_49 : decode prog_9_method_6_code 49 = .ok (.aload_n 0, 1) := fx_dat dk_Paths_find 29 rfl
theorem d_Paths_find_50 : decode prog_9_method_6_code 50 = .ok (.getfield 16, 3) := fx_dat dk_Paths_find 30 rfl
theorem d_Paths_find_53 : decode prog_9_method_6_code 53 = .ok (.iload_n 3, 1) := fx_dat dk_Paths_find 31 rfl
theorem d_Paths_find_54 : decode prog_9_method_6_code 54 = .ok (.invokevirtual 54, 3) := fx_dat dk_Paths_find 32 rfl
theorem d_Paths_find_57 : decode prog_9_method_6_code 57 = .ok (.checkcast 45, 3) := fx_dat dk_Paths_find 33 rfl
theorem d_Paths_find_60 : decode prog_9_method_6_code 60 = .ok (.astore 4, 2) := fx_dat dk_Paths_find 34 rfl
theorem d_Paths_find_62 : decode prog_9_method_6_code 62 = .ok (.aload_n 1, 1) := fx_dat dk_Paths_find 35 rfl
theorem d_Paths_find_63 : decode prog_9_method_6_code 63 = .ok (.aload 4, 2) := fx_dat dk_Paths_find 36 rfl
theorem d_Paths_find_65 : decode prog_9_method_6_code 65 = .ok (.invokevirtual 66, 3) := fx_dat dk_Paths_find 37 rfl
theorem d_Paths_find_68 : decode prog_9_method_6_code 68 = .ok (.ifCond .ne 6, 3) := fx_dat dk_Paths_find 38 rfl
theorem d_Paths_find_71 : decode prog_9_method_6_code 71 = .ok (.goto 25, 3) := fx_dat dk_Paths_find 39 rfl
theorem d_Paths_find_74 : decode prog_9_method_6_code 74 = .ok (.iconst 1, 1) := fx_dat dk_Paths_find 40 rfl
theorem d_Paths_find_75 : decode prog_9_method_6_code 75 = .ok (.istore_n 2, 1) := fx_dat dk_Paths_find 41 rfl
theorem d_Paths_find_76 : decode prog_9_method_6_code 76 = .ok (.aload_n 1, 1) := fx_dat dk_Paths_find 42 rfl
theorem d_Paths_find_77 : decode prog_9_method_6_code 77 = .ok (.aload 4, 2) := fx_dat dk_Paths_find 43 rfl
theorem d_Paths_find_79 : decode prog_9_method_6_code 79 = .ok (.invokevirtual 70, 3) := fx_dat dk_Paths_find 44 rfl
theorem d_Paths_find_82 : decode prog_9_method_6_code 82 = .ok (.ifCond .ne 6, 3) := fx_dat dk_Paths_find 45 rfl
theorem d_Paths_find_85 : decode prog_9_method_6_code 85 = .ok (.goto 11, 3) := fx_dat dk_Paths_find 46 rfl
theorem d_Paths_find_88 : decode prog_9_method_6_code 88 = .ok (.aload_n 0, 1) := fx_dat dk_Paths_find 47 rfl
theorem d_Paths_find_89 : decode prog_9_method_6_code 89 = .ok (.aload 4, 2) := fx_dat dk_Paths_find 48 rfl
theorem d_Paths_find_91 : decode prog_9_method_6_code 91 = .ok (.putfield 34, 3) := fx_dat dk_Paths_find 49 rfl
theorem d_Paths_find_94 : decode prog_9_method_6_code 94 = .ok (.iconst 0, 1) := fx_dat dk_Paths_find 50 rfl
theorem d_Paths_find_95 : decode prog_9_method_6_code 95 = .ok (.ireturn, 1) := fx_dat dk_Paths_find 51 rfl
theorem d_Paths_find_96 : decode prog_9_method_6_code 96 = .ok (.iinc 3 1, 3) := fx_dat dk_Paths_find 52 rfl
theorem d_Paths_find_99 : decode prog_9_method_6_code 99 = .ok (.goto (-61), 3) := fx_dat dk_Paths_find 53 rfl
theorem d_Paths_find_102 : decode prog_9_method_6_code 102 = .ok (.aload_n 0, 1) := fx_dat dk_Paths_find 54 rfl
theorem d_Paths_find_103 : decode prog_9_method_6_code 103 = .ok (.aload_n 1, 1) := fx_dat dk_Paths_find 55 rfl
theorem d_Paths_find_104 : decode prog_9_method_6_code 104 = .ok (.invokevirtual 73, 3) := fx_dat dk_Paths_find 56 rfl
theorem d_Paths_find_107 : decode prog_9_method_6_code 107 = .ok (.istore_n 3, 1) := fx_dat dk_Paths_find 57 rfl
theorem d_Paths_find_108 : decode prog_9_method_6_code 108 = .ok (.iload_n 3, 1) := fx_dat dk_Paths_find 58 rfl
theorem d_Paths_find_109 : decode prog_9_method_6_code 109 = .ok (.ifCond .ge 21, 3) := fx_dat dk_Paths_find 59 rfl
theorem d_Paths_find_112 : decode prog_9_method_6_code 112 = .ok (.iload_n 3, 1) := fx_dat dk_Paths_find 60 rfl
theorem d_Paths_find_113 : decode prog_9_method_6_code 113 = .ok (.bipush (-2), 2) := fx_dat dk_Paths_find 61 rfl
theorem d_Paths_find_115 : decode prog_9_method_6_code 115 = .ok (.if_icmp .eq 7, 3) := fx_dat dk_Paths_find 62 rfl
theorem d_Paths_find_118 : decode prog_9_method_6_code 118 = .ok (.iload_n 2, 1) := fx_dat dk_Paths_find 63 rfl
theorem d_Paths_find_119 : decode prog_9_method_6_code 119 = .ok (.ifCond .eq 8, 3) := fx_dat dk_Paths_find 64 rfl
theorem d_Paths_find_122 : decode prog_9_method_6_code 122 = .ok (.bipush 42, 2) := fx_dat dk_Paths_find 65 rfl
theorem d_Paths_find_124 : decode prog_9_method_6_code 124 = .ok (.goto 5, 3) := fx_dat dk_Paths_find 66 rfl
theorem d_Paths_find_127 : decode prog_9_method_6_code 127 = .ok (.bipush 48, 2) := fx_dat dk_Paths_find 67 rfl
theorem d_Paths_find_129 : decode prog_9_method_6_code 129 = .ok (.ireturn, 1) := fx_dat dk_Paths_find 68 rfl
theorem d_Paths_find_130 : decode prog_9_method_6_code 130 = .ok (.aload_n 0, 1) := fx_dat dk_Paths_find 69 rfl
theorem d_Paths_find_131 : decode prog_9_method_6_code 131 = .ok (.getfield 31, 3) := fx_dat dk_Paths_find 70 rfl
theorem d_Paths_find_134 : decode prog_9_method_6_code 134 = .ok (.bipush 8, 2) := fx_dat dk_Paths_find 71 rfl
theorem d_Paths_find_136 : decode prog_9_method_6_code 136 = .ok (.if_icmp .ne 6, 3) := fx_dat dk_Paths_find 72 rfl
theorem d_Paths_find_139 : decode prog_9_method_6_code 139 = .ok (.bipush 48, 2) := fx_dat dk_Paths_find 73 rfl
theorem d_Paths_find_141 : decode prog_9_method_6_code 141 = .ok (.ireturn, 1) := fx_dat dk_Paths_find 74 rfl
theorem d_Paths_find_142 : decode prog_9_method_6_code 142 = .ok (.aload_n 0, 1) := fx_dat dk_Paths_find 75 rfl
theorem d_Paths_find_143 : decode prog_9_method_6_code 143 = .ok (.getfield 27, 3) := fx_dat dk_Paths_find 76 rfl
theorem d_Paths_find_146 : decode prog_9_method_6_code 146 = .ok (.aload_n 0, 1) := fx_dat dk_Paths_find 77 rfl
theorem d_Paths_find_147 : decode prog_9_method_6_code 147 = .ok (.dup, 1) := fx_dat dk_Paths_find 78 rfl
theorem d_Paths_find_148 : decode prog_9_method_6_code 148 = .ok (.getfield 31, 3) := fx_dat dk_Paths_find 79 rfl
theorem d_Paths_find_151 : decode prog_9_method_6_code 151 = .ok (.dup_x1, 1) := fx_dat dk_Paths_find 80 rfl
theorem d_Paths_find_152 : decode prog_9_method_6_code 152 = .ok (.iconst 1, 1) := fx_dat dk_Paths_find 81 rfl
theorem d_Paths_find_153 : decode prog_9_method_6_code 153 = .ok (.iadd, 1) := fx_dat dk_Paths_find 82 rfl
theorem d_Paths_find_154 : decode prog_9_method_6_code 154 = .ok (.putfield 31, 3) := fx_dat dk_Paths_find 83 rfl
theorem d_Paths_find_157 : decode prog_9_method_6_code 157 = .ok (.iload_n 3, 1) := fx_dat dk_Paths_find 84 rfl
theorem d_Paths_find_158 : decode prog_9_method_6_code 158 = .ok (.iastore, 1) := fx_dat dk_Paths_find 85 rfl
theorem d_Paths_find_159 : decode prog_9_method_6_code 159 = .ok (.goto (-147), 3) := fx_dat dk_Paths_find 86 rfl
def m_Paths_find_129 (Q : Int32 → AH → Prop) (sx0 : Int32) (h : AH) : Prop := Q sx0 h
def m_Paths_find_122 (Q : Int32 → AH → Prop) (h : AH) : Prop := m_Paths_find_129 Q (42 : Int32) h
def m_Paths_find_96 (Q : Int32 → AH → Prop) (X12 : AH → Prop) (X38 : Int32 × Int32 × AH → Prop) (r0 : Nat) (r1 : Nat) (x2 : Int32) (x3 : Int32) (h : AH) : Prop := ∀ v1 : Int32, v1 = (x3 + (1 : Int32)) → X38 (x2, v1, h)
def m_Paths_find_38_b (Q : Int32 → AH → Prop) (X12 : AH → Prop) (X38 : Int32 × Int32 × AH → Prop) (r0 : Nat) (r1 : Nat) (x2 : Int32) (x3 : Int32) (h : AH) : Prop := hp_k h r0 = 7 ∧ ∃ b1, hp_R h r0 2 = some b1 ∧ hp_k h b1 = 12 ∧ m_AL_size (fun v1 h1 => fx_ext h h1 → (v1 ≤ x3 → m_Paths_next (fun v2 h2 => fx_ext h1 h2 → (0 ≤ v2 → (¬ (hp_I h2 r0 6) = (8 : Int32) → ∃ b2, hp_R h2 r0 5 = some b2 ∧ ∀ h3 : AH, h3 = up_I h2 r0 6 ((hp_I h2 r0 6) + (1 : Int32)) → hp_k h3 b2 = 102 ∧ vp_in (hp_I h2 r0 6) (hp_n h3 b2) ∧ ∀ h4 : AH, h4 = up_I h3 b2 ((hp_I h2 r0 6)).toNatClampNeg v2 → X12 h4) ∧ ((hp_I h2 r0 6) = (8 : Int32) → Q (48 : Int32) h2)) ∧ (¬ 0 ≤ v2 → (v2 = (-2 : Int32) → m_Paths_find_122 Q h2) ∧ (¬ v2 = (-2 : Int32) → (x2 = 0 → m_Paths_find_129 Q (48 : Int32) h2) ∧ (¬ x2 = 0 → m_Paths_find_122 Q h2)))) r0 r1 h1) ∧ (¬ v1 ≤ x3 → ∃ b3, hp_R h1 r0 2 = some b3 ∧ hp_k h1 b3 = 12 ∧ m_AL_get (fun q1 h5 => fx_ext h1 h5 → hp_k h5 q1 = 8 ∧ hp_k h5 r1 = 8 ∧ m_Cert_issuedBy (fun v3 h6 => fx_ext h5 h6 → zb v3 → (¬ v3 = 0 → m_Cert_markedBy (fun v4 h7 => fx_ext h6 h7 → zb v4 → (¬ v4 = 0 → ∀ h8 : AH, h8 = up_R h7 r0 7 (some q1) → Q (0 : Int32) h8) ∧ (v4 = 0 → m_Paths_find_96 Q X12 X38 r0 r1 (1 : Int32) x3 h7)) r1 q1 h6) ∧ (v3 = 0 → m_Paths_find_96 Q X12 X38 r0 r1 x2 x3 h6)) r1 q1 h5) b3 x3 h1)) b1 h
def m_Paths_find_38 (Q : Int32 → AH → Prop) (X12 : AH → Prop) (r0 : Nat) (r1 : Nat) (x2 : Int32) (x3 : Int32) (h : AH) : Prop := fx_loop (fun (X38 : Int32 × Int32 × AH → Prop) (st : Int32 × Int32 × AH) => m_Paths_find_38_b Q X12 X38 r0 r1 st.1 st.2.1 st.2.2) (x2, x3, h)
def m_Paths_find_12_b (Q : Int32 → AH → Prop) (X12 : AH → Prop) (r0 : Nat) (h : AH) : Prop := hp_k h r0 = 7 ∧ ∃ b1, hp_R h r0 1 = some b1 ∧ ∃ b2, hp_R h r0 5 = some b2 ∧ ik (hp_k h b2) ∧ vp_in ((hp_I h r0 6) - (1 : Int32)) (hp_n h b2) ∧ hp_k h b1 = 12 ∧ m_AL_get (fun q1 h1 => fx_ext h h1 → hp_k h1 q1 = 8 ∧ m_Paths_find_38 Q X12 r0 q1 (0 : Int32) (0 : Int32) h1) b1 (hp_I h b2 (((hp_I h r0 6) - (1 : Int32))).toNatClampNeg) h
def m_Paths_find_12 (Q : Int32 → AH → Prop) (r0 : Nat) (h : AH) : Prop := fx_loop (fun (X12 : AH → Prop) (st : AH) => m_Paths_find_12_b Q X12 r0 st) (h)
def m_Paths_find (Q : Int32 → AH → Prop) (r0 : Nat) (h : AH) : Prop := hp_k h r0 = 7 ∧ ∃ b1, hp_R h r0 5 = some b1 ∧ hp_k h b1 = 102 ∧ vp_in (0 : Int32) (hp_n h b1) ∧ ∀ h1 : AH, h1 = up_I h b1 ((0 : Int32)).toNatClampNeg (0 : Int32) → ∀ h2 : AH, h2 = up_I h1 r0 6 (1 : Int32) → m_Paths_find_12 Q r0 h2
theorem b_Paths_find_129 {p : Program} {l : Launch} {e : Env} {R : Room} {s : State} {m : MethodId} {args : Array Value} {below : List Frame} {meth : Method} {c : Code} {D : DD} {h0 : AH} {Q : Int32 → AH → Prop} (C : fx_CX D y_Paths_find prog_9_method_6_code 5 12 212 (Option.some FieldType.int) [] h0 p R s m meth c) (hl : l.flags = flags0) (sx0 : Int32) (h : AH) (hw : m_Paths_find_129 Q sx0 h) : ∀ (ls : Array Slot) (H : Heap) (locs : List Loc) (cells slots : Nat), lv_has ls 5 [] → fx_F D h0 h H locs cells slots → W p l e R s m args below meth c H locs cells slots (fx_Z D below s h0 (fx_oI Q fx_no)) (F0 m 129 ls [.int sx0]) := by
  unfold m_Paths_find_129 at hw
  intro ls H locs cells slots hv F
  exact fx_iret C F d_Paths_find_129 (Or.inl ⟨_, rfl, hw⟩)
theorem b_Paths_find_122 {p : Program} {l : Launch} {e : Env} {R : Room} {s : State} {m : MethodId} {args : Array Value} {below : List Frame} {meth : Method} {c : Code} {D : DD} {h0 : AH} {Q : Int32 → AH → Prop} (C : fx_CX D y_Paths_find prog_9_method_6_code 5 12 212 (Option.some FieldType.int) [] h0 p R s m meth c) (hl : l.flags = flags0) (h : AH) (hw : m_Paths_find_122 Q h) : ∀ (ls : Array Slot) (H : Heap) (locs : List Loc) (cells slots : Nat), lv_has ls 5 [] → fx_F D h0 h H locs cells slots → W p l e R s m args below meth c H locs cells slots (fx_Z D below s h0 (fx_oI Q fx_no)) (F0 m 122 ls []) := by
  unfold m_Paths_find_122 at hw
  intro ls H locs cells slots hv F
  refine lv_bipush (v := (42 : Int32)) C.ex C.by d_Paths_find_122 (by decide) ?_
  refine lv_goto C.ex C.by d_Paths_find_124 rfl ?_
  exact b_Paths_find_129 C hl _ _ hw _ _ _ _ _ hv F
theorem b_Paths_find_96 {p : Program} {l : Launch} {e : Env} {R : Room} {s : State} {m : MethodId} {args : Array Value} {below : List Frame} {meth : Method} {c : Code} {D : DD} {h0 : AH} {Q : Int32 → AH → Prop} {X12 : AH → Prop} {X38 : Int32 × Int32 × AH → Prop} (C : fx_CX D y_Paths_find prog_9_method_6_code 5 12 212 (Option.some FieldType.int) [] h0 p R s m meth c) (hl : l.flags = flags0) (r0 : Nat) (r1 : Nat) (x2 : Int32) (x3 : Int32) (h : AH) (hX12 : ∀ st, X12 st → ∀ (ls : Array Slot) (H : Heap) (locs : List Loc) (cells slots : Nat), lv_has ls 5 [(0, .ref r0)] → fx_F D h0 st H locs cells slots → W p l e R s m args below meth c H locs cells slots (fx_Z D below s h0 (fx_oI Q fx_no)) (F0 m 12 ls [])) (hX38 : ∀ st, X38 st → ∀ (ls : Array Slot) (H : Heap) (locs : List Loc) (cells slots : Nat), lv_has ls 5 [(0, .ref r0), (1, .ref r1), (2, .int st.1), (3, .int st.2.1)] → fx_F D h0 st.2.2 H locs cells slots → W p l e R s m args below meth c H locs cells slots (fx_Z D below s h0 (fx_oI Q fx_no)) (F0 m 38 ls [])) (hw : m_Paths_find_96 Q X12 X38 r0 r1 x2 x3 h) : ∀ (ls : Array Slot) (H : Heap) (locs : List Loc) (cells slots : Nat), lv_has ls 5 [(0, .ref r0), (1, .ref r1), (2, .int x2), (3, .int x3)] → fx_F D h0 h H locs cells slots → W p l e R s m args below meth c H locs cells slots (fx_Z D below s h0 (fx_oI Q fx_no)) (F0 m 96 ls []) := by
  unfold m_Paths_find_96 at hw
  intro ls H locs cells slots hv F
  let v1 : Int32 := (x3 + (1 : Int32))
  replace hw := hw v1 rfl
  refine lv_iinc (v := v1) (k := 3) (lv' := [(3, .int v1), (0, .ref r0), (1, .ref r1), (2, .int x2)]) C.ex C.by d_Paths_find_96 hv rfl (congrArg (fun z => x3 + z) (by decide)) (by decide) rfl (fun ls hv => ?_)
  refine lv_goto C.ex C.by d_Paths_find_99 rfl ?_
  exact hX38 _ hw _ _ _ _ _ (lv_sub hv [1, 2, 3, 0] rfl) F
theorem b_Paths_find_38 {p : Program} {l : Launch} {e : Env} {R : Room} {s : State} {m : MethodId} {args : Array Value} {below : List Frame} {meth : Method} {c : Code} {D : DD} {h0 : AH} {Q : Int32 → AH → Prop} {X12 : AH → Prop} (C : fx_CX D y_Paths_find prog_9_method_6_code 5 12 212 (Option.some FieldType.int) [] h0 p R s m meth c) (hl : l.flags = flags0) (r0 : Nat) (r1 : Nat) (x2 : Int32) (x3 : Int32) (h : AH) (hX12 : ∀ st, X12 st → ∀ (ls : Array Slot) (H : Heap) (locs : List Loc) (cells slots : Nat), lv_has ls 5 [(0, .ref r0)] → fx_F D h0 st H locs cells slots → W p l e R s m args below meth c H locs cells slots (fx_Z D below s h0 (fx_oI Q fx_no)) (F0 m 12 ls [])) (hw : m_Paths_find_38 Q X12 r0 r1 x2 x3 h) : ∀ (ls : Array Slot) (H : Heap) (locs : List Loc) (cells slots : Nat), lv_has ls 5 [(0, .ref r0), (1, .ref r1), (2, .int x2), (3, .int x3)] → fx_F D h0 h H locs cells slots → W p l e R s m args below meth c H locs cells slots (fx_Z D below s h0 (fx_oI Q fx_no)) (F0 m 38 ls []) := by
  refine fx_loop.use hw (fun st => ∀ (ls : Array Slot) (H : Heap) (locs : List Loc) (cells slots : Nat), lv_has ls 5 [(0, .ref r0), (1, .ref r1), (2, .int st.1), (3, .int st.2.1)] → fx_F D h0 st.2.2 H locs cells slots → W p l e R s m args below meth c H locs cells slots (fx_Z D below s h0 (fx_oI Q fx_no)) (F0 m 38 ls [])) (fun X38 st hX38 hw => ?_)
  obtain ⟨x2, x3, h⟩ := st
  replace hw : m_Paths_find_38_b Q X12 X38 r0 r1 x2 x3 h := hw
  unfold m_Paths_find_38_b at hw
  intro ls H locs cells slots hv F
  refine lv_iload_n C.ex C.by d_Paths_find_38 rfl (lv_at hv 3 rfl) ?_
  refine lv_aload_n C.ex C.by d_Paths_find_39 rfl (lv_at hv 0 rfl) ?_
  obtain ⟨hk1, hw⟩ := hw
  obtain ⟨b1, hb1, hw⟩ := hw
  refine fx_getR C F lf_Paths_16 hk1 rfl hb1 d_Paths_find_40 ?_
  obtain ⟨hk2, hw⟩ := hw
  refine fx_callI C F (c_AL_size hl hw) hm_AL_size hi_AL_size hv.1 (by decide) (Nat.le_of_ble_eq_true rfl) (iv_AL_size C F lm_Paths_42 hk2 d_Paths_find_43) (fx_out0 _) fx_eno (fun v1 h1 H locs cells slots hw hx1 F => ?_)
  replace hw := hw hx1
  have hk2 := (hx1).k hk2
  have hk1 := (hx1).k hk1
  refine lv_icmp_ge C.ex C.by d_Paths_find_46 rfl (fun hc => ?_) (fun hc => ?_)
  · replace hw := hw.1 hc
    refine lv_aload_n C.ex C.by d_Paths_find_102 rfl (lv_at hv 0 rfl) ?_
    refine lv_aload_n C.ex C.by d_Paths_find_103 rfl (lv_at hv 1 rfl) ?_
    refine fx_callI C F (c_Paths_next hl hw) hm_Paths_next hi_Paths_next hv.1 (by decide) (Nat.le_of_ble_eq_true rfl) (iv_Paths_next C F lm_Paths_73 hk1 d_Paths_find_104) (fx_out0 _) fx_eno (fun v2 h2 H locs cells slots hw hx2 F => ?_)
    replace hw := hw hx2
    have hk2 := (hx2).k hk2
    have hk1 := (hx2).k hk1
    refine lv_istore_n (lv' := [(3, .int v2), (0, .ref r0), (1, .ref r1), (2, .int x2)]) C.ex C.by d_Paths_find_107 rfl hv (by decide) rfl (fun ls hv => ?_)
    refine lv_iload_n C.ex C.by d_Paths_find_108 rfl (lv_at hv 0 rfl) ?_
    refine lv_if_ge C.ex C.by d_Paths_find_109 rfl (fun hc => ?_) (fun hc => ?_)
    · replace hw := hw.1 hc
      refine lv_aload_n C.ex C.by d_Paths_find_130 rfl (lv_at hv 1 rfl) ?_
      refine fx_getI C F lf_Paths_31 hk1 rfl d_Paths_find_131 ?_
      refine lv_bipush (v := (8 : Int32)) C.ex C.by d_Paths_find_134 (by decide) ?_
      refine lv_icmp_ne C.ex C.by d_Paths_find_136 rfl (fun hc => ?_) (fun hc => ?_)
      · replace hw := hw.1 hc
        refine lv_aload_n C.ex C.by d_Paths_find_142 rfl (lv_at hv 1 rfl) ?_
        obtain ⟨b2, hb2, hw⟩ := hw
        refine fx_getR C F lf_Paths_27 hk1 rfl hb2 d_Paths_find_143 ?_
        refine lv_aload_n C.ex C.by d_Paths_find_146 rfl (lv_at hv 1 rfl) ?_
        refine lv_dup C.ex C.by d_Paths_find_147 rfl ?_
        refine fx_getI C F lf_Paths_31 hk1 rfl d_Paths_find_148 ?_
        refine lv_dup_x1 C.ex C.by d_Paths_find_151 rfl rfl ?_
        refine lv_iconst (v := (1 : Int32)) C.ex C.by d_Paths_find_152 (by decide) ?_
        refine lv_iadd C.ex C.by d_Paths_find_153 ?_
        let h3 : AH := up_I h2 r0 6 ((hp_I h2 r0 6) + (1 : Int32))
        replace hw := hw h3 rfl
        refine fx_putI C F lf_Paths_31 hk1 rfl rfl (fx_mayF.no rfl rfl) d_Paths_find_154 (fun H locs (F : fx_F D h0 h3 H locs _ _) => ?_)
        refine lv_iload_n C.ex C.by d_Paths_find_157 rfl (lv_at hv 0 rfl) ?_
        obtain ⟨hk3, hw⟩ := hw
        obtain ⟨hi1, hw⟩ := hw
        let h4 : AH := up_I h3 b2 ((hp_I h2 r0 6)).toNatClampNeg v2
        replace hw := hw h4 rfl
        refine fx_iast C F hk3 hi1 d_Paths_find_158 (fun H locs (F : fx_F D h0 h4 H locs _ _) => ?_)
        refine lv_goto C.ex C.by d_Paths_find_159 rfl ?_
        exact hX12 _ hw _ _ _ _ _ (lv_sub hv [1] rfl) F
      · replace hw := hw.2 hc
        refine lv_bipush (v := (48 : Int32)) C.ex C.by d_Paths_find_139 (by decide) ?_
        exact fx_iret C F d_Paths_find_141 (Or.inl ⟨_, rfl, hw⟩)
    · replace hw := hw.2 hc
      refine lv_iload_n C.ex C.by d_Paths_find_112 rfl (lv_at hv 0 rfl) ?_
      refine lv_bipush (v := (-2 : Int32)) C.ex C.by d_Paths_find_113 (by decide) ?_
      refine lv_icmp_eq C.ex C.by d_Paths_find_115 rfl (fun hc => ?_) (fun hc => ?_)
      · replace hw := hw.1 hc
        exact b_Paths_find_122 C hl _ hw _ _ _ _ _ (lv_sub hv [] rfl) F
      · replace hw := hw.2 hc
        refine lv_iload_n C.ex C.by d_Paths_find_118 rfl (lv_at hv 3 rfl) ?_
        refine lv_if_eq C.ex C.by d_Paths_find_119 rfl (fun hc => ?_) (fun hc => ?_)
        · replace hw := hw.1 hc
          refine lv_bipush (v := (48 : Int32)) C.ex C.by d_Paths_find_127 (by decide) ?_
          exact b_Paths_find_129 C hl _ _ hw _ _ _ _ _ (lv_sub hv [] rfl) F
        · replace hw := hw.2 hc
          exact b_Paths_find_122 C hl _ hw _ _ _ _ _ (lv_sub hv [] rfl) F
  · replace hw := hw.2 hc
    refine lv_aload_n C.ex C.by d_Paths_find_49 rfl (lv_at hv 0 rfl) ?_
    obtain ⟨b3, hb3, hw⟩ := hw
    refine fx_getR C F lf_Paths_16 hk1 rfl hb3 d_Paths_find_50 ?_
    refine lv_iload_n C.ex C.by d_Paths_find_53 rfl (lv_at hv 3 rfl) ?_
    obtain ⟨hk4, hw⟩ := hw
    refine fx_callR C F (c_AL_get hl hw) hm_AL_get hi_AL_get hv.1 (by decide) (Nat.le_of_ble_eq_true rfl) (iv_AL_get C F lm_Paths_54 hk4 d_Paths_find_54) (fx_out0 _) fx_eno (fun q1 h5 H locs cells slots hw hx3 F => ?_)
    replace hw := hw hx3
    have hk2 := (hx3).k hk2
    have hk4 := (hx3).k hk4
    have hk1 := (hx3).k hk1
    obtain ⟨hk5, hw⟩ := hw
    refine fx_cast (ci := 7) (r := ("ChainJudge$Certificate", fx_T7, 29)) (nm := "ChainJudge$Certificate") C F rfl (by decide) hk5 (fx_m5 (List.mem_of_getElem? (i := 146) rfl)) (fx_m8 (List.mem_of_getElem? (i := 8) rfl)) d_Paths_find_57 ?_
    refine lv_astore (lv' := [(4, .ref q1), (0, .ref r0), (1, .ref r1), (2, .int x2), (3, .int x3)]) C.ex C.by d_Paths_find_60 hv (by decide) rfl (fun ls hv => ?_)
    refine lv_aload_n C.ex C.by d_Paths_find_62 rfl (lv_at hv 2 rfl) ?_
    refine lv_aload C.ex C.by d_Paths_find_63 (lv_at hv 0 rfl) ?_
    obtain ⟨hk6, hw⟩ := hw
    refine fx_callZ C F (c_Cert_issuedBy hl hw) hm_Cert_issuedBy hi_Cert_issuedBy hv.1 (by decide) (Nat.le_of_ble_eq_true rfl) (iv_Cert_issuedBy C F lm_Paths_66 hk6 d_Paths_find_65) (fx_out0 _) fx_eno (fun v3 h6 H locs cells slots hw hx4 hzb F => ?_)
    replace hw := hw hx4 hzb
    have hk2 := (hx4).k hk2
    have hk4 := (hx4).k hk4
    have hk5 := (hx4).k hk5
    have hk1 := (hx4).k hk1
    have hk6 := (hx4).k hk6
    refine lv_if_ne C.ex C.by d_Paths_find_68 rfl (fun hc => ?_) (fun hc => ?_)
    · replace hw := hw.1 hc
      refine lv_iconst (v := (1 : Int32)) C.ex C.by d_Paths_find_74 (by decide) ?_
      refine lv_istore_n (lv' := [(2, .int (1 : Int32)), (4, .ref q1), (0, .ref r0), (1, .ref r1), (3, .int x3)]) C.ex C.by d_Paths_find_75 rfl hv (by decide) rfl (fun ls hv => ?_)
      refine lv_aload_n C.ex C.by d_Paths_find_76 rfl (lv_at hv 3 rfl) ?_
      refine lv_aload C.ex C.by d_Paths_find_77 (lv_at hv 1 rfl) ?_
      refine fx_callZ C F (c_Cert_markedBy hl hw) hm_Cert_markedBy hi_Cert_markedBy hv.1 (by decide) (Nat.le_of_ble_eq_true rfl) (iv_Cert_markedBy C F lm_Paths_70 hk6 d_Paths_find_79) (fx_out0 _) fx_eno (fun v4 h7 H locs cells slots hw hx5 hzb F => ?_)
      replace hw := hw hx5 hzb
      have hk2 := (hx5).k hk2
      have hk4 := (hx5).k hk4
      have hk5 := (hx5).k hk5
      have hk1 := (hx5).k hk1
      have hk6 := (hx5).k hk6
      refine lv_if_ne C.ex C.by d_Paths_find_82 rfl (fun hc => ?_) (fun hc => ?_)
      · replace hw := hw.1 hc
        refine lv_aload_n C.ex C.by d_Paths_find_88 rfl (lv_at hv 2 rfl) ?_
        refine lv_aload C.ex C.by d_Paths_find_89 (lv_at hv 1 rfl) ?_
        let h8 : AH := up_R h7 r0 7 (some q1)
        replace hw := hw h8 rfl
        refine fx_putR C F lf_Paths_34 hk1 rfl rfl (fx_mayF.no rfl rfl) d_Paths_find_91 (fun H locs (F : fx_F D h0 h8 H locs _ _) => ?_)
        refine lv_iconst (v := (0 : Int32)) C.ex C.by d_Paths_find_94 (by decide) ?_
        exact fx_iret C F d_Paths_find_95 (Or.inl ⟨_, rfl, hw⟩)
      · replace hw := hw.2 hc
        refine lv_goto C.ex C.by d_Paths_find_85 rfl ?_
        exact b_Paths_find_96 C hl _ _ _ _ _ hX12 hX38 hw _ _ _ _ _ (lv_sub hv [2, 3, 0, 4] rfl) F
    · replace hw := hw.2 hc
      refine lv_goto C.ex C.by d_Paths_find_71 rfl ?_
      exact b_Paths_find_96 C hl _ _ _ _ _ hX12 hX38 hw _ _ _ _ _ (lv_sub hv [1, 2, 3, 4] rfl) F
theorem b_Paths_find_12 {p : Program} {l : Launch} {e : Env} {R : Room} {s : State} {m : MethodId} {args : Array Value} {below : List Frame} {meth : Method} {c : Code} {D : DD} {h0 : AH} {Q : Int32 → AH → Prop} (C : fx_CX D y_Paths_find prog_9_method_6_code 5 12 212 (Option.some FieldType.int) [] h0 p R s m meth c) (hl : l.flags = flags0) (r0 : Nat) (h : AH) (hw : m_Paths_find_12 Q r0 h) : ∀ (ls : Array Slot) (H : Heap) (locs : List Loc) (cells slots : Nat), lv_has ls 5 [(0, .ref r0)] → fx_F D h0 h H locs cells slots → W p l e R s m args below meth c H locs cells slots (fx_Z D below s h0 (fx_oI Q fx_no)) (F0 m 12 ls []) := by
  refine fx_loop.use hw (fun st => ∀ (ls : Array Slot) (H : Heap) (locs : List Loc) (cells slots : Nat), lv_has ls 5 [(0, .ref r0)] → fx_F D h0 st H locs cells slots → W p l e R s m args below meth c H locs cells slots (fx_Z D below s h0 (fx_oI Q fx_no)) (F0 m 12 ls [])) (fun X12 h hX12 hw => ?_)
  replace hw : m_Paths_find_12_b Q X12 r0 h := hw
  unfold m_Paths_find_12_b at hw
  intro ls H locs cells slots hv F
  refine lv_aload_n C.ex C.by d_Paths_find_12 rfl (lv_at hv 0 rfl) ?_
  obtain ⟨hk1, hw⟩ := hw
  obtain ⟨b1, hb1, hw⟩ := hw
  refine fx_getR C F lf_Paths_10 hk1 rfl hb1 d_Paths_find_13 ?_
  refine lv_aload_n C.ex C.by d_Paths_find_16 rfl (lv_at hv 0 rfl) ?_
  obtain ⟨b2, hb2, hw⟩ := hw
  refine fx_getR C F lf_Paths_27 hk1 rfl hb2 d_Paths_find_17 ?_
  refine lv_aload_n C.ex C.by d_Paths_find_20 rfl (lv_at hv 0 rfl) ?_
  refine fx_getI C F lf_Paths_31 hk1 rfl d_Paths_find_21 ?_
  refine lv_iconst (v := (1 : Int32)) C.ex C.by d_Paths_find_24 (by decide) ?_
  refine lv_isub C.ex C.by d_Paths_find_25 ?_
  obtain ⟨hk2, hw⟩ := hw
  obtain ⟨hi1, hw⟩ := hw
  refine fx_iald C F hk2 hi1 d_Paths_find_26 ?_
  obtain ⟨hk3, hw⟩ := hw
  refine fx_callR C F (c_AL_get hl hw) hm_AL_get hi_AL_get hv.1 (by decide) (Nat.le_of_ble_eq_true rfl) (iv_AL_get C F lm_Paths_54 hk3 d_Paths_find_27) (fx_out0 _) fx_eno (fun q1 h1 H locs cells slots hw hx1 F => ?_)
  replace hw := hw hx1
  have hk3 := (hx1).k hk3
  have hk2 := (hx1).gi hk2
  have hk1 := (hx1).k hk1
  obtain ⟨hk4, hw⟩ := hw
  refine fx_cast (ci := 7) (r := ("ChainJudge$Certificate", fx_T7, 29)) (nm := "ChainJudge$Certificate") C F rfl (by decide) hk4 (fx_m5 (List.mem_of_getElem? (i := 146) rfl)) (fx_m8 (List.mem_of_getElem? (i := 8) rfl)) d_Paths_find_30 ?_
  refine lv_astore_n (lv' := [(1, .ref q1), (0, .ref r0)]) C.ex C.by d_Paths_find_33 rfl hv (by decide) rfl (fun ls hv => ?_)
  refine lv_iconst (v := (0 : Int32)) C.ex C.by d_Paths_find_34 (by decide) ?_
  refine lv_istore_n (lv' := [(2, .int (0 : Int32)), (1, .ref q1), (0, .ref r0)]) C.ex C.by d_Paths_find_35 rfl hv (by decide) rfl (fun ls hv => ?_)
  refine lv_iconst (v := (0 : Int32)) C.ex C.by d_Paths_find_36 (by decide) ?_
  refine lv_istore_n (lv' := [(3, .int (0 : Int32)), (2, .int (0 : Int32)), (1, .ref q1), (0, .ref r0)]) C.ex C.by d_Paths_find_37 rfl hv (by decide) rfl (fun ls hv => ?_)
  exact b_Paths_find_38 C hl _ _ _ _ _ hX12 hw _ _ _ _ _ (lv_sub hv [3, 2, 1, 0] rfl) F
theorem b_Paths_find_0 {p : Program} {l : Launch} {e : Env} {R : Room} {s : State} {m : MethodId} {args : Array Value} {below : List Frame} {meth : Method} {c : Code} {D : DD} {h0 : AH} {Q : Int32 → AH → Prop} (C : fx_CX D y_Paths_find prog_9_method_6_code 5 12 212 (Option.some FieldType.int) [] h0 p R s m meth c) (hl : l.flags = flags0) (r0 : Nat) (h : AH) (hw : m_Paths_find Q r0 h) : ∀ (ls : Array Slot) (H : Heap) (locs : List Loc) (cells slots : Nat), lv_has ls 5 [(0, .ref r0)] → fx_F D h0 h H locs cells slots → W p l e R s m args below meth c H locs cells slots (fx_Z D below s h0 (fx_oI Q fx_no)) (F0 m 0 ls []) := by
  unfold m_Paths_find at hw
  intro ls H locs cells slots hv F
  refine lv_aload_n C.ex C.by d_Paths_find_0 rfl (lv_at hv 0 rfl) ?_
  obtain ⟨hk1, hw⟩ := hw
  obtain ⟨b1, hb1, hw⟩ := hw
  refine fx_getR C F lf_Paths_27 hk1 rfl hb1 d_Paths_find_1 ?_
  refine lv_iconst (v := (0 : Int32)) C.ex C.by d_Paths_find_4 (by decide) ?_
  refine lv_iconst (v := (0 : Int32)) C.ex C.by d_Paths_find_5 (by decide) ?_
  obtain ⟨hk2, hw⟩ := hw
  obtain ⟨hi1, hw⟩ := hw
  let h1 : AH := up_I h b1 ((0 : Int32)).toNatClampNeg (0 : Int32)
  replace hw := hw h1 rfl
  refine fx_iast C F hk2 hi1 d_Paths_find_6 (fun H locs (F : fx_F D h0 h1 H locs _ _) => ?_)
  refine lv_aload_n C.ex C.by d_Paths_find_7 rfl (lv_at hv 0 rfl) ?_
  refine lv_iconst (v := (1 : Int32)) C.ex C.by d_Paths_find_8 (by decide) ?_
  let h2 : AH := up_I h1 r0 6 (1 : Int32)
  replace hw := hw h2 rfl
  refine fx_putI C F lf_Paths_31 hk1 rfl rfl (fx_mayF.no rfl rfl) d_Paths_find_9 (fun H locs (F : fx_F D h0 h2 H locs _ _) => ?_)
  exact b_Paths_find_12 C hl _ _ hw _ _ _ _ _ hv F
theorem hm_Paths_find : fx_hd y_Paths_find prog_9_method_6_code 5 (Option.some FieldType.int) [] ∈ tables_1 := (fx_m5 (List.mem_of_getElem? (i := 159) rfl))
theorem hi_Paths_find : Cond.initialized y_Paths_find.cls ∈ tables_1 := (fx_m1 (List.mem_of_getElem? (i := 10) rfl))
theorem c_Paths_find {l : Launch} (hl : l.flags = flags0) {D : DD} {Q : Int32 → AH → Prop} {r0 : Nat} {h : AH} (hw : m_Paths_find Q r0 h) : fx_Mt l D y_Paths_find (fx_hd y_Paths_find prog_9_method_6_code 5 (Option.some FieldType.int) []) 12 212 [.ref r0] h (fx_oI Q fx_no) := by
  refine fx_ofW (plainFor_of_name (by decide)) (fun p e s m below meth c C F => ?_)
  have hv := lv_entry ([.ref r0]) (n := 5) (Nat.le_of_ble_eq_true rfl)
  rw [lg_entry_eq]
  generalize (lg_sl ([.ref r0]) ++ List.replicate (5 - (lg_sl ([.ref r0])).length) Slot.unset).toArray = ls at hv ⊢
  have hv : lv_has ls 5 [(0, .ref r0)] := hv
  exact b_Paths_find_0 C hl _ _ hw _ _ _ _ _ hv F
/-! ChainJudge$Paths.step(I)LChainJudge$Certificate;: frames 3, words 40 -/
abbrev y_Paths_step : MethodName := ⟨"ChainJudge$Paths", "step", "(I)LChainJudge$Certificate;"⟩
def dl_Paths_step : List (Nat × Instr × Nat) := [(0, .iload_n 1, 1), (1, .aload_n 0, 1), (2, .getfield 31, 3), (5, .if_icmp .ne 10, 3), (8, .aload_n 0, 1), (9, .getfield 34, 3), (12, .goto 19, 3), (15, .aload_n 0, 1), (16, .getfield 10, 3), (19, .aload_n 0, 1), (20, .getfield 27, 3), (23, .iload_n 1, 1), (24, .iaload, 1), (25, .invokevirtual 54, 3), (28, .checkcast 45, 3), (31, .areturn, 1)]
theorem dk_Paths_step : fx_dec prog_9_method_7_code dl_Paths_step = true := by decide +kernel
theorem d_Paths_step_0 : decode prog_9_method_7_code 0 = .ok (.iload_n 1, 1) := fx_dat dk_Paths_step 0 rfl
theorem d_Paths_step_1 : decode prog_9_method_7_code 1 = .ok (.aload_n 0, 1) := fx_dat dk_Paths_step 1 rfl
theorem d_Paths_step_2 : decode prog_9_method_7_code 2 = .ok (.getfield 31, 3) := fx_dat dk_Paths_step 2 rfl
theorem d_Paths_step_5 : decode prog_9_method_7_code 5 = .ok (.if_icmp .ne 10, 3) := fx_dat dk_Paths_step 3 rfl
theorem d_Paths_step_8 : decode prog_9_method_7_code 8 = .ok (.aload_n 0, 1) := fx_dat dk_Paths_step 4 rfl
theorem d_Paths_step_9 : decode prog_9_method_7_code 9 = .ok (.getfield 34, 3) := fx_dat dk_Paths_step 5 rfl
theorem d_Paths_step_12 : decode prog_9_method_7_code 12 = .ok (.goto 19, 3) := fx_dat dk_Paths_step 6 rfl
theorem d_Paths_step_15 : decode prog_9_method_7_code 15 = .ok (.aload_n 0, 1) := fx_dat dk_Paths_step 7 rfl
theorem d_Paths_step_16 : decode prog_9_method_7_code 16 = .ok (.getfield 10, 3) := fx_dat dk_Paths_step 8 rfl
theorem d_Paths_step_19 : decode prog_9_method_7_code 19 = .ok (.aload_n 0, 1) := fx_dat dk_Paths_step 9 rfl
theorem d_Paths_step_20 : decode prog_9_method_7_code 20 = .ok (.getfield 27, 3) := fx_dat dk_Paths_step 10 rfl
theorem d_Paths_step_23 : decode prog_9_method_7_code 23 = .ok (.iload_n 1, 1) := fx_dat dk_Paths_step 11 rfl
theorem d_Paths_step_24 : decode prog_9_method_7_code 24 = .ok (.iaload, 1) := fx_dat dk_Paths_step 12 rfl
theorem d_Paths_step_25 : decode prog_9_method_7_code 25 = .ok (.invokevirtual 54, 3) := fx_dat dk_Paths_step 13 rfl
theorem d_Paths_step_28 : decode prog_9_method_7_code 28 = .ok (.checkcast 45, 3) := fx_dat dk_Paths_step 14 rfl
theorem d_Paths_step_31 : decode prog_9_method_7_code 31 = .ok (.areturn, 1) := fx_dat dk_Paths_step 15 rfl
def m_Paths_step_31 (Q : Nat → AH → Prop) (sr0 : Nat) (h : AH) : Prop := Q sr0 h
def m_Paths_step (Q : Nat → AH → Prop) (r0 : Nat) (x1 : Int32) (h : AH) : Prop := hp_k h r0 = 7 ∧ (¬ x1 = (hp_I h r0 6) → ∃ b1, hp_R h r0 1 = some b1 ∧ ∃ b2, hp_R h r0 5 = some b2 ∧ ik (hp_k h b2) ∧ vp_in x1 (hp_n h b2) ∧ hp_k h b1 = 12 ∧ m_AL_get (fun q1 h1 => fx_ext h h1 → hp_k h1 q1 = 8 ∧ m_Paths_step_31 Q q1 h1) b1 (hp_I h b2 x1.toNatClampNeg) h) ∧ (x1 = (hp_I h r0 6) → ∃ b3, hp_R h r0 7 = some b3 ∧ m_Paths_step_31 Q b3 h)
theorem b_Paths_step_31 {p : Program} {l : Launch} {e : Env} {R : Room} {s : State} {m : MethodId} {args : Array Value} {below : List Frame} {meth : Method} {c : Code} {D : DD} {h0 : AH} {Q : Nat → AH → Prop} (C : fx_CX D y_Paths_step prog_9_method_7_code 2 3 40 (Option.some (FieldType.object "ChainJudge$Certificate")) [] h0 p R s m meth c) (hl : l.flags = flags0) (sr0 : Nat) (h : AH) (hw : m_Paths_step_31 Q sr0 h) : ∀ (ls : Array Slot) (H : Heap) (locs : List Loc) (cells slots : Nat), lv_has ls 2 [] → fx_F D h0 h H locs cells slots → W p l e R s m args below meth c H locs cells slots (fx_Z D below s h0 (fx_oR Q fx_no)) (F0 m 31 ls [.ref sr0]) := by
  unfold m_Paths_step_31 at hw
  intro ls H locs cells slots hv F
  exact fx_aret C F (Or.inl ⟨_, rfl⟩) d_Paths_step_31 (Or.inl ⟨_, rfl, hw⟩)
theorem b_Paths_step_0 {p : Program} {l : Launch} {e : Env} {R : Room} {s : State} {m : MethodId} {args : Array Value} {below : List Frame} {meth : Method} {c : Code} {D : DD} {h0 : AH} {Q : Nat → AH → Prop} (C : fx_CX D y_Paths_step prog_9_method_7_code 2 3 40 (Option.some (FieldType.object "ChainJudge$Certificate")) [] h0 p R s m meth c) (hl : l.flags = flags0) (r0 : Nat) (x1 : Int32) (h : AH) (hw : m_Paths_step Q r0 x1 h) : ∀ (ls : Array Slot) (H : Heap) (locs : List Loc) (cells slots : Nat), lv_has ls 2 [(0, .ref r0), (1, .int x1)] → fx_F D h0 h H locs cells slots → W p l e R s m args below meth c H locs cells slots (fx_Z D below s h0 (fx_oR Q fx_no)) (F0 m 0 ls []) := by
  unfold m_Paths_step at hw
  intro ls H locs cells slots hv F
  refine lv_iload_n C.ex C.by d_Paths_step_0 rfl (lv_at hv 1 rfl) ?_
  refine lv_aload_n C.ex C.by d_Paths_step_1 rfl (lv_at hv 0 rfl) ?_
  obtain ⟨hk1, hw⟩ := hw
  refine fx_getI C F lf_Paths_31 hk1 rfl d_Paths_step_2 ?_
  refine lv_icmp_ne C.ex C.by d_Paths_step_5 rfl (fun hc => ?_) (fun hc => ?_)
  · replace hw := hw.1 hc
    refine lv_aload_n C.ex C.by d_Paths_step_15 rfl (lv_at hv 0 rfl) ?_
    obtain ⟨b1, hb1, hw⟩ := hw
    refine fx_getR C F lf_Paths_10 hk1 rfl hb1 d_Paths_step_16 ?_
    refine lv_aload_n C.ex C.by d_Paths_step_19 rfl (lv_at hv 0 rfl) ?_
    obtain ⟨b2, hb2, hw⟩ := hw
    refine fx_getR C F lf_Paths_27 hk1 rfl hb2 d_Paths_step_20 ?_
    refine lv_iload_n C.ex C.by d_Paths_step_23 rfl (lv_at hv 1 rfl) ?_
    obtain ⟨hk2, hw⟩ := hw
    obtain ⟨hi1, hw⟩ := hw
    refine fx_iald C F hk2 hi1 d_Paths_step_24 ?_
    obtain ⟨hk3, hw⟩ := hw
    refine fx_callR C F (c_AL_get hl hw) hm_AL_get hi_AL_get hv.1 (by decide) (Nat.le_of_ble_eq_true rfl) (iv_AL_get C F lm_Paths_54 hk3 d_Paths_step_25) (fx_out0 _) fx_eno (fun q1 h1 H locs cells slots hw hx1 F => ?_)
    replace hw := hw hx1
    have hk3 := (hx1).k hk3
    have hk2 := (hx1).gi hk2
    have hk1 := (hx1).k hk1
    obtain ⟨hk4, hw⟩ := hw
    refine fx_cast (ci := 7) (r := ("ChainJudge$Certificate", fx_T7, 29)) (nm := "ChainJudge$Certificate") C F rfl (by decide) hk4 (fx_m5 (List.mem_of_getElem? (i := 146) rfl)) (fx_m8 (List.mem_of_getElem? (i := 8) rfl)) d_Paths_step_28 ?_
    exact b_Paths_step_31 C hl _ _ hw _ _ _ _ _ (lv_sub hv [] rfl) F
  · replace hw := hw.2 hc
    refine lv_aload_n C.ex C.by d_Paths_step_8 rfl (lv_at hv 0 rfl) ?_
    obtain ⟨b3, hb3, hw⟩ := hw
    refine fx_getR C F lf_Paths_34 hk1 rfl hb3 d_Paths_step_9 ?_
    refine lv_goto C.ex C.by d_Paths_step_12 rfl ?_
    exact b_Paths_step_31 C hl _ _ hw _ _ _ _ _ (lv_sub hv [] rfl) F
theorem hm_Paths_step : fx_hd y_Paths_step prog_9_method_7_code 2 (Option.some (FieldType.object "ChainJudge$Certificate")) [] ∈ tables_1 := (fx_m5 (List.mem_of_getElem? (i := 189) rfl))
theorem hi_Paths_step : Cond.initialized y_Paths_step.cls ∈ tables_1 := (fx_m1 (List.mem_of_getElem? (i := 10) rfl))
theorem c_Paths_step {l : Launch} (hl : l.flags = flags0) {D : DD} {Q : Nat → AH → Prop} {r0 : Nat} {x1 : Int32} {h : AH} (hw : m_Paths_step Q r0 x1 h) : fx_Mt l D y_Paths_step (fx_hd y_Paths_step prog_9_method_7_code 2 (Option.some (FieldType.object "ChainJudge$Certificate")) []) 3 40 [.ref r0, .int x1] h (fx_oR Q fx_no) := by
  refine fx_ofW (plainFor_of_name (by decide)) (fun p e s m below meth c C F => ?_)
  have hv := lv_entry ([.ref r0, .int x1]) (n := 2) (Nat.le_of_ble_eq_true rfl)
  rw [lg_entry_eq]
  generalize (lg_sl ([.ref r0, .int x1]) ++ List.replicate (2 - (lg_sl ([.ref r0, .int x1])).length) Slot.unset).toArray = ls at hv ⊢
  have hv : lv_has ls 2 [(0, .ref r0), (1, .int x1)] := hv
  exact b_Paths_step_0 C hl _ _ _ hw _ _ _ _ _ hv F
/-! ChainJudge$Certificate.isAuthority()Z: frames 0, words 0 -/
abbrev y_Cert_isAuthority : MethodName := ⟨"ChainJudge$Certificate", "isAuthority", "()Z"⟩
def dl_Cert_isAuthority : List (Nat × Instr × Nat) := [(0, .aload_n 0, 1), (1, .getfield 67, 3), (4, .ifCond .eq 23, 3), (7, .aload_n 0, 1), (8, .getfield 80, 3), (11, .ifCond .lt 12, 3), (14, .aload_n 0, 1), (15, .getfield 80, 3), (18, .iconst 4, 1), (19, .iand, 1), (20, .ifCond .eq 7, 3), (23, .iconst 1, 1), (24, .goto 4, 3), (27, .iconst 0, 1), (28, .ireturn, 1)]
theorem dk_Cert_isAuthority : fx_dec prog_2_method_15_code dl_Cert_isAuthority = true := by decide +kernel
theorem d_Cert_isAuthority_0 : decode prog_2_method_15_code 0 = .ok (.aload_n 0, 1) := fx_dat dk_Cert_isAuthority 0 rfl
theorem d_Cert_isAuthority_1 : decode prog_2_method_15_code 1 = .ok (.getfield 67, 3) := fx_dat dk_Cert_isAuthority 1 rfl
theorem d_Cert_isAuthority_4 : decode prog_2_method_15_code 4 = .ok (.ifCond .eq 23, 3) := fx_dat dk_Cert_isAuthority 2 rfl
theorem d_Cert_isAuthority_7 : decode prog_2_method_15_code 7 = .ok (.aload_n 0, 1) := fx_dat dk_Cert_isAuthority 3 rfl
theorem d_Cert_isAuthority_8 : decode prog_2_method_15_code 8 = .ok (.getfield 80, 3) := fx_dat dk_Cert_isAuthority 4 rfl
theorem d_Cert_isAuthority_11 : decode prog_2_method_15_code 11 = .ok (.ifCond .lt 12, 3) := fx_dat dk_Cert_isAuthority 5 rfl
theorem d_Cert_isAuthority_14 : decode prog_2_method_15_code 14 = .ok (.aload_n 0, 1) := fx_dat dk_Cert_isAuthority 6 rfl
theorem d_Cert_isAuthority_15 : decode prog_2_method_15_code 15 = .ok (.getfield 80, 3) := fx_dat dk_Cert_isAuthority 7 rfl
theorem d_Cert_isAuthority_18 : decode prog_2_method_15_code 18 = .ok (.iconst 4, 1) := fx_dat dk_Cert_isAuthority 8 rfl
theorem d_Cert_isAuthority_19 : decode prog_2_method_15_code 19 = .ok (.iand, 1) := fx_dat dk_Cert_isAuthority 9 rfl
theorem d_Cert_isAuthority_20 : decode prog_2_method_15_code 20 = .ok (.ifCond .eq 7, 3) := fx_dat dk_Cert_isAuthority 10 rfl
theorem d_Cert_isAuthority_23 : decode prog_2_method_15_code 23 = .ok (.iconst 1, 1) := fx_dat dk_Cert_isAuthority 11 rfl
theorem d_Cert_isAuthority_24 : decode prog_2_method_15_code 24 = .ok (.goto 4, 3) := fx_dat dk_Cert_isAuthority 12 rfl
theorem d_Cert_isAuthority_27 : decode prog_2_method_15_code 27 = .ok (.iconst 0, 1) := fx_dat dk_Cert_isAuthority 13 rfl
theorem d_Cert_isAuthority_28 : decode prog_2_method_15_code 28 = .ok (.ireturn, 1) := fx_dat dk_Cert_isAuthority 14 rfl
def m_Cert_isAuthority_28 (Q : Int32 → AH → Prop) (sx0 : Int32) (h : AH) : Prop := zb sx0 ∧ Q sx0 h
def m_Cert_isAuthority_27 (Q : Int32 → AH → Prop) (h : AH) : Prop := m_Cert_isAuthority_28 Q (0 : Int32) h
def m_Cert_isAuthority_23 (Q : Int32 → AH → Prop) (h : AH) : Prop := m_Cert_isAuthority_28 Q (1 : Int32) h
def m_Cert_isAuthority (Q : Int32 → AH → Prop) (r0 : Nat) (h : AH) : Prop := hp_k h r0 = 8 ∧ ((hp_I h r0 18) = 0 → m_Cert_isAuthority_27 Q h) ∧ (¬ (hp_I h r0 18) = 0 → ((hp_I h r0 22) < 0 → m_Cert_isAuthority_23 Q h) ∧ (¬ (hp_I h r0 22) < 0 → (((hp_I h r0 22) &&& (4 : Int32)) = 0 → m_Cert_isAuthority_27 Q h) ∧ (¬ ((hp_I h r0 22) &&& (4 : Int32)) = 0 → m_Cert_isAuthority_23 Q h)))
theorem b_Cert_isAuthority_28 {p : Program} {l : Launch} {e : Env} {R : Room} {s : State} {m : MethodId} {args : Array Value} {below : List Frame} {meth : Method} {c : Code} {D : DD} {h0 : AH} {Q : Int32 → AH → Prop} (C : fx_CX D y_Cert_isAuthority prog_2_method_15_code 1 0 0 (Option.some FieldType.boolean) [] h0 p R s m meth c) (hl : l.flags = flags0) (sx0 : Int32) (h : AH) (hw : m_Cert_isAuthority_28 Q sx0 h) : ∀ (ls : Array Slot) (H : Heap) (locs : List Loc) (cells slots : Nat), lv_has ls 1 [] → fx_F D h0 h H locs cells slots → W p l e R s m args below meth c H locs cells slots (fx_Z D below s h0 (fx_oZ Q fx_no)) (F0 m 28 ls [.int sx0]) := by
  unfold m_Cert_isAuthority_28 at hw
  intro ls H locs cells slots hv F
  exact fx_zret C F d_Cert_isAuthority_28 hw.1 (Or.inl ⟨_, rfl, hw.1, hw.2⟩)
theorem b_Cert_isAuthority_27 {p : Program} {l : Launch} {e : Env} {R : Room} {s : State} {m : MethodId} {args : Array Value} {below : List Frame} {meth : Method} {c : Code} {D : DD} {h0 : AH} {Q : Int32 → AH → Prop} (C : fx_CX D y_Cert_isAuthority prog_2_method_15_code 1 0 0 (Option.some FieldType.boolean) [] h0 p R s m meth c) (hl : l.flags = flags0) (h : AH) (hw : m_Cert_isAuthority_27 Q h) : ∀ (ls : Array Slot) (H : Heap) (locs : List Loc) (cells slots : Nat), lv_has ls 1 [] → fx_F D h0 h H locs cells slots → W p l e R s m args below meth c H locs cells slots (fx_Z D below s h0 (fx_oZ Q fx_no)) (F0 m 27 ls []) := by
  unfold m_Cert_isAuthority_27 at hw
  intro ls H locs cells slots hv F
  refine lv_iconst (v := (0 : Int32)) C.ex C.by d_Cert_isAuthority_27 (by decide) ?_
  exact b_Cert_isAuthority_28 C hl _ _ hw _ _ _ _ _ hv F
theorem b_Cert_isAuthority_23 {p : Program} {l : Launch} {e : Env} {R : Room} {s : State} {m : MethodId} {args : Array Value} {below : List Frame} {meth : Method} {c : Code} {D : DD} {h0 : AH} {Q : Int32 → AH → Prop} (C : fx_CX D y_Cert_isAuthority prog_2_method_15_code 1 0 0 (Option.some FieldType.boolean) [] h0 p R s m meth c) (hl : l.flags = flags0) (h : AH) (hw : m_Cert_isAuthority_23 Q h) : ∀ (ls : Array Slot) (H : Heap) (locs : List Loc) (cells slots : Nat), lv_has ls 1 [] → fx_F D h0 h H locs cells slots → W p l e R s m args below meth c H locs cells slots (fx_Z D below s h0 (fx_oZ Q fx_no)) (F0 m 23 ls []) := by
  unfold m_Cert_isAuthority_23 at hw
  intro ls H locs cells slots hv F
  refine lv_iconst (v := (1 : Int32)) C.ex C.by d_Cert_isAuthority_23 (by decide) ?_
  refine lv_goto C.ex C.by d_Cert_isAuthority_24 rfl ?_
  exact b_Cert_isAuthority_28 C hl _ _ hw _ _ _ _ _ hv F
theorem b_Cert_isAuthority_0 {p : Program} {l : Launch} {e : Env} {R : Room} {s : State} {m : MethodId} {args : Array Value} {below : List Frame} {meth : Method} {c : Code} {D : DD} {h0 : AH} {Q : Int32 → AH → Prop} (C : fx_CX D y_Cert_isAuthority prog_2_method_15_code 1 0 0 (Option.some FieldType.boolean) [] h0 p R s m meth c) (hl : l.flags = flags0) (r0 : Nat) (h : AH) (hw : m_Cert_isAuthority Q r0 h) : ∀ (ls : Array Slot) (H : Heap) (locs : List Loc) (cells slots : Nat), lv_has ls 1 [(0, .ref r0)] → fx_F D h0 h H locs cells slots → W p l e R s m args below meth c H locs cells slots (fx_Z D below s h0 (fx_oZ Q fx_no)) (F0 m 0 ls []) := by
  unfold m_Cert_isAuthority at hw
  intro ls H locs cells slots hv F
  refine lv_aload_n C.ex C.by d_Cert_isAuthority_0 rfl (lv_at hv 0 rfl) ?_
  obtain ⟨hk1, hw⟩ := hw
  refine fx_getI C F lf_Cert_67 hk1 rfl d_Cert_isAuthority_1 ?_
  refine lv_if_eq C.ex C.by d_Cert_isAuthority_4 rfl (fun hc => ?_) (fun hc => ?_)
  · replace hw := hw.1 hc
    exact b_Cert_isAuthority_27 C hl _ hw _ _ _ _ _ (lv_sub hv [] rfl) F
  · replace hw := hw.2 hc
    refine lv_aload_n C.ex C.by d_Cert_isAuthority_7 rfl (lv_at hv 0 rfl) ?_
    refine fx_getI C F lf_Cert_80 hk1 rfl d_Cert_isAuthority_8 ?_
    refine lv_if_lt C.ex C.by d_Cert_isAuthority_11 rfl (fun hc => ?_) (fun hc => ?_)
    · replace hw := hw.1 hc
      exact b_Cert_isAuthority_23 C hl _ hw _ _ _ _ _ (lv_sub hv [] rfl) F
    · replace hw := hw.2 hc
      refine lv_aload_n C.ex C.by d_Cert_isAuthority_14 rfl (lv_at hv 0 rfl) ?_
      refine fx_getI C F lf_Cert_80 hk1 rfl d_Cert_isAuthority_15 ?_
      refine lv_iconst (v := (4 : Int32)) C.ex C.by d_Cert_isAuthority_18 (by decide) ?_
      refine lv_iand C.ex C.by d_Cert_isAuthority_19 ?_
      refine lv_if_eq C.ex C.by d_Cert_isAuthority_20 rfl (fun hc => ?_) (fun hc => ?_)
      · replace hw := hw.1 hc
        exact b_Cert_isAuthority_27 C hl _ hw _ _ _ _ _ (lv_sub hv [] rfl) F
      · replace hw := hw.2 hc
        exact b_Cert_isAuthority_23 C hl _ hw _ _ _ _ _ (lv_sub hv [] rfl) F
theorem hm_Cert_isAuthority : fx_hd y_Cert_isAuthority prog_2_method_15_code 1 (Option.some FieldType.boolean) [] ∈ tables_1 := (fx_m5 (List.mem_of_getElem? (i := 193) rfl))
theorem hi_Cert_isAuthority : Cond.initialized y_Cert_isAuthority.cls ∈ tables_1 := (fx_m1 (List.mem_of_getElem? (i := 11) rfl))
theorem c_Cert_isAuthority {l : Launch} (hl : l.flags = flags0) {D : DD} {Q : Int32 → AH → Prop} {r0 : Nat} {h : AH} (hw : m_Cert_isAuthority Q r0 h) : fx_Mt l D y_Cert_isAuthority (fx_hd y_Cert_isAuthority prog_2_method_15_code 1 (Option.some FieldType.boolean) []) 0 0 [.ref r0] h (fx_oZ Q fx_no) := by
  refine fx_ofW (plainFor_of_name (by decide)) (fun p e s m below meth c C F => ?_)
  have hv := lv_entry ([.ref r0]) (n := 1) (Nat.le_of_ble_eq_true rfl)
  rw [lg_entry_eq]
  generalize (lg_sl ([.ref r0]) ++ List.replicate (1 - (lg_sl ([.ref r0])).length) Slot.unset).toArray = ls at hv ⊢
  have hv : lv_has ls 1 [(0, .ref r0)] := hv
  exact b_Cert_isAuthority_0 C hl _ _ hw _ _ _ _ _ hv F
