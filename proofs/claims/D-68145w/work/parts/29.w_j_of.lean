set_option maxRecDepth 10000
/-! ChainJudge.of(I)LChainJudge$Held;: frames 6, words 81, throws -/
abbrev y_J_of : MethodName := ⟨"ChainJudge", "of", "(I)LChainJudge$Held;"⟩
def dl_J_of : List (Nat × Instr × Nat) := [(0, .iload_n 1, 1), (1, .ifCond .lt 14, 3), (4, .iload_n 1, 1), (5, .aload_n 0, 1), (6, .getfield 36, 3), (9, .invokevirtual 125, 3), (12, .if_icmp .lt 11, 3), (15, .new 128, 3), (18, .dup, 1), (19, .invokespecial 130, 3), (22, .athrow, 1), (23, .aload_n 0, 1), (24, .getfield 36, 3), (27, .iload_n 1, 1), (28, .invokevirtual 131, 3), (31, .checkcast 135, 3), (34, .areturn, 1)]
theorem dk_J_of : fx_dec prog_1_method_8_code dl_J_of = true := by decide +kernel
theorem d_J_of_0 : decode prog_1_method_8_code 0 = .ok (.iload_n 1, 1) := fx_dat dk_J_of 0 rfl
theorem d_J_of_1 : decode prog_1_method_8_code 1 = .ok (.ifCond .lt 14, 3) := fx_dat dk_J_of 1 rfl
theorem d_J_of_4 : decode prog_1_method_8_code 4 = .ok (.iload_n 1, 1) := fx_dat dk_J_of 2 rfl
theorem d_J_of_5 : decode prog_1_method_8_code 5 = .ok (.aload_n 0, 1) := fx_dat dk_J_of 3 rfl
theorem d_J_of_6 : decode prog_1_method_8_code 6 = .ok (.getfield 36, 3) := fx_dat dk_J_of 4 rfl
theorem d_J_of_9 : decode prog_1_method_8_code 9 = .ok (.invokevirtual 125, 3) := fx_dat dk_J_of 5 rfl
theorem d_J_of_12 : decode prog_1_method_8_code 12 = .ok (.if_icmp .lt 11, 3) := fx_dat dk_J_of 6 rfl
theorem d_J_of_15 : decode prog_1_method_8_code 15 = .ok (.new 128, 3) := fx_dat dk_J_of 7 rfl
theorem d_J_of_18 : decode prog_1_method_8_code 18 = .ok (.dup, 1) := fx_dat dk_J_of 8 rfl
theorem d_J_of_19 : decode prog_1_method_8_code 19 = .ok (.invokespecial 130, 3) := fx_dat dk_J_of 9 rfl
theorem d_J_of_22 : decode prog_1_method_8_code 22 = .ok (.athrow, 1) := fx_dat dk_J_of 10 rfl
theorem d_J_of_23 : decode prog_1_method_8_code 23 = .ok (.aload_n 0, 1) := fx_dat dk_J_of 11 rfl
theorem d_J_of_24 : decode prog_1_method_8_code 24 = .ok (.getfield 36, 3) := fx_dat dk_J_of 12 rfl
theorem d_J_of_27 : decode prog_1_method_8_code 27 = .ok (.iload_n 1, 1) := fx_dat dk_J_of 13 rfl
theorem d_J_of_28 : decode prog_1_method_8_code 28 = .ok (.invokevirtual 131, 3) := fx_dat dk_J_of 14 rfl
theorem d_J_of_31 : decode prog_1_method_8_code 31 = .ok (.checkcast 135, 3) := fx_dat dk_J_of 15 rfl
theorem d_J_of_34 : decode prog_1_method_8_code 34 = .ok (.areturn, 1) := fx_dat dk_J_of 16 rfl
def m_J_of_15 (Q : Nat → AH → Prop) (E : Nat → AH → Prop) (h : AH) : Prop := fx_has h 6 ∧ ∀ (_ : fx_wf h) (q1 : Nat), q1 = hp_z h → ∀ h1 : AH, h1 = up_N h 16 0 6 → E q1 h1
def m_J_of (Q : Nat → AH → Prop) (E : Nat → AH → Prop) (r0 : Nat) (x1 : Int32) (h : AH) : Prop := (x1 < 0 → m_J_of_15 Q E h) ∧ (¬ x1 < 0 → hp_k h r0 = 1 ∧ ∃ b1, hp_R h r0 4 = some b1 ∧ hp_k h b1 = 12 ∧ m_AL_size (fun v1 h1 => fx_ext h h1 → (x1 < v1 → ∃ b2, hp_R h1 r0 4 = some b2 ∧ hp_k h1 b2 = 12 ∧ m_AL_get (fun q1 h2 => fx_ext h1 h2 → hp_k h2 q1 = 3 ∧ Q q1 h2) b2 x1 h1) ∧ (¬ x1 < v1 → m_J_of_15 Q E h1)) b1 h)
theorem b_J_of_15 {p : Program} {l : Launch} {e : Env} {R : Room} {s : State} {m : MethodId} {args : Array Value} {below : List Frame} {meth : Method} {c : Code} {D : DD} {h0 : AH} {Q : Nat → AH → Prop} {E : Nat → AH → Prop} (C : fx_CX D y_J_of prog_1_method_8_code 2 6 81 (Option.some (FieldType.object "ChainJudge$Held")) [] h0 p R s m meth c) (hl : l.flags = flags0) (h : AH) (hw : m_J_of_15 Q E h) : ∀ (ls : Array Slot) (H : Heap) (locs : List Loc) (cells slots : Nat), lv_has ls 2 [] → fx_F D h0 h H locs cells slots → W p l e R s m args below meth c H locs cells slots (fx_Z D below s h0 (fx_oR Q E)) (F0 m 15 ls []) := by
  unfold m_J_of_15 at hw
  intro ls H locs cells slots hv F
  obtain ⟨hs, hw⟩ := hw
  let q1 : Nat := hp_z h
  let h1 : AH := up_N h 16 0 6
  replace hw := hw F.wf q1 rfl h1 rfl
  have hkq1 : hp_k h1 q1 = 16 := fx_nk _ _ _ _
  refine fx_exc (r := ("java/util/NoSuchElementException", fx_T15, 0)) (names := fx_rn) C F rfl rfl (fx_m3 (List.mem_of_getElem? (i := 71) rfl)) (fx_m1 (List.mem_of_getElem? (i := 23) rfl)) (by decide +kernel) (by decide +kernel) ex_J_130 hs hv.1 hl d_J_of_15 d_J_of_18 d_J_of_19 (by decide) (Nat.le_of_ble_eq_true rfl) (fun H locs cells slots (F : fx_F D h0 h1 H locs cells slots) => ?_)
  exact fx_athrow C F (fx_out0 _) d_J_of_22 (Or.inr ⟨_, rfl, hw⟩)
theorem b_J_of_0 {p : Program} {l : Launch} {e : Env} {R : Room} {s : State} {m : MethodId} {args : Array Value} {below : List Frame} {meth : Method} {c : Code} {D : DD} {h0 : AH} {Q : Nat → AH → Prop} {E : Nat → AH → Prop} (C : fx_CX D y_J_of prog_1_method_8_code 2 6 81 (Option.some (FieldType.object "ChainJudge$Held")) [] h0 p R s m meth c) (hl : l.flags = flags0) (r0 : Nat) (x1 : Int32) (h : AH) (hw : m_J_of Q E r0 x1 h) : ∀ (ls : Array Slot) (H : Heap) (locs : List Loc) (cells slots : Nat), lv_has ls 2 [(0, .ref r0), (1, .int x1)] → fx_F D h0 h H locs cells slots → W p l e R s m args below meth c H locs cells slots (fx_Z D below s h0 (fx_oR Q E)) (F0 m 0 ls []) := by
  unfold m_J_of at hw
  intro ls H locs cells slots hv F
  refine lv_iload_n C.ex C.by d_J_of_0 rfl (lv_at hv 1 rfl) ?_
  refine lv_if_lt C.ex C.by d_J_of_1 rfl (fun hc => ?_) (fun hc => ?_)
  · replace hw := hw.1 hc
    exact b_J_of_15 C hl _ hw _ _ _ _ _ (lv_sub hv [] rfl) F
  · replace hw := hw.2 hc
    refine lv_iload_n C.ex C.by d_J_of_4 rfl (lv_at hv 1 rfl) ?_
    refine lv_aload_n C.ex C.by d_J_of_5 rfl (lv_at hv 0 rfl) ?_
    obtain ⟨hk1, hw⟩ := hw
    obtain ⟨b1, hb1, hw⟩ := hw
    refine fx_getR C F lf_J_36 hk1 rfl hb1 d_J_of_6 ?_
    obtain ⟨hk2, hw⟩ := hw
    refine fx_callI C F (c_AL_size hl hw) hm_AL_size hi_AL_size hv.1 (by decide) (Nat.le_of_ble_eq_true rfl) (iv_AL_size C F lm_J_125 hk2 d_J_of_9) (fx_out0 _) fx_eno (fun v1 h1 H locs cells slots hw hx1 F => ?_)
    replace hw := hw hx1
    have hk2 := (hx1).k hk2
    have hk1 := (hx1).k hk1
    refine lv_icmp_lt C.ex C.by d_J_of_12 rfl (fun hc => ?_) (fun hc => ?_)
    · replace hw := hw.1 hc
      refine lv_aload_n C.ex C.by d_J_of_23 rfl (lv_at hv 0 rfl) ?_
      obtain ⟨b2, hb2, hw⟩ := hw
      refine fx_getR C F lf_J_36 hk1 rfl hb2 d_J_of_24 ?_
      refine lv_iload_n C.ex C.by d_J_of_27 rfl (lv_at hv 1 rfl) ?_
      obtain ⟨hk3, hw⟩ := hw
      refine fx_callR C F (c_AL_get hl hw) hm_AL_get hi_AL_get hv.1 (by decide) (Nat.le_of_ble_eq_true rfl) (iv_AL_get C F lm_J_131 hk3 d_J_of_28) (fx_out0 _) fx_eno (fun q1 h2 H locs cells slots hw hx2 F => ?_)
      replace hw := hw hx2
      have hk2 := (hx2).k hk2
      have hk3 := (hx2).k hk3
      have hk1 := (hx2).k hk1
      obtain ⟨hk4, hw⟩ := hw
      refine fx_cast (ci := 2) (r := ("ChainJudge$Held", fx_T2, 2)) (nm := "ChainJudge$Held") C F rfl (by decide) hk4 (fx_m3 (List.mem_of_getElem? (i := 108) rfl)) (fx_m8 (List.mem_of_getElem? (i := 7) rfl)) d_J_of_31 ?_
      exact fx_aret C F (Or.inl ⟨_, rfl⟩) d_J_of_34 (Or.inl ⟨_, rfl, hw⟩)
    · replace hw := hw.2 hc
      exact b_J_of_15 C hl _ hw _ _ _ _ _ (lv_sub hv [] rfl) F
theorem hm_J_of : fx_hd y_J_of prog_1_method_8_code 2 (Option.some (FieldType.object "ChainJudge$Held")) [] ∈ tables_1 := (fx_m5 (List.mem_of_getElem? (i := 75) rfl))
theorem hi_J_of : Cond.initialized y_J_of.cls ∈ tables_1 := (fx_m1 (List.mem_of_getElem? (i := 1) rfl))
theorem c_J_of {l : Launch} (hl : l.flags = flags0) {D : DD} {Q : Nat → AH → Prop} {E : Nat → AH → Prop} {r0 : Nat} {x1 : Int32} {h : AH} (hw : m_J_of Q E r0 x1 h) : fx_Mt l D y_J_of (fx_hd y_J_of prog_1_method_8_code 2 (Option.some (FieldType.object "ChainJudge$Held")) []) 6 81 [.ref r0, .int x1] h (fx_oR Q E) := by
  refine fx_ofW (plainFor_of_name (by decide)) (fun p e s m below meth c C F => ?_)
  have hv := lv_entry ([.ref r0, .int x1]) (n := 2) (Nat.le_of_ble_eq_true rfl)
  rw [lg_entry_eq]
  generalize (lg_sl ([.ref r0, .int x1]) ++ List.replicate (2 - (lg_sl ([.ref r0, .int x1])).length) Slot.unset).toArray = ls at hv ⊢
  have hv : lv_has ls 2 [(0, .ref r0), (1, .int x1)] := hv
  exact b_J_of_0 C hl _ _ _ hw _ _ _ _ _ hv F
/-! ChainJudge.alter(III)I: frames 7, words 102, throws -/
abbrev y_J_alter : MethodName := ⟨"ChainJudge", "alter", "(III)I"⟩
theorem lm_J_231 : Cond.methodLink "ChainJudge" 231 y_J_of ∈ tables_1 ∨ ∃ host, Cond.methodLinkNest "ChainJudge" 231 y_J_of host ∈ tables_1 := Or.inl (fx_m5 (List.mem_of_getElem? (i := 72) rfl))
theorem ex_J_237 : fx_eW "ChainJudge" 237 "java/lang/IndexOutOfBoundsException" fx_rn := fx_eWmk (fx_m5 (List.mem_of_getElem? (i := 86) rfl)) (fx_m5 (List.mem_of_getElem? (i := 87) rfl)) (fx_m5 (List.mem_of_getElem? (i := 88) rfl)) (fx_m5 (List.mem_of_getElem? (i := 85) rfl)) (fx_m5 (List.mem_of_getElem? (i := 77) rfl)) (fx_m5 (List.mem_of_getElem? (i := 78) rfl)) (fx_m5 (List.mem_of_getElem? (i := 79) rfl)) (fx_m2 (List.mem_of_getElem? (i := 219) rfl)) (fx_m5 (List.mem_of_getElem? (i := 80) rfl)) (fx_m5 (List.mem_of_getElem? (i := 81) rfl)) (fx_m5 (List.mem_of_getElem? (i := 82) rfl)) (fx_m5 (List.mem_of_getElem? (i := 83) rfl)) (fx_m5 (List.mem_of_getElem? (i := 84) rfl))
section
variable {p : Program} {l : Launch} {e : Env} {R : Room} {s : State} {m : MethodId} {args : Array Value} {below : List Frame} {meth : Method} {c : Code} {H : Heap} {locs : List Loc} {cells slots : Nat}
variable {D : DD} {y : MethodName} {cc : ByteArray} {nL kf kw : Nat} {ret : Option FieldType} {hh : List (Nat × Nat × Nat × Nat)} {h0 h : AH} {pc : Nat} {ls : Array Slot} {rest : List Value} {b idx : Nat}
theorem iv_J_of {x1 : Int32} (C : fx_CX D y cc nL kf kw ret hh h0 p R s m meth c) (F : fx_F D h0 h H locs cells slots) (hw1 : Cond.methodLink y.cls idx y_J_of ∈ tables_1 ∨ ∃ host, Cond.methodLinkNest y.cls idx y_J_of host ∈ tables_1) (hk : hp_k h b = 1) (hd : decode cc pc = .ok (.invokevirtual idx, 3)) : fx_IV p l e R s m args below meth c H locs cells slots (F0 m pc ls (.int x1 :: .ref b :: rest)) rest y_J_of [.ref b, .int x1] 3 := fun T hT X => fx_invV (As := [.int x1]) (Cn := "ChainJudge") C X hw1 (fx_m5 (List.mem_of_getElem? (i := 74) rfl)) (fx_selP C ⟨by decide, by decide⟩ (fx_m1 (List.mem_of_getElem? (i := 33) rfl)) (fx_m5 (List.mem_of_getElem? (i := 73) rfl)) (fx_m5 (List.mem_of_getElem? (i := 74) rfl))) hm_J_of ⟨by decide, by decide⟩ (by rw [hT]; exact fx_clsO (ci := 0) (r := ("ChainJudge", fx_T0, 16)) C F rfl (by decide) hk) rfl (n := 1) (by decide +kernel) rfl rfl hd
end
def dl_J_alter : List (Nat × Instr × Nat) := [(0, .aload_n 0, 1), (1, .iload_n 1, 1), (2, .invokevirtual 231, 3), (5, .astore 4, 2), (7, .iload_n 2, 1), (8, .ifCond .lt 13, 3), (11, .iload_n 2, 1), (12, .aload 4, 2), (14, .getfield 137, 3), (17, .arraylength, 1), (18, .if_icmp .lt 11, 3), (21, .new 235, 3), (24, .dup, 1), (25, .invokespecial 237, 3), (28, .athrow, 1), (29, .aload_n 0, 1), (30, .aload 4, 2), (32, .getfield 137, 3), (35, .arraylength, 1), (36, .invokevirtual 221, 3), (39, .aload_n 0, 1), (40, .dup, 1), (41, .getfield 93, 3), (44, .aload 4, 2), (46, .getfield 137, 3), (49, .arraylength, 1), (50, .iadd, 1), (51, .putfield 93, 3), (54, .new 135, 3), (57, .dup, 1), (58, .aload 4, 2), (60, .getfield 137, 3), (63, .iconst 0, 1), (64, .aload 4, 2), (66, .getfield 137, 3), (69, .arraylength, 1), (70, .aload 4, 2), (72, .getfield 206, 3), (75, .invokespecial 224, 3), (78, .astore 5, 2), (80, .aload 5, 2), (82, .getfield 137, 3), (85, .iload_n 2, 1), (86, .dup2, 1), (87, .baload, 1), (88, .iload_n 3, 1), (89, .i2b, 1), (90, .ixor, 1), (91, .i2b, 1), (92, .bastore, 1), (93, .aload_n 0, 1), (94, .getfield 36, 3), (97, .aload 5, 2), (99, .invokevirtual 227, 3), (102, .pop, 1), (103, .aload_n 0, 1), (104, .getfield 36, 3), (107, .invokevirtual 125, 3), (110, .iconst 1, 1), (111, .isub, 1), (112, .ireturn, 1)]
theorem dk_J_alter : fx_dec prog_1_method_17_code dl_J_alter = true := by decide +kernel
theorem d_J_alter_0 : decode prog_1_method_17_code 0 = .ok (.aload_n 0, 1) := fx_dat dk_J_alter 0 rfl
theorem d_J_alter_1 : decode prog_1_method_17_code 1 = .ok (.iload_n 1, 1) := fx_dat dk_J_alter 1 rfl
theorem d_J_alter_2 : decode prog_1_method_17_code 2 = .ok (.invokevirtual 231, 3) := fx_dat dk_J_alter 2 rfl
theorem d_J_alter_5 : decode prog_1_method_17_code 5 = .ok (.astore 4, 2) := fx_dat dk_J_alter 3 rfl
theorem d_J_alter_7 : decode prog_1_method_17_code 7 = .ok (.iload_n 2, 1) := fx_dat dk_J_alter 4 rfl
theorem d_J_alter_8 : decode prog_1_method_17_code 8 = .ok (.ifCond .lt 13, 3) := fx_dat dk_J_alter 5 rfl
theorem d_J_alter_11 : decode prog_1_method_17_code 11 = .ok (.iload_n 2, 1) := fx_dat dk_J_alter 6 rfl
theorem d_J_alter_12 : decode prog_1_method_17_code 12 = .ok (.aload 4, 2) := fx_dat dk_J_alter 7 rfl
theorem d_J_alter_14 : decode prog_1_method_17_code 14 = .ok (.getfield 137, 3) := fx_dat dk_J_alter 8 rfl
theorem d_J_alter_17 : decode prog_1_method_17_code 17 = .ok (.arraylength, 1) := fx_dat dk_J_alter 9 rfl
theorem d_J_alter_18 : decode prog_1_method_17_code 18 = .ok (.if_icmp .lt 11, 3) := fx_dat dk_J_alter 10 rfl
theorem d_J_alter_21 : decode prog_1_method_17_code 21 = .ok (.new 235, 3) := fx_dat dk_J_alter 11 rfl
theorem d_J_alter_24 : decode prog_1_method_17_code 24 = .ok (.dup, 1) := fx_dat dk_J_alter 12 rfl
theorem d_J_alter_25 : decode prog_1_method_17_code 25 = .ok (.invokespecial 237, 3) := fx_dat dk_J_alter 13 rfl
theorem d_J_alter_28 : decode prog_1_method_17_code 28 = .ok (.athrow, 1) := fx_dat dk_J_alter 14 rfl
theorem d_J_alter_29 : decode prog_1_method_17_code 29 = .ok (.aload_n 0, 1) := fx_dat dk_J_alter 15 rfl
theorem d_J_alter_30 : decode prog_1_method_17_code 30 = .ok (.aload 4, 2) := fx_dat dk_J_alter 16 rfl
theorem d_J_alter_32 : decode prog_1_method_17_code 32 = .ok (.getfield 137, 3) := fx_dat dk_J_alter 17 rfl
theorem d_J_alter_35 : decode prog_1_method_17_code 35 = .ok (.arraylength, 1) := fx_dat dk_J_alter 18 rfl
theorem d_J_alter_36 : decode prog_1_method_17_code 36 = .ok (.invokevirtual 221, 3) := fx_dat dk_J_alter 19 rfl
theorem d_J_alter_39 : decode prog_1_method_17_code 39 = .ok (.aload_n 0, 1) := fx_dat dk_J_alter 20 rfl
theorem d_J_alter_40 : decode prog_1_method_17_code 40 = .ok (.dup, 1) := fx_dat dk_J_alter 21 rfl
theorem d_J_alter_41 : decode prog_1_method_17_code 41 = .ok (.getfield 93, 3) := fx_dat dk_J_alter 22 rfl
theorem d_J_alter_44 : decode prog_1_method_17_code 44 = .ok (.aload 4, 2) := fx_dat dk_J_alter 23 rfl
theorem d_J_alter_46 : decode prog_1_method_17_code 46 = .ok (.getfield 137, 3) := fx_dat dk_J_alter 24 rfl
theorem d_J_alter_49 : decode prog_1_method_17_code 49 = .ok (.arraylength, 1) := fx_dat dk_J_alter 25 rfl
theorem d_J_alter_50 : decode prog_1_method_17_code 50 = .ok (.iadd, 1) := fx_dat dk_J_alter 26 rfl
theorem d_J_alter_51 : decode prog_1_method_17_code 51 = .ok (.putfield 93, 3) := fx_dat dk_J_alter 27 rfl
theorem d_J_alter_54 : decode prog_1_method_17_code 54 = .ok (.new 135, 3) := fx_dat dk_J_alter 28 rfl
theorem d_J_alter_57 : decode prog_1_method_17_code 57 = .ok (.dup, 1) := fx_dat dk_J_alter 29 rfl
theorem d_J_alter_58 : decode prog_1_method_17_code 58 = .ok (.aload 4, 2) := fx_dat dk_J_alter 30 rfl
theorem d_J_alter_60 : decode prog_1_method_17_code 60 = .ok (.getfield 137, 3) := fx_dat dk_J_alter 31 rfl
theorem d_J_alter_63 : decode prog_1_method_17_code 63 = .ok (.iconst 0, 1) := fx_dat dk_J_alter 32 rfl
theorem d_J_alter_64 : decode prog_1_method_17_code 64 = .ok (.aload 4, 2) := fx_dat dk_J_alter 33 rfl
theorem d_J_alter_66 : decode prog_1_method_17_code 66 = .ok (.getfield 137, 3) := fx_dat dk_J_alter 34 rfl
theorem d_J_alter_69 : decode prog_1_method_17_code 69 = .ok (.arraylength, 1) := fx_dat dk_J_alter 35 rfl
theorem d_J_alter_70 : decode prog_1_method_17_code 70 = .ok (.aload 4, 2) := fx_dat dk_J_alter 36 rfl
theorem d_J_alter_72 : decode prog_1_method_17_code 72 = .ok (.getfield 206, 3) := fx_dat dk_J_alter 37 rfl
theorem d_J_alter_75 : decode prog_1_method_17_code 75 = .ok (.invokespecial 224, 3) := fx_dat dk_J_alter 38 rfl
theorem d_J_alter_78 : decode prog_1_method_17_code 78 = .ok (.astore 5, 2) := fx_dat dk_J_alter 39 rfl
theorem d_J_alter_80 : decode prog_1_method_17_code 80 = .ok (.aload 5, 2) := fx_dat dk_J_alter 40 rfl
theorem d_J_alter_82 : decode prog_1_method_17_code 82 = .ok (.getfield 137, 3) := fx_dat dk_J_alter 41 rfl
theorem d_J_alter_85 : decode prog_1_method_17_code 85 = .ok (.iload_n 2, 1) := fx_dat dk_J_alter 42 rfl
theorem d_J_alter_86 : decode prog_1_method_17_code 86 = .ok (.dup2, 1) := fx_dat dk_J_alter 43 rfl
theorem d_J_alter_87 : decode prog_1_method_17_code 87 = .ok (.baload, 1) := fx_dat dk_J_alter 44 rfl
theorem d_J_alter_88 : decode prog_1_method_17_code 88 = .ok (.iload_n 3, 1) := fx_dat dk_J_alter 45 rfl
theorem d_J_alter_89 : decode prog_1_method_17_code 89 = .ok (.i2b, 1) := fx_dat dk_J_alter 46 rfl
theorem d_J_alter_90 : decode prog_1_method_17_code 90 = .ok (.ixor, 1) := fx_dat dk_J_alter 47 rfl
theorem d_J_alter_91 : decode prog_1_method_17_code 91 = .ok (.i2b, 1) := fx_dat dk_J_alter 48 rfl
theorem d_J_alter_92 : decode prog_1_method_17_code 92 = .ok (.bastore, 1) := fx_dat dk_J_alter 49 rfl
theorem d_J_alter_93 : decode prog_1_method_17_code 93 = .ok (.aload_n 0, 1) := fx_dat dk_J_alter 50 rfl
theorem d_J_alter_94 : decode prog_1_method_17_code 94 = .ok (.getfield 36, 3) := fx_dat dk_J_alter 51 rfl
theorem d_J_alter_97 : decode prog_1_method_17_code 97 = .ok (.aload 5, 2) := fx_dat dk_J_alter 52 rfl
theorem d_J_alter_99 : decode prog_1_method_17_code 99 = .ok (.invokevirtual 227, 3) := fx_dat dk_J_alter 53 rfl
theorem d_J_alter_102 : decode prog_1_method_17_code 102 = .ok (.pop, 1) := fx_dat dk_J_alter 54 rfl
theorem d_J_alter_103 : decode prog_1_method_17_code 103 = .ok (.aload_n 0, 1) := fx_dat dk_J_alter 55 rfl
theorem d_J_alter_104 : decode prog_1_method_17_code 104 = .ok (.getfield 36, 3) := fx_dat dk_J_alter 56 rfl
theorem d_J_alter_107 : decode prog_1_method_17_code 107 = .ok (.invokevirtual 125, 3) := fx_dat dk_J_alter 57 rfl
theorem d_J_alter_110 : decode prog_1_method_17_code 110 = .ok (.iconst 1, 1) := fx_dat dk_J_alter 58 rfl
theorem d_J_alter_111 : decode prog_1_method_17_code 111 = .ok (.isub, 1) := fx_dat dk_J_alter 59 rfl
theorem d_J_alter_112 : decode prog_1_method_17_code 112 = .ok (.ireturn, 1) := fx_dat dk_J_alter 60 rfl
def m_J_alter_21 (Q : Int32 → AH → Prop) (E : Nat → AH → Prop) (h : AH) : Prop := fx_has h 6 ∧ ∀ (_ : fx_wf h) (q1 : Nat), q1 = hp_z h → ∀ h1 : AH, h1 = up_N h 18 0 6 → E q1 h1
def m_J_alter (Q : Int32 → AH → Prop) (E : Nat → AH → Prop) (r0 : Nat) (x1 : Int32) (x2 : Int32) (x3 : Int32) (h : AH) : Prop := hp_k h r0 = 1 ∧ m_J_of (fun q1 h1 => fx_ext h h1 → (x2 < 0 → m_J_alter_21 Q E h1) ∧ (¬ x2 < 0 → hp_k h1 q1 = 3 ∧ ∃ b1, hp_R h1 q1 0 = some b1 ∧ bk (hp_k h1 b1) ∧ (x2 < (nI (hp_n h1 b1)) → m_J_roomFor (fun h2 => fx_ext h1 h2 → ∃ b2, hp_R h2 q1 0 = some b2 ∧ bk (hp_k h2 b2) ∧ ∀ h3 : AH, h3 = up_I h2 r0 15 ((hp_I h2 r0 15) + (nI (hp_n h2 b2))) → fx_has h3 2 ∧ ∀ (_ : fx_wf h3) (q2 : Nat), q2 = hp_z h3 → ∀ h4 : AH, h4 = up_N h3 3 0 2 → ∃ b3, hp_R h4 q1 0 = some b3 ∧ bk (hp_k h4 b3) ∧ m_Held_init (fun h5 => fx_ext h4 h5 → ∃ b4, hp_R h5 q2 0 = some b4 ∧ bk (hp_k h5 b4) ∧ vp_in x2 (hp_n h5 b4) ∧ (by8 (hp_I h5 b4 x2.toNatClampNeg) → hp_k h5 b4 = 101 ∧ vp_in x2 (hp_n h5 b4) ∧ ∀ h6 : AH, h6 = up_I h5 b4 (x2).toNatClampNeg (((((hp_I h5 b4 x2.toNatClampNeg) ^^^ ((x3).toInt8.toInt32))).toInt8.toInt32)).toInt8.toInt32 → ∃ b5, hp_R h6 r0 4 = some b5 ∧ hp_k h6 b5 = 12 ∧ m_AL_add_O (fun v1 h7 => fx_ext h6 h7 → zb v1 → ∃ b6, hp_R h7 r0 4 = some b6 ∧ hp_k h7 b6 = 12 ∧ m_AL_size (fun v2 h8 => fx_ext h7 h8 → Q (v2 - (1 : Int32)) h8) b6 h7) b5 q2 h6)) q2 b3 (0 : Int32) (nI (hp_n h4 b3)) (hp_I h4 q1 1) h4) (fun a ht => fx_ext h1 ht → E a ht) r0 (nI (hp_n h1 b1)) h1) ∧ (¬ x2 < (nI (hp_n h1 b1)) → m_J_alter_21 Q E h1))) (fun a ht => fx_ext h ht → E a ht) r0 x1 h
theorem b_J_alter_21 {p : Program} {l : Launch} {e : Env} {R : Room} {s : State} {m : MethodId} {args : Array Value} {below : List Frame} {meth : Method} {c : Code} {D : DD} {h0 : AH} {Q : Int32 → AH → Prop} {E : Nat → AH → Prop} (C : fx_CX D y_J_alter prog_1_method_17_code 6 7 102 (Option.some FieldType.int) [] h0 p R s m meth c) (hl : l.flags = flags0) (h : AH) (hw : m_J_alter_21 Q E h) : ∀ (ls : Array Slot) (H : Heap) (locs : List Loc) (cells slots : Nat), lv_has ls 6 [] → fx_F D h0 h H locs cells slots → W p l e R s m args below meth c H locs cells slots (fx_Z D below s h0 (fx_oI Q E)) (F0 m 21 ls []) := by
  unfold m_J_alter_21 at hw
  intro ls H locs cells slots hv F
  obtain ⟨hs, hw⟩ := hw
  let q1 : Nat := hp_z h
  let h1 : AH := up_N h 18 0 6
  replace hw := hw F.wf q1 rfl h1 rfl
  have hkq1 : hp_k h1 q1 = 18 := fx_nk _ _ _ _
  refine fx_exc (r := ("java/lang/IndexOutOfBoundsException", fx_T17, 0)) (names := fx_rn) C F rfl rfl (fx_m5 (List.mem_of_getElem? (i := 76) rfl)) (fx_m1 (List.mem_of_getElem? (i := 31) rfl)) (by decide +kernel) (by decide +kernel) ex_J_237 hs hv.1 hl d_J_alter_21 d_J_alter_24 d_J_alter_25 (by decide) (Nat.le_of_ble_eq_true rfl) (fun H locs cells slots (F : fx_F D h0 h1 H locs cells slots) => ?_)
  exact fx_athrow C F (fx_out0 _) d_J_alter_28 (Or.inr ⟨_, rfl, hw⟩)
theorem b_J_alter_0 {p : Program} {l : Launch} {e : Env} {R : Room} {s : State} {m : MethodId} {args : Array Value} {below : List Frame} {meth : Method} {c : Code} {D : DD} {h0 : AH} {Q : Int32 → AH → Prop} {E : Nat → AH → Prop} (C : fx_CX D y_J_alter prog_1_method_17_code 6 7 102 (Option.some FieldType.int) [] h0 p R s m meth c) (hl : l.flags = flags0) (r0 : Nat) (x1 : Int32) (x2 : Int32) (x3 : Int32) (h : AH) (hw : m_J_alter Q E r0 x1 x2 x3 h) : ∀ (ls : Array Slot) (H : Heap) (locs : List Loc) (cells slots : Nat), lv_has ls 6 [(0, .ref r0), (1, .int x1), (2, .int x2), (3, .int x3)] → fx_F D h0 h H locs cells slots → W p l e R s m args below meth c H locs cells slots (fx_Z D below s h0 (fx_oI Q E)) (F0 m 0 ls []) := by
  unfold m_J_alter at hw
  intro ls H locs cells slots hv F
  refine lv_aload_n C.ex C.by d_J_alter_0 rfl (lv_at hv 0 rfl) ?_
  refine lv_iload_n C.ex C.by d_J_alter_1 rfl (lv_at hv 1 rfl) ?_
  obtain ⟨hk1, hw⟩ := hw
  refine fx_callR C F (c_J_of hl hw) hm_J_of hi_J_of hv.1 (by decide) (Nat.le_of_ble_eq_true rfl) (iv_J_of C F lm_J_231 hk1 d_J_alter_2) (fx_out0 _) (fun _ _ hE hx => Or.inr ⟨_, rfl, hE hx⟩) (fun q1 h1 H locs cells slots hw hx1 F => ?_)
  replace hw := hw hx1
  have hk1 := (hx1).k hk1
  refine lv_astore (lv' := [(4, .ref q1), (0, .ref r0), (1, .int x1), (2, .int x2), (3, .int x3)]) C.ex C.by d_J_alter_5 hv (by decide) rfl (fun ls hv => ?_)
  refine lv_iload_n C.ex C.by d_J_alter_7 rfl (lv_at hv 3 rfl) ?_
  refine lv_if_lt C.ex C.by d_J_alter_8 rfl (fun hc => ?_) (fun hc => ?_)
  · replace hw := hw.1 hc
    exact b_J_alter_21 C hl _ hw _ _ _ _ _ (lv_sub hv [] rfl) F
  · replace hw := hw.2 hc
    refine lv_iload_n C.ex C.by d_J_alter_11 rfl (lv_at hv 3 rfl) ?_
    refine lv_aload C.ex C.by d_J_alter_12 (lv_at hv 0 rfl) ?_
    obtain ⟨hk2, hw⟩ := hw
    obtain ⟨b1, hb1, hw⟩ := hw
    refine fx_getR C F lf_J_137 hk2 rfl hb1 d_J_alter_14 ?_
    obtain ⟨hk3, hw⟩ := hw
    refine fx_alen C F hk3.gt d_J_alter_17 ?_
    refine lv_icmp_lt C.ex C.by d_J_alter_18 rfl (fun hc => ?_) (fun hc => ?_)
    · replace hw := hw.1 hc
      refine lv_aload_n C.ex C.by d_J_alter_29 rfl (lv_at hv 1 rfl) ?_
      refine lv_aload C.ex C.by d_J_alter_30 (lv_at hv 0 rfl) ?_
      refine fx_getR C F lf_J_137 hk2 rfl hb1 d_J_alter_32 ?_
      refine fx_alen C F hk3.gt d_J_alter_35 ?_
      refine fx_callV C F (c_J_roomFor hl hw) hm_J_roomFor hi_J_roomFor hv.1 (by decide) (Nat.le_of_ble_eq_true rfl) (iv_J_roomFor C F lm_J_221 hk1 d_J_alter_36) (fx_out0 _) (fun _ _ hE hx => Or.inr ⟨_, rfl, hE hx⟩) (fun h2 H locs cells slots hw hx2 F => ?_)
      replace hw := hw hx2
      have hk3 := (hx2).gb hk3
      have hk2 := (hx2).k hk2
      have hk1 := (hx2).k hk1
      refine lv_aload_n C.ex C.by d_J_alter_39 rfl (lv_at hv 1 rfl) ?_
      refine lv_dup C.ex C.by d_J_alter_40 rfl ?_
      refine fx_getI C F lf_J_93 hk1 rfl d_J_alter_41 ?_
      refine lv_aload C.ex C.by d_J_alter_44 (lv_at hv 0 rfl) ?_
      obtain ⟨b2, hb2, hw⟩ := hw
      refine fx_getR C F lf_J_137 hk2 rfl hb2 d_J_alter_46 ?_
      obtain ⟨hk4, hw⟩ := hw
      refine fx_alen C F hk4.gt d_J_alter_49 ?_
      refine lv_iadd C.ex C.by d_J_alter_50 ?_
      let h3 : AH := up_I h2 r0 15 ((hp_I h2 r0 15) + (nI (hp_n h2 b2)))
      replace hw := hw h3 rfl
      refine fx_putI C F lf_J_93 hk1 rfl rfl (fx_mayF.no rfl rfl) d_J_alter_51 (fun H locs (F : fx_F D h0 h3 H locs _ _) => ?_)
      obtain ⟨hs, hw⟩ := hw
      let q2 : Nat := hp_z h3
      let h4 : AH := up_N h3 3 0 2
      replace hw := hw F.wf q2 rfl h4 rfl
      have hk3 := (F.xN (k := 3) (n := 0) (m := 2)).gb hk3
      have hk4 := (F.xN (k := 3) (n := 0) (m := 2)).gb hk4
      have hk2 := (F.xN (k := 3) (n := 0) (m := 2)).k hk2
      have hk1 := (F.xN (k := 3) (n := 0) (m := 2)).k hk1
      have hkq2 : hp_k h4 q2 = 3 := fx_nk _ _ _ _
      refine fx_new (ci := 2) (r := ("ChainJudge$Held", fx_T2, 2)) C F rfl (fx_m3 (List.mem_of_getElem? (i := 108) rfl)) (fx_m4 (List.mem_of_getElem? (i := 223) rfl)) (fx_m1 (List.mem_of_getElem? (i := 29) rfl)) hs d_J_alter_54 (fun H cells slots (F : fx_F D h0 h4 H locs cells slots) => ?_)
      refine lv_dup C.ex C.by d_J_alter_57 rfl ?_
      refine lv_aload C.ex C.by d_J_alter_58 (lv_at hv 0 rfl) ?_
      obtain ⟨b3, hb3, hw⟩ := hw
      refine fx_getR C F lf_J_137 hk2 rfl hb3 d_J_alter_60 ?_
      refine lv_iconst (v := (0 : Int32)) C.ex C.by d_J_alter_63 (by decide) ?_
      refine lv_aload C.ex C.by d_J_alter_64 (lv_at hv 0 rfl) ?_
      refine fx_getR C F lf_J_137 hk2 rfl hb3 d_J_alter_66 ?_
      obtain ⟨hk5, hw⟩ := hw
      refine fx_alen C F hk5.gt d_J_alter_69 ?_
      refine lv_aload C.ex C.by d_J_alter_70 (lv_at hv 0 rfl) ?_
      refine fx_getI C F lf_J_206 hk2 rfl d_J_alter_72 ?_
      refine fx_callV C F (c_Held_init hl hw) hm_Held_init hi_Held_init hv.1 (by decide) (Nat.le_of_ble_eq_true rfl) (iv_Held_init C F lm_J_224 d_J_alter_75) (fx_out0 _) fx_eno (fun h5 H locs cells slots hw hx3 F => ?_)
      replace hw := hw hx3
      have hk3 := (hx3).gb hk3
      have hk4 := (hx3).gb hk4
      have hk5 := (hx3).gb hk5
      have hk2 := (hx3).k hk2
      have hkq2 := (hx3).k hkq2
      have hk1 := (hx3).k hk1
      refine lv_astore (lv' := [(5, .ref q2), (4, .ref q1), (0, .ref r0), (1, .int x1), (2, .int x2), (3, .int x3)]) C.ex C.by d_J_alter_78 hv (by decide) rfl (fun ls hv => ?_)
      refine lv_aload C.ex C.by d_J_alter_80 (lv_at hv 0 rfl) ?_
      obtain ⟨b4, hb4, hw⟩ := hw
      refine fx_getR C F lf_J_137 hkq2 rfl hb4 d_J_alter_82 ?_
      refine lv_iload_n C.ex C.by d_J_alter_85 rfl (lv_at hv 4 rfl) ?_
      refine lv_dup2_11 C.ex C.by d_J_alter_86 rfl rfl ?_
      obtain ⟨hk6, hw⟩ := hw
      obtain ⟨hi1, hw⟩ := hw
      refine fx_bald C F hk6 hi1 d_J_alter_87 (fun h8 => ?_)
      replace hw := hw h8
      refine lv_iload_n C.ex C.by d_J_alter_88 rfl (lv_at hv 5 rfl) ?_
      refine lv_i2b (v := ((x3).toInt8.toInt32)) C.ex C.by d_J_alter_89 rfl ?_
      refine lv_ixor C.ex C.by d_J_alter_90 ?_
      refine lv_i2b (v := ((((hp_I h5 b4 x2.toNatClampNeg) ^^^ ((x3).toInt8.toInt32))).toInt8.toInt32)) C.ex C.by d_J_alter_91 rfl ?_
      obtain ⟨hk7, hw⟩ := hw
      obtain ⟨hi2, hw⟩ := hw
      let h6 : AH := up_I h5 b4 (x2).toNatClampNeg (((((hp_I h5 b4 x2.toNatClampNeg) ^^^ ((x3).toInt8.toInt32))).toInt8.toInt32)).toInt8.toInt32
      replace hw := hw h6 rfl
      refine fx_bast C F hk7 hi2 d_J_alter_92 (fun H locs (F : fx_F D h0 h6 H locs _ _) => ?_)
      refine lv_aload_n C.ex C.by d_J_alter_93 rfl (lv_at hv 2 rfl) ?_
      obtain ⟨b5, hb5, hw⟩ := hw
      refine fx_getR C F lf_J_36 hk1 rfl hb5 d_J_alter_94 ?_
      refine lv_aload C.ex C.by d_J_alter_97 (lv_at hv 0 rfl) ?_
      obtain ⟨hk8, hw⟩ := hw
      refine fx_callZ C F (c_AL_add_O hl hw) hm_AL_add_O hi_AL_add_O hv.1 (by decide) (Nat.le_of_ble_eq_true rfl) (iv_AL_add_O C F lm_J_227 hk8 d_J_alter_99) (fx_out0 _) fx_eno (fun v1 h7 H locs cells slots hw hx4 hzb F => ?_)
      replace hw := hw hx4 hzb
      have hk3 := (hx4).gb hk3
      have hk4 := (hx4).gb hk4
      have hk5 := (hx4).gb hk5
      have hk7 := (hx4).k hk7
      have hk8 := (hx4).k hk8
      have hk2 := (hx4).k hk2
      have hkq2 := (hx4).k hkq2
      have hk1 := (hx4).k hk1
      refine lv_pop C.ex C.by d_J_alter_102 rfl ?_
      refine lv_aload_n C.ex C.by d_J_alter_103 rfl (lv_at hv 2 rfl) ?_
      obtain ⟨b6, hb6, hw⟩ := hw
      refine fx_getR C F lf_J_36 hk1 rfl hb6 d_J_alter_104 ?_
      obtain ⟨hk9, hw⟩ := hw
      refine fx_callI C F (c_AL_size hl hw) hm_AL_size hi_AL_size hv.1 (by decide) (Nat.le_of_ble_eq_true rfl) (iv_AL_size C F lm_J_125 hk9 d_J_alter_107) (fx_out0 _) fx_eno (fun v2 h8 H locs cells slots hw hx5 F => ?_)
      replace hw := hw hx5
      have hk3 := (hx5).gb hk3
      have hk4 := (hx5).gb hk4
      have hk5 := (hx5).gb hk5
      have hk7 := (hx5).k hk7
      have hk8 := (hx5).k hk8
      have hk9 := (hx5).k hk9
      have hk2 := (hx5).k hk2
      have hkq2 := (hx5).k hkq2
      have hk1 := (hx5).k hk1
      refine lv_iconst (v := (1 : Int32)) C.ex C.by d_J_alter_110 (by decide) ?_
      refine lv_isub C.ex C.by d_J_alter_111 ?_
      exact fx_iret C F d_J_alter_112 (Or.inl ⟨_, rfl, hw⟩)
    · replace hw := hw.2 hc
      exact b_J_alter_21 C hl _ hw _ _ _ _ _ (lv_sub hv [] rfl) F
theorem hm_J_alter : fx_hd y_J_alter prog_1_method_17_code 6 (Option.some FieldType.int) [] ∈ tables_1 := (fx_m5 (List.mem_of_getElem? (i := 71) rfl))
theorem hi_J_alter : Cond.initialized y_J_alter.cls ∈ tables_1 := (fx_m1 (List.mem_of_getElem? (i := 1) rfl))
theorem c_J_alter {l : Launch} (hl : l.flags = flags0) {D : DD} {Q : Int32 → AH → Prop} {E : Nat → AH → Prop} {r0 : Nat} {x1 : Int32} {x2 : Int32} {x3 : Int32} {h : AH} (hw : m_J_alter Q E r0 x1 x2 x3 h) : fx_Mt l D y_J_alter (fx_hd y_J_alter prog_1_method_17_code 6 (Option.some FieldType.int) []) 7 102 [.ref r0, .int x1, .int x2, .int x3] h (fx_oI Q E) := by
  refine fx_ofW (plainFor_of_name (by decide)) (fun p e s m below meth c C F => ?_)
  have hv := lv_entry ([.ref r0, .int x1, .int x2, .int x3]) (n := 6) (Nat.le_of_ble_eq_true rfl)
  rw [lg_entry_eq]
  generalize (lg_sl ([.ref r0, .int x1, .int x2, .int x3]) ++ List.replicate (6 - (lg_sl ([.ref r0, .int x1, .int x2, .int x3])).length) Slot.unset).toArray = ls at hv ⊢
  have hv : lv_has ls 6 [(0, .ref r0), (1, .int x1), (2, .int x2), (3, .int x3)] := hv
  exact b_J_alter_0 C hl _ _ _ _ _ hw _ _ _ _ _ hv F
/-! ChainJudgeLaw.alter(LChainJudge;III[J)I: frames 8, words 121 -/
abbrev y_Law_alter : MethodName := ⟨"ChainJudgeLaw", "alter", "(LChainJudge;III[J)I"⟩
theorem lm_Law_35 : Cond.methodLink "ChainJudgeLaw" 35 y_J_alter ∈ tables_1 ∨ ∃ host, Cond.methodLinkNest "ChainJudgeLaw" 35 y_J_alter host ∈ tables_1 := Or.inl (fx_m5 (List.mem_of_getElem? (i := 68) rfl))
section
variable {p : Program} {l : Launch} {e : Env} {R : Room} {s : State} {m : MethodId} {args : Array Value} {below : List Frame} {meth : Method} {c : Code} {H : Heap} {locs : List Loc} {cells slots : Nat}
variable {D : DD} {y : MethodName} {cc : ByteArray} {nL kf kw : Nat} {ret : Option FieldType} {hh : List (Nat × Nat × Nat × Nat)} {h0 h : AH} {pc : Nat} {ls : Array Slot} {rest : List Value} {b idx : Nat}
theorem iv_J_alter {x1 : Int32} {x2 : Int32} {x3 : Int32} (C : fx_CX D y cc nL kf kw ret hh h0 p R s m meth c) (F : fx_F D h0 h H locs cells slots) (hw1 : Cond.methodLink y.cls idx y_J_alter ∈ tables_1 ∨ ∃ host, Cond.methodLinkNest y.cls idx y_J_alter host ∈ tables_1) (hk : hp_k h b = 1) (hd : decode cc pc = .ok (.invokevirtual idx, 3)) : fx_IV p l e R s m args below meth c H locs cells slots (F0 m pc ls (.int x3 :: .int x2 :: .int x1 :: .ref b :: rest)) rest y_J_alter [.ref b, .int x1, .int x2, .int x3] 3 := fun T hT X => fx_invV (As := [.int x1, .int x2, .int x3]) (Cn := "ChainJudge") C X hw1 (fx_m5 (List.mem_of_getElem? (i := 69) rfl)) (fx_selW C (fx_m5 (List.mem_of_getElem? (i := 70) rfl))) hm_J_alter ⟨by decide, by decide⟩ (by rw [hT]; exact fx_clsO (ci := 0) (r := ("ChainJudge", fx_T0, 16)) C F rfl (by decide) hk) rfl (n := 3) (by decide +kernel) rfl rfl hd
end
def dl_Law_alter : List (Nat × Instr × Nat) := [(0, .aload 4, 2), (2, .iconst 0, 1), (3, .aload_n 0, 1), (4, .iload_n 1, 1), (5, .iload_n 2, 1), (6, .iload_n 3, 1), (7, .invokevirtual 35, 3), (10, .i2l, 1), (11, .lastore, 1), (12, .goto 15, 3), (15, .astore 5, 2), (17, .iconst 1, 1), (18, .ireturn, 1), (19, .astore 5, 2), (21, .iconst 2, 1), (22, .ireturn, 1), (23, .astore 5, 2), (25, .iconst 3, 1), (26, .ireturn, 1), (27, .iconst 0, 1), (28, .ireturn, 1)]
theorem dk_Law_alter : fx_dec method_8_code dl_Law_alter = true := by decide +kernel
theorem d_Law_alter_0 : decode method_8_code 0 = .ok (.aload 4, 2) := fx_dat dk_Law_alter 0 rfl
theorem d_Law_alter_2 : decode method_8_code 2 = .ok (.iconst 0, 1) := fx_dat dk_Law_alter 1 rfl
theorem d_Law_alter_3 : decode method_8_code 3 = .ok (.aload_n 0, 1) := fx_dat dk_Law_alter 2 rfl
theorem d_Law_alter_4 : decode method_8_code 4 = .ok (.iload_n 1, 1) := fx_dat dk_Law_alter 3 rfl
theorem d_Law_alter_5 : decode method_8_code 5 = .ok (.iload_n 2, 1) := fx_dat dk_Law_alter 4 rfl
theorem d_Law_alter_6 : decode method_8_code 6 = .ok (.iload_n 3, 1) := fx_dat dk_Law_alter 5 rfl
theorem d_Law_alter_7 : decode method_8_code 7 = .ok (.invokevirtual 35, 3) := fx_dat dk_Law_alter 6 rfl
theorem d_Law_alter_10 : decode method_8_code 10 = .ok (.i2l, 1) := fx_dat dk_Law_alter 7 rfl
theorem d_Law_alter_11 : decode method_8_code 11 = .ok (.lastore, 1) := fx_dat dk_Law_alter 8 rfl
theorem d_Law_alter_12 : decode method_8_code 12 = .ok (.goto 15, 3) := fx_dat dk_Law_alter 9 rfl
theorem d_Law_alter_15 : decode method_8_code 15 = .ok (.astore 5, 2) := fx_dat dk_Law_alter 10 rfl
theorem d_Law_alter_17 : decode method_8_code 17 = .ok (.iconst 1, 1) := fx_dat dk_Law_alter 11 rfl
theorem d_Law_alter_18 : decode method_8_code 18 = .ok (.ireturn, 1) := fx_dat dk_Law_alter 12 rfl
theorem d_Law_alter_19 : decode method_8_code 19 = .ok (.astore 5, 2) := fx_dat dk_Law_alter 13 rfl
theorem d_Law_alter_21 : decode method_8_code 21 = .ok (.iconst 2, 1) := fx_dat dk_Law_alter 14 rfl
theorem d_Law_alter_22 : decode method_8_code 22 = .ok (.ireturn, 1) := fx_dat dk_Law_alter 15 rfl
theorem d_Law_alter_23 : decode method_8_code 23 = .ok (.astore 5, 2) := fx_dat dk_Law_alter 16 rfl
theorem d_Law_alter_25 : decode method_8_code 25 = .ok (.iconst 3, 1) := fx_dat dk_Law_alter 17 rfl
theorem d_Law_alter_26 : decode method_8_code 26 = .ok (.ireturn, 1) := fx_dat dk_Law_alter 18 rfl
theorem d_Law_alter_27 : decode method_8_code 27 = .ok (.iconst 0, 1) := fx_dat dk_Law_alter 19 rfl
theorem d_Law_alter_28 : decode method_8_code 28 = .ok (.ireturn, 1) := fx_dat dk_Law_alter 20 rfl
def m_Law_alter (Q : Int32 → AH → Prop) (r0 : Nat) (x1 : Int32) (x2 : Int32) (x3 : Int32) (r4 : Nat) (h : AH) : Prop := hp_k h r0 = 1 ∧ m_J_alter (fun v1 h1 => fx_ext h h1 → hp_k h1 r4 = 103 ∧ vp_in (0 : Int32) (hp_n h1 r4) ∧ ∀ h2 : AH, h2 = up_L h1 r4 ((0 : Int32)).toNatClampNeg ((v1).toInt64) → Q (0 : Int32) h2) (fun q1 h3 => fx_ext h h3 → (hp_k h3 q1 = 16 ∧ Q (1 : Int32) h3) ∨ (hp_k h3 q1 = 18 ∧ Q (2 : Int32) h3) ∨ (hp_k h3 q1 = 15 ∧ Q (3 : Int32) h3)) r0 x1 x2 x3 h
theorem b_Law_alter_0 {p : Program} {l : Launch} {e : Env} {R : Room} {s : State} {m : MethodId} {args : Array Value} {below : List Frame} {meth : Method} {c : Code} {D : DD} {h0 : AH} {Q : Int32 → AH → Prop} (C : fx_CX D y_Law_alter method_8_code 6 8 121 (Option.some FieldType.int) [(0, 12, 15, 28), (0, 12, 19, 39), (0, 12, 23, 13)] h0 p R s m meth c) (hl : l.flags = flags0) (r0 : Nat) (x1 : Int32) (x2 : Int32) (x3 : Int32) (r4 : Nat) (h : AH) (hw : m_Law_alter Q r0 x1 x2 x3 r4 h) : ∀ (ls : Array Slot) (H : Heap) (locs : List Loc) (cells slots : Nat), lv_has ls 6 [(0, .ref r0), (1, .int x1), (2, .int x2), (3, .int x3), (4, .ref r4)] → fx_F D h0 h H locs cells slots → W p l e R s m args below meth c H locs cells slots (fx_Z D below s h0 (fx_oI Q fx_no)) (F0 m 0 ls []) := by
  unfold m_Law_alter at hw
  intro ls H locs cells slots hv F
  refine lv_aload C.ex C.by d_Law_alter_0 (lv_at hv 4 rfl) ?_
  refine lv_iconst (v := (0 : Int32)) C.ex C.by d_Law_alter_2 (by decide) ?_
  refine lv_aload_n C.ex C.by d_Law_alter_3 rfl (lv_at hv 0 rfl) ?_
  refine lv_iload_n C.ex C.by d_Law_alter_4 rfl (lv_at hv 1 rfl) ?_
  refine lv_iload_n C.ex C.by d_Law_alter_5 rfl (lv_at hv 2 rfl) ?_
  refine lv_iload_n C.ex C.by d_Law_alter_6 rfl (lv_at hv 3 rfl) ?_
  obtain ⟨hk1, hw⟩ := hw
  refine fx_callIc C F (c_J_alter hl hw) hm_J_alter hi_J_alter hv.1 (by decide) (Nat.le_of_ble_eq_true rfl) (iv_J_alter C F lm_Law_35 hk1 d_Law_alter_7) (fun v1 h1 H locs cells slots hw hx1 F => ?_) (fun q1 h3 T locs cells slots hw hx1 F X => ?_)
  · replace hw := hw hx1
    have hk1 := (hx1).k hk1
    refine lv_i2l (v := ((v1).toInt64)) C.ex C.by d_Law_alter_10 rfl ?_
    obtain ⟨hk2, hw⟩ := hw
    obtain ⟨hi1, hw⟩ := hw
    let h2 : AH := up_L h1 r4 ((0 : Int32)).toNatClampNeg ((v1).toInt64)
    replace hw := hw h2 rfl
    refine fx_last C F hk2 hi1 d_Law_alter_11 (fun H locs (F : fx_F D h0 h2 H locs _ _) => ?_)
    refine lv_goto C.ex C.by d_Law_alter_12 rfl ?_
    refine lv_iconst (v := (0 : Int32)) C.ex C.by d_Law_alter_27 (by decide) ?_
    exact fx_iret C F d_Law_alter_28 (Or.inl ⟨_, rfl, hw⟩)
  · replace hw := hw hx1
    rcases hw with ⟨hk9, hw⟩ | ⟨hk9, hw⟩ | ⟨hk9, hw⟩
    · have hp0 : ∀ q ∈ ([] : List ((Nat × Nat × Nat × Nat) × String)), fx_passes "ChainJudgeLaw" "java/util/NoSuchElementException" 7 q := by
        intro q hq
        cases hq
      refine fx_caught (ci := 15) (r := ("java/util/NoSuchElementException", fx_T15, 0)) C F X rfl (by decide) hk9 [] (0, 12, 15, 28) [(0, 12, 19, 39), (0, 12, 23, 13)] "java/util/NoSuchElementException" rfl hp0 rfl (by decide) (fx_m3 (List.mem_of_getElem? (i := 65) rfl)) (fx_m3 (List.mem_of_getElem? (i := 73) rfl)) (fun H locs cells slots F => ?_)
      have hk1 := (hx1).k hk1
      refine lv_astore (lv' := [(5, .ref q1), (0, .ref r0), (1, .int x1), (2, .int x2), (3, .int x3), (4, .ref r4)]) C.ex C.by d_Law_alter_15 hv (by decide) rfl (fun ls hv => ?_)
      refine lv_iconst (v := (1 : Int32)) C.ex C.by d_Law_alter_17 (by decide) ?_
      exact fx_iret C F d_Law_alter_18 (Or.inl ⟨_, rfl, hw⟩)
    · have hp1 : ∀ q ∈ ([((0, 12, 15, 28), "java/util/NoSuchElementException")] : List ((Nat × Nat × Nat × Nat) × String)), fx_passes "ChainJudgeLaw" "java/lang/IndexOutOfBoundsException" 7 q := by
        intro q hq
        rcases List.mem_cons.mp hq with rfl | hq
        · exact ⟨rfl, by decide, (fx_m3 (List.mem_of_getElem? (i := 65) rfl)), List.mem_of_getElem? (i := 7) rfl⟩
        cases hq
      refine fx_caught (ci := 17) (r := ("java/lang/IndexOutOfBoundsException", fx_T17, 0)) C F X rfl (by decide) hk9 [((0, 12, 15, 28), "java/util/NoSuchElementException")] (0, 12, 19, 39) [(0, 12, 23, 13)] "java/lang/IndexOutOfBoundsException" rfl hp1 rfl (by decide) (fx_m5 (List.mem_of_getElem? (i := 67) rfl)) (fx_m5 (List.mem_of_getElem? (i := 78) rfl)) (fun H locs cells slots F => ?_)
      have hk1 := (hx1).k hk1
      refine lv_astore (lv' := [(5, .ref q1), (0, .ref r0), (1, .int x1), (2, .int x2), (3, .int x3), (4, .ref r4)]) C.ex C.by d_Law_alter_19 hv (by decide) rfl (fun ls hv => ?_)
      refine lv_iconst (v := (2 : Int32)) C.ex C.by d_Law_alter_21 (by decide) ?_
      exact fx_iret C F d_Law_alter_22 (Or.inl ⟨_, rfl, hw⟩)
    · have hp2 : ∀ q ∈ ([((0, 12, 15, 28), "java/util/NoSuchElementException"), ((0, 12, 19, 39), "java/lang/IndexOutOfBoundsException")] : List ((Nat × Nat × Nat × Nat) × String)), fx_passes "ChainJudgeLaw" "java/lang/IllegalStateException" 7 q := by
        intro q hq
        rcases List.mem_cons.mp hq with rfl | hq
        · exact ⟨rfl, by decide, (fx_m3 (List.mem_of_getElem? (i := 65) rfl)), List.mem_of_getElem? (i := 3) rfl⟩
        rcases List.mem_cons.mp hq with rfl | hq
        · exact ⟨rfl, by decide, (fx_m5 (List.mem_of_getElem? (i := 67) rfl)), List.mem_of_getElem? (i := 6) rfl⟩
        cases hq
      refine fx_caught (ci := 14) (r := ("java/lang/IllegalStateException", fx_T14, 0)) C F X rfl (by decide) hk9 [((0, 12, 15, 28), "java/util/NoSuchElementException"), ((0, 12, 19, 39), "java/lang/IndexOutOfBoundsException")] (0, 12, 23, 13) [] "java/lang/IllegalStateException" rfl hp2 rfl (by decide) (fx_m2 (List.mem_of_getElem? (i := 179) rfl)) (fx_m2 (List.mem_of_getElem? (i := 187) rfl)) (fun H locs cells slots F => ?_)
      have hk1 := (hx1).k hk1
      refine lv_astore (lv' := [(5, .ref q1), (0, .ref r0), (1, .int x1), (2, .int x2), (3, .int x3), (4, .ref r4)]) C.ex C.by d_Law_alter_23 hv (by decide) rfl (fun ls hv => ?_)
      refine lv_iconst (v := (3 : Int32)) C.ex C.by d_Law_alter_25 (by decide) ?_
      exact fx_iret C F d_Law_alter_26 (Or.inl ⟨_, rfl, hw⟩)
theorem hm_Law_alter : fx_hd y_Law_alter method_8_code 6 (Option.some FieldType.int) [(0, 12, 15, 28), (0, 12, 19, 39), (0, 12, 23, 13)] ∈ tables_1 := (fx_m5 (List.mem_of_getElem? (i := 66) rfl))
theorem hi_Law_alter : Cond.initialized y_Law_alter.cls ∈ tables_1 := (fx_m1 (List.mem_of_getElem? (i := 0) rfl))
theorem c_Law_alter {l : Launch} (hl : l.flags = flags0) {D : DD} {Q : Int32 → AH → Prop} {r0 : Nat} {x1 : Int32} {x2 : Int32} {x3 : Int32} {r4 : Nat} {h : AH} (hw : m_Law_alter Q r0 x1 x2 x3 r4 h) : fx_Mt l D y_Law_alter (fx_hd y_Law_alter method_8_code 6 (Option.some FieldType.int) [(0, 12, 15, 28), (0, 12, 19, 39), (0, 12, 23, 13)]) 8 121 [.ref r0, .int x1, .int x2, .int x3, .ref r4] h (fx_oI Q fx_no) := by
  refine fx_ofW (plainFor_of_name (by decide)) (fun p e s m below meth c C F => ?_)
  have hv := lv_entry ([.ref r0, .int x1, .int x2, .int x3, .ref r4]) (n := 6) (Nat.le_of_ble_eq_true rfl)
  rw [lg_entry_eq]
  generalize (lg_sl ([.ref r0, .int x1, .int x2, .int x3, .ref r4]) ++ List.replicate (6 - (lg_sl ([.ref r0, .int x1, .int x2, .int x3, .ref r4])).length) Slot.unset).toArray = ls at hv ⊢
  have hv : lv_has ls 6 [(0, .ref r0), (1, .int x1), (2, .int x2), (3, .int x3), (4, .ref r4)] := hv
  exact b_Law_alter_0 C hl _ _ _ _ _ _ hw _ _ _ _ _ hv F
/-! ChainJudge.byteOf(II)I: frames 7, words 94, throws -/
abbrev y_J_byteOf : MethodName := ⟨"ChainJudge", "byteOf", "(II)I"⟩
def dl_J_byteOf : List (Nat × Instr × Nat) := [(0, .aload_n 0, 1), (1, .iload_n 1, 1), (2, .invokevirtual 231, 3), (5, .astore_n 3, 1), (6, .iload_n 2, 1), (7, .iconst (-1), 1), (8, .if_icmp .lt 12, 3), (11, .iload_n 2, 1), (12, .aload_n 3, 1), (13, .getfield 137, 3), (16, .arraylength, 1), (17, .if_icmp .lt 11, 3), (20, .new 235, 3), (23, .dup, 1), (24, .invokespecial 237, 3), (27, .athrow, 1), (28, .iload_n 2, 1), (29, .ifCond .ge 11, 3), (32, .aload_n 3, 1), (33, .getfield 137, 3), (36, .arraylength, 1), (37, .goto 13, 3), (40, .aload_n 3, 1), (41, .getfield 137, 3), (44, .iload_n 2, 1), (45, .baload, 1), (46, .sipush 255, 3), (49, .iand, 1), (50, .ireturn, 1)]
theorem dk_J_byteOf : fx_dec prog_1_method_18_code dl_J_byteOf = true := by decide +kernel
theorem d_J_byteOf_0 : decode prog_1_method_18_code 0 = .ok (.aload_n 0, 1) := fx_dat dk_J_byteOf 0 rfl
theorem d_J_byteOf_1 : decode prog_1_method_18_code 1 = .ok (.iload_n 1, 1) := fx_dat dk_J_byteOf 1 rfl
theorem d_J_byteOf_2 : decode prog_1_method_18_code 2 = .ok (.invokevirtual 231, 3) := fx_dat dk_J_byteOf 2 rfl
theorem d_J_byteOf_5 : decode prog_1_method_18_code 5 = .ok (.astore_n 3, 1) := fx_dat dk_J_byteOf 3 rfl
theorem d_J_byteOf_6 : decode prog_1_method_18_code 6 = .ok (.iload_n 2, 1) := fx_dat dk_J_byteOf 4 rfl
theorem d_J_byteOf_7 : decode prog_1_method_18_code 7 = .ok (.iconst (-1), 1) := fx_dat dk_J_byteOf 5 rfl
theorem d_J_byteOf_8 : decode prog_1_method_18_code 8 = .ok (.if_icmp .lt 12, 3) := fx_dat dk_J_byteOf 6 rfl
theorem d_J_byteOf_11 : decode prog_1_method_18_code 11 = .ok (.iload_n 2, 1) := fx_dat dk_J_byteOf 7 rfl
theorem d_J_byteOf_12 : decode prog_1_method_18_code 12 = .ok (.aload_n 3, 1) := fx_dat dk_J_byteOf 8 rfl
theorem d_J_byteOf_13 : decode prog_1_method_18_code 13 = .ok (.getfield 137, 3) := fx_dat dk_J_byteOf 9 rfl
theorem d_J_byteOf_16 : decode prog_1_method_18_code 16 = .ok (.arraylength, 1) := fx_dat dk_J_byteOf 10 rfl
theorem d_J_byteOf_17 : decode prog_1_method_18_code 17 = .ok (.if_icmp .lt 11, 3) := fx_dat dk_J_byteOf 11 rfl
theorem d_J_byteOf_20 : decode prog_1_method_18_code 20 = .ok (.new 235, 3) := fx_dat dk_J_byteOf 12 rfl
theorem d_J_byteOf_23 : decode prog_1_method_18_code 23 = .ok (.dup, 1) := fx_dat dk_J_byteOf 13 rfl
theorem d_J_byteOf_24 : decode prog_1_method_18_code 24 = .ok (.invokespecial 237, 3) := fx_dat dk_J_byteOf 14 rfl
theorem d_J_byteOf_27 : decode prog_1_method_18_code 27 = .ok (.athrow, 1) := fx_dat dk_J_byteOf 15 rfl
theorem d_J_byteOf_28 : decode prog_1_method_18_code 28 = .ok (.iload_n 2, 1) := fx_dat dk_J_byteOf 16 rfl
theorem d_J_byteOf_29 : decode prog_1_method_18_code 29 = .ok (.ifCond .ge 11, 3) := fx_dat dk_J_byteOf 17 rfl
theorem d_J_byteOf_32 : decode prog_1_method_18_code 32 = .ok (.aload_n 3, 1) := fx_dat dk_J_byteOf 18 rfl
theorem d_J_byteOf_33 : decode prog_1_method_18_code 33 = .ok (.getfield 137, 3) := fx_dat dk_J_byteOf 19 rfl
theorem d_J_byteOf_36 : decode prog_1_method_18_code 36 = .ok (.arraylength, 1) := fx_dat dk_J_byteOf 20 rfl
theorem d_J_byteOf_37 : decode prog_1_method_18_code 37 = .ok (.goto 13, 3) := fx_dat dk_J_byteOf 21 rfl
theorem d_J_byteOf_40 : decode prog_1_method_18_code 40 = .ok (.aload_n 3, 1) := fx_dat dk_J_byteOf 22 rfl
theorem d_J_byteOf_41 : decode prog_1_method_18_code 41 = .ok (.getfield 137, 3) := fx_dat dk_J_byteOf 23 rfl
theorem d_J_byteOf_44 : decode prog_1_method_18_code 44 = .ok (.iload_n 2, 1) := fx_dat dk_J_byteOf 24 rfl
theorem d_J_byteOf_45 : decode prog_1_method_18_code 45 = .ok (.baload, 1) := fx_dat dk_J_byteOf 25 rfl
theorem d_J_byteOf_46 : decode prog_1_method_18_code 46 = .ok (.sipush 255, 3) := fx_dat dk_J_byteOf 26 rfl
theorem d_J_byteOf_49 : decode prog_1_method_18_code 49 = .ok (.iand, 1) := fx_dat dk_J_byteOf 27 rfl
theorem d_J_byteOf_50 : decode prog_1_method_18_code 50 = .ok (.ireturn, 1) := fx_dat dk_J_byteOf 28 rfl
def m_J_byteOf_20 (Q : Int32 → AH → Prop) (E : Nat → AH → Prop) (h : AH) : Prop := fx_has h 6 ∧ ∀ (_ : fx_wf h) (q1 : Nat), q1 = hp_z h → ∀ h1 : AH, h1 = up_N h 18 0 6 → E q1 h1
def m_J_byteOf_50 (Q : Int32 → AH → Prop) (E : Nat → AH → Prop) (sx0 : Int32) (h : AH) : Prop := Q sx0 h
def m_J_byteOf (Q : Int32 → AH → Prop) (E : Nat → AH → Prop) (r0 : Nat) (x1 : Int32) (x2 : Int32) (h : AH) : Prop := hp_k h r0 = 1 ∧ m_J_of (fun q1 h1 => fx_ext h h1 → (x2 < (-1 : Int32) → m_J_byteOf_20 Q E h1) ∧ (¬ x2 < (-1 : Int32) → hp_k h1 q1 = 3 ∧ ∃ b1, hp_R h1 q1 0 = some b1 ∧ bk (hp_k h1 b1) ∧ (x2 < (nI (hp_n h1 b1)) → (0 ≤ x2 → vp_in x2 (hp_n h1 b1) ∧ (by8 (hp_I h1 b1 x2.toNatClampNeg) → m_J_byteOf_50 Q E ((hp_I h1 b1 x2.toNatClampNeg) &&& (255 : Int32)) h1)) ∧ (¬ 0 ≤ x2 → m_J_byteOf_50 Q E (nI (hp_n h1 b1)) h1)) ∧ (¬ x2 < (nI (hp_n h1 b1)) → m_J_byteOf_20 Q E h1))) (fun a ht => fx_ext h ht → E a ht) r0 x1 h
theorem b_J_byteOf_20 {p : Program} {l : Launch} {e : Env} {R : Room} {s : State} {m : MethodId} {args : Array Value} {below : List Frame} {meth : Method} {c : Code} {D : DD} {h0 : AH} {Q : Int32 → AH → Prop} {E : Nat → AH → Prop} (C : fx_CX D y_J_byteOf prog_1_method_18_code 4 7 94 (Option.some FieldType.int) [] h0 p R s m meth c) (hl : l.flags = flags0) (h : AH) (hw : m_J_byteOf_20 Q E h) : ∀ (ls : Array Slot) (H : Heap) (locs : List Loc) (cells slots : Nat), lv_has ls 4 [] → fx_F D h0 h H locs cells slots → W p l e R s m args below meth c H locs cells slots (fx_Z D below s h0 (fx_oI Q E)) (F0 m 20 ls []) := by
  unfold m_J_byteOf_20 at hw
  intro ls H locs cells slots hv F
  obtain ⟨hs, hw⟩ := hw
  let q1 : Nat := hp_z h
  let h1 : AH := up_N h 18 0 6
  replace hw := hw F.wf q1 rfl h1 rfl
  have hkq1 : hp_k h1 q1 = 18 := fx_nk _ _ _ _
  refine fx_exc (r := ("java/lang/IndexOutOfBoundsException", fx_T17, 0)) (names := fx_rn) C F rfl rfl (fx_m5 (List.mem_of_getElem? (i := 76) rfl)) (fx_m1 (List.mem_of_getElem? (i := 31) rfl)) (by decide +kernel) (by decide +kernel) ex_J_237 hs hv.1 hl d_J_byteOf_20 d_J_byteOf_23 d_J_byteOf_24 (by decide) (Nat.le_of_ble_eq_true rfl) (fun H locs cells slots (F : fx_F D h0 h1 H locs cells slots) => ?_)
  exact fx_athrow C F (fx_out0 _) d_J_byteOf_27 (Or.inr ⟨_, rfl, hw⟩)
theorem b_J_byteOf_50 {p : Program} {l : Launch} {e : Env} {R : Room} {s : State} {m : MethodId} {args : Array Value} {below : List Frame} {meth : Method} {c : Code} {D : DD} {h0 : AH} {Q : Int32 → AH → Prop} {E : Nat → AH → Prop} (C : fx_CX D y_J_byteOf prog_1_method_18_code 4 7 94 (Option.some FieldType.int) [] h0 p R s m meth c) (hl : l.flags = flags0) (sx0 : Int32) (h : AH) (hw : m_J_byteOf_50 Q E sx0 h) : ∀ (ls : Array Slot) (H : Heap) (locs : List Loc) (cells slots : Nat), lv_has ls 4 [] → fx_F D h0 h H locs cells slots → W p l e R s m args below meth c H locs cells slots (fx_Z D below s h0 (fx_oI Q E)) (F0 m 50 ls [.int sx0]) := by
  unfold m_J_byteOf_50 at hw
  intro ls H locs cells slots hv F
  exact fx_iret C F d_J_byteOf_50 (Or.inl ⟨_, rfl, hw⟩)
theorem b_J_byteOf_0 {p : Program} {l : Launch} {e : Env} {R : Room} {s : State} {m : MethodId} {args : Array Value} {below : List Frame} {meth : Method} {c : Code} {D : DD} {h0 : AH} {Q : Int32 → AH → Prop} {E : Nat → AH → Prop} (C : fx_CX D y_J_byteOf prog_1_method_18_code 4 7 94 (Option.some FieldType.int) [] h0 p R s m meth c) (hl : l.flags = flags0) (r0 : Nat) (x1 : Int32) (x2 : Int32) (h : AH) (hw : m_J_byteOf Q E r0 x1 x2 h) : ∀ (ls : Array Slot) (H : Heap) (locs : List Loc) (cells slots : Nat), lv_has ls 4 [(0, .ref r0), (1, .int x1), (2, .int x2)] → fx_F D h0 h H locs cells slots → W p l e R s m args below meth c H locs cells slots (fx_Z D below s h0 (fx_oI Q E)) (F0 m 0 ls []) := by
  unfold m_J_byteOf at hw
  intro ls H locs cells slots hv F
  refine lv_aload_n C.ex C.by d_J_byteOf_0 rfl (lv_at hv 0 rfl) ?_
  refine lv_iload_n C.ex C.by d_J_byteOf_1 rfl (lv_at hv 1 rfl) ?_
  obtain ⟨hk1, hw⟩ := hw
  refine fx_callR C F (c_J_of hl hw) hm_J_of hi_J_of hv.1 (by decide) (Nat.le_of_ble_eq_true rfl) (iv_J_of C F lm_J_231 hk1 d_J_byteOf_2) (fx_out0 _) (fun _ _ hE hx => Or.inr ⟨_, rfl, hE hx⟩) (fun q1 h1 H locs cells slots hw hx1 F => ?_)
  replace hw := hw hx1
  have hk1 := (hx1).k hk1
  refine lv_astore_n (lv' := [(3, .ref q1), (0, .ref r0), (1, .int x1), (2, .int x2)]) C.ex C.by d_J_byteOf_5 rfl hv (by decide) rfl (fun ls hv => ?_)
  refine lv_iload_n C.ex C.by d_J_byteOf_6 rfl (lv_at hv 3 rfl) ?_
  refine lv_iconst (v := (-1 : Int32)) C.ex C.by d_J_byteOf_7 (by decide) ?_
  refine lv_icmp_lt C.ex C.by d_J_byteOf_8 rfl (fun hc => ?_) (fun hc => ?_)
  · replace hw := hw.1 hc
    exact b_J_byteOf_20 C hl _ hw _ _ _ _ _ (lv_sub hv [] rfl) F
  · replace hw := hw.2 hc
    refine lv_iload_n C.ex C.by d_J_byteOf_11 rfl (lv_at hv 3 rfl) ?_
    refine lv_aload_n C.ex C.by d_J_byteOf_12 rfl (lv_at hv 0 rfl) ?_
    obtain ⟨hk2, hw⟩ := hw
    obtain ⟨b1, hb1, hw⟩ := hw
    refine fx_getR C F lf_J_137 hk2 rfl hb1 d_J_byteOf_13 ?_
    obtain ⟨hk3, hw⟩ := hw
    refine fx_alen C F hk3.gt d_J_byteOf_16 ?_
    refine lv_icmp_lt C.ex C.by d_J_byteOf_17 rfl (fun hc => ?_) (fun hc => ?_)
    · replace hw := hw.1 hc
      refine lv_iload_n C.ex C.by d_J_byteOf_28 rfl (lv_at hv 3 rfl) ?_
      refine lv_if_ge C.ex C.by d_J_byteOf_29 rfl (fun hc => ?_) (fun hc => ?_)
      · replace hw := hw.1 hc
        refine lv_aload_n C.ex C.by d_J_byteOf_40 rfl (lv_at hv 0 rfl) ?_
        refine fx_getR C F lf_J_137 hk2 rfl hb1 d_J_byteOf_41 ?_
        refine lv_iload_n C.ex C.by d_J_byteOf_44 rfl (lv_at hv 3 rfl) ?_
        obtain ⟨hi1, hw⟩ := hw
        refine fx_bald C F hk3 hi1 d_J_byteOf_45 (fun h8 => ?_)
        replace hw := hw h8
        refine lv_sipush (v := (255 : Int32)) C.ex C.by d_J_byteOf_46 (by decide) ?_
        refine lv_iand C.ex C.by d_J_byteOf_49 ?_
        exact b_J_byteOf_50 C hl _ _ hw _ _ _ _ _ (lv_sub hv [] rfl) F
      · replace hw := hw.2 hc
        refine lv_aload_n C.ex C.by d_J_byteOf_32 rfl (lv_at hv 0 rfl) ?_
        refine fx_getR C F lf_J_137 hk2 rfl hb1 d_J_byteOf_33 ?_
        refine fx_alen C F hk3.gt d_J_byteOf_36 ?_
        refine lv_goto C.ex C.by d_J_byteOf_37 rfl ?_
        exact b_J_byteOf_50 C hl _ _ hw _ _ _ _ _ (lv_sub hv [] rfl) F
    · replace hw := hw.2 hc
      exact b_J_byteOf_20 C hl _ hw _ _ _ _ _ (lv_sub hv [] rfl) F
theorem hm_J_byteOf : fx_hd y_J_byteOf prog_1_method_18_code 4 (Option.some FieldType.int) [] ∈ tables_1 := (fx_m5 (List.mem_of_getElem? (i := 97) rfl))
theorem hi_J_byteOf : Cond.initialized y_J_byteOf.cls ∈ tables_1 := (fx_m1 (List.mem_of_getElem? (i := 1) rfl))
theorem c_J_byteOf {l : Launch} (hl : l.flags = flags0) {D : DD} {Q : Int32 → AH → Prop} {E : Nat → AH → Prop} {r0 : Nat} {x1 : Int32} {x2 : Int32} {h : AH} (hw : m_J_byteOf Q E r0 x1 x2 h) : fx_Mt l D y_J_byteOf (fx_hd y_J_byteOf prog_1_method_18_code 4 (Option.some FieldType.int) []) 7 94 [.ref r0, .int x1, .int x2] h (fx_oI Q E) := by
  refine fx_ofW (plainFor_of_name (by decide)) (fun p e s m below meth c C F => ?_)
  have hv := lv_entry ([.ref r0, .int x1, .int x2]) (n := 4) (Nat.le_of_ble_eq_true rfl)
  rw [lg_entry_eq]
  generalize (lg_sl ([.ref r0, .int x1, .int x2]) ++ List.replicate (4 - (lg_sl ([.ref r0, .int x1, .int x2])).length) Slot.unset).toArray = ls at hv ⊢
  have hv : lv_has ls 4 [(0, .ref r0), (1, .int x1), (2, .int x2)] := hv
  exact b_J_byteOf_0 C hl _ _ _ _ hw _ _ _ _ _ hv F
/-! ChainJudgeLaw.byteOf(LChainJudge;II[J)I: frames 8, words 111 -/
abbrev y_Law_byteOf : MethodName := ⟨"ChainJudgeLaw", "byteOf", "(LChainJudge;II[J)I"⟩
theorem lm_Law_41 : Cond.methodLink "ChainJudgeLaw" 41 y_J_byteOf ∈ tables_1 ∨ ∃ host, Cond.methodLinkNest "ChainJudgeLaw" 41 y_J_byteOf host ∈ tables_1 := Or.inl (fx_m5 (List.mem_of_getElem? (i := 94) rfl))
section
variable {p : Program} {l : Launch} {e : Env} {R : Room} {s : State} {m : MethodId} {args : Array Value} {below : List Frame} {meth : Method} {c : Code} {H : Heap} {locs : List Loc} {cells slots : Nat}
variable {D : DD} {y : MethodName} {cc : ByteArray} {nL kf kw : Nat} {ret : Option FieldType} {hh : List (Nat × Nat × Nat × Nat)} {h0 h : AH} {pc : Nat} {ls : Array Slot} {rest : List Value} {b idx : Nat}
theorem iv_J_byteOf {x1 : Int32} {x2 : Int32} (C : fx_CX D y cc nL kf kw ret hh h0 p R s m meth c) (F : fx_F D h0 h H locs cells slots) (hw1 : Cond.methodLink y.cls idx y_J_byteOf ∈ tables_1 ∨ ∃ host, Cond.methodLinkNest y.cls idx y_J_byteOf host ∈ tables_1) (hk : hp_k h b = 1) (hd : decode cc pc = .ok (.invokevirtual idx, 3)) : fx_IV p l e R s m args below meth c H locs cells slots (F0 m pc ls (.int x2 :: .int x1 :: .ref b :: rest)) rest y_J_byteOf [.ref b, .int x1, .int x2] 3 := fun T hT X => fx_invV (As := [.int x1, .int x2]) (Cn := "ChainJudge") C X hw1 (fx_m5 (List.mem_of_getElem? (i := 95) rfl)) (fx_selW C (fx_m5 (List.mem_of_getElem? (i := 96) rfl))) hm_J_byteOf ⟨by decide, by decide⟩ (by rw [hT]; exact fx_clsO (ci := 0) (r := ("ChainJudge", fx_T0, 16)) C F rfl (by decide) hk) rfl (n := 2) (by decide +kernel) rfl rfl hd
end
def dl_Law_byteOf : List (Nat × Instr × Nat) := [(0, .aload_n 3, 1), (1, .iconst 0, 1), (2, .aload_n 0, 1), (3, .iload_n 1, 1), (4, .iload_n 2, 1), (5, .invokevirtual 41, 3), (8, .i2l, 1), (9, .lastore, 1), (10, .goto 11, 3), (13, .astore 4, 2), (15, .iconst 1, 1), (16, .ireturn, 1), (17, .astore 4, 2), (19, .iconst 2, 1), (20, .ireturn, 1), (21, .iconst 0, 1), (22, .ireturn, 1)]
theorem dk_Law_byteOf : fx_dec method_9_code dl_Law_byteOf = true := by decide +kernel
theorem d_Law_byteOf_0 : decode method_9_code 0 = .ok (.aload_n 3, 1) := fx_dat dk_Law_byteOf 0 rfl
theorem d_Law_byteOf_1 : decode method_9_code 1 = .ok (.iconst 0, 1) := fx_dat dk_Law_byteOf 1 rfl
theorem d_Law_byteOf_2 : decode method_9_code 2 = .ok (.aload_n 0, 1) := fx_dat dk_Law_byteOf 2 rfl
theorem d_Law_byteOf_3 : decode method_9_code 3 = .ok (.iload_n 1, 1) := fx_dat dk_Law_byteOf 3 rfl
theorem d_Law_byteOf_4 : decode method_9_code 4 = .ok (.iload_n 2, 1) := fx_dat dk_Law_byteOf 4 rfl
theorem d_Law_byteOf_5 : decode method_9_code 5 = .ok (.invokevirtual 41, 3) := fx_dat dk_Law_byteOf 5 rfl
theorem d_Law_byteOf_8 : decode method_9_code 8 = .ok (.i2l, 1) := fx_dat dk_Law_byteOf 6 rfl
theorem d_Law_byteOf_9 : decode method_9_code 9 = .ok (.lastore, 1) := fx_dat dk_Law_byteOf 7 rfl
theorem d_Law_byteOf_10 : decode method_9_code 10 = .ok (.goto 11, 3) := fx_dat dk_Law_byteOf 8 rfl
theorem d_Law_byteOf_13 : decode method_9_code 13 = .ok (.astore 4, 2) := fx_dat dk_Law_byteOf 9 rfl
theorem d_Law_byteOf_15 : decode method_9_code 15 = .ok (.iconst 1, 1) := fx_dat dk_Law_byteOf 10 rfl
theorem d_Law_byteOf_16 : decode method_9_code 16 = .ok (.ireturn, 1) := fx_dat dk_Law_byteOf 11 rfl
theorem d_Law_byteOf_17 : decode method_9_code 17 = .ok (.astore 4, 2) := fx_dat dk_Law_byteOf 12 rfl
theorem d_Law_byteOf_19 : decode method_9_code 19 = .ok (.iconst 2, 1) := fx_dat dk_Law_byteOf 13 rfl
theorem d_Law_byteOf_20 : decode method_9_code 20 = .ok (.ireturn, 1) := fx_dat dk_Law_byteOf 14 rfl
theorem d_Law_byteOf_21 : decode method_9_code 21 = .ok (.iconst 0, 1) := fx_dat dk_Law_byteOf 15 rfl
theorem d_Law_byteOf_22 : decode method_9_code 22 = .ok (.ireturn, 1) := fx_dat dk_Law_byteOf 16 rfl
def m_Law_byteOf (Q : Int32 → AH → Prop) (r0 : Nat) (x1 : Int32) (x2 : Int32) (r3 : Nat) (h : AH) : Prop := hp_k h r0 = 1 ∧ m_J_byteOf (fun v1 h1 => fx_ext h h1 → hp_k h1 r3 = 103 ∧ vp_in (0 : Int32) (hp_n h1 r3) ∧ ∀ h2 : AH, h2 = up_L h1 r3 ((0 : Int32)).toNatClampNeg ((v1).toInt64) → Q (0 : Int32) h2) (fun q1 h3 => fx_ext h h3 → (hp_k h3 q1 = 16 ∧ Q (1 : Int32) h3) ∨ (hp_k h3 q1 = 18 ∧ Q (2 : Int32) h3)) r0 x1 x2 h
theorem b_Law_byteOf_0 {p : Program} {l : Launch} {e : Env} {R : Room} {s : State} {m : MethodId} {args : Array Value} {below : List Frame} {meth : Method} {c : Code} {D : DD} {h0 : AH} {Q : Int32 → AH → Prop} (C : fx_CX D y_Law_byteOf method_9_code 5 8 111 (Option.some FieldType.int) [(0, 10, 13, 28), (0, 10, 17, 39)] h0 p R s m meth c) (hl : l.flags = flags0) (r0 : Nat) (x1 : Int32) (x2 : Int32) (r3 : Nat) (h : AH) (hw : m_Law_byteOf Q r0 x1 x2 r3 h) : ∀ (ls : Array Slot) (H : Heap) (locs : List Loc) (cells slots : Nat), lv_has ls 5 [(0, .ref r0), (1, .int x1), (2, .int x2), (3, .ref r3)] → fx_F D h0 h H locs cells slots → W p l e R s m args below meth c H locs cells slots (fx_Z D below s h0 (fx_oI Q fx_no)) (F0 m 0 ls []) := by
  unfold m_Law_byteOf at hw
  intro ls H locs cells slots hv F
  refine lv_aload_n C.ex C.by d_Law_byteOf_0 rfl (lv_at hv 3 rfl) ?_
  refine lv_iconst (v := (0 : Int32)) C.ex C.by d_Law_byteOf_1 (by decide) ?_
  refine lv_aload_n C.ex C.by d_Law_byteOf_2 rfl (lv_at hv 0 rfl) ?_
  refine lv_iload_n C.ex C.by d_Law_byteOf_3 rfl (lv_at hv 1 rfl) ?_
  refine lv_iload_n C.ex C.by d_Law_byteOf_4 rfl (lv_at hv 2 rfl) ?_
  obtain ⟨hk1, hw⟩ := hw
  refine fx_callIc C F (c_J_byteOf hl hw) hm_J_byteOf hi_J_byteOf hv.1 (by decide) (Nat.le_of_ble_eq_true rfl) (iv_J_byteOf C F lm_Law_41 hk1 d_Law_byteOf_5) (fun v1 h1 H locs cells slots hw hx1 F => ?_) (fun q1 h3 T locs cells slots hw hx1 F X => ?_)
  · replace hw := hw hx1
    have hk1 := (hx1).k hk1
    refine lv_i2l (v := ((v1).toInt64)) C.ex C.by d_Law_byteOf_8 rfl ?_
    obtain ⟨hk2, hw⟩ := hw
    obtain ⟨hi1, hw⟩ := hw
    let h2 : AH := up_L h1 r3 ((0 : Int32)).toNatClampNeg ((v1).toInt64)
    replace hw := hw h2 rfl
    refine fx_last C F hk2 hi1 d_Law_byteOf_9 (fun H locs (F : fx_F D h0 h2 H locs _ _) => ?_)
    refine lv_goto C.ex C.by d_Law_byteOf_10 rfl ?_
    refine lv_iconst (v := (0 : Int32)) C.ex C.by d_Law_byteOf_21 (by decide) ?_
    exact fx_iret C F d_Law_byteOf_22 (Or.inl ⟨_, rfl, hw⟩)
  · replace hw := hw hx1
    rcases hw with ⟨hk9, hw⟩ | ⟨hk9, hw⟩
    · have hp0 : ∀ q ∈ ([] : List ((Nat × Nat × Nat × Nat) × String)), fx_passes "ChainJudgeLaw" "java/util/NoSuchElementException" 5 q := by
        intro q hq
        cases hq
      refine fx_caught (ci := 15) (r := ("java/util/NoSuchElementException", fx_T15, 0)) C F X rfl (by decide) hk9 [] (0, 10, 13, 28) [(0, 10, 17, 39)] "java/util/NoSuchElementException" rfl hp0 rfl (by decide) (fx_m3 (List.mem_of_getElem? (i := 65) rfl)) (fx_m3 (List.mem_of_getElem? (i := 73) rfl)) (fun H locs cells slots F => ?_)
      have hk1 := (hx1).k hk1
      refine lv_astore (lv' := [(4, .ref q1), (0, .ref r0), (1, .int x1), (2, .int x2), (3, .ref r3)]) C.ex C.by d_Law_byteOf_13 hv (by decide) rfl (fun ls hv => ?_)
      refine lv_iconst (v := (1 : Int32)) C.ex C.by d_Law_byteOf_15 (by decide) ?_
      exact fx_iret C F d_Law_byteOf_16 (Or.inl ⟨_, rfl, hw⟩)
    · have hp1 : ∀ q ∈ ([((0, 10, 13, 28), "java/util/NoSuchElementException")] : List ((Nat × Nat × Nat × Nat) × String)), fx_passes "ChainJudgeLaw" "java/lang/IndexOutOfBoundsException" 5 q := by
        intro q hq
        rcases List.mem_cons.mp hq with rfl | hq
        · exact ⟨rfl, by decide, (fx_m3 (List.mem_of_getElem? (i := 65) rfl)), List.mem_of_getElem? (i := 7) rfl⟩
        cases hq
      refine fx_caught (ci := 17) (r := ("java/lang/IndexOutOfBoundsException", fx_T17, 0)) C F X rfl (by decide) hk9 [((0, 10, 13, 28), "java/util/NoSuchElementException")] (0, 10, 17, 39) [] "java/lang/IndexOutOfBoundsException" rfl hp1 rfl (by decide) (fx_m5 (List.mem_of_getElem? (i := 67) rfl)) (fx_m5 (List.mem_of_getElem? (i := 78) rfl)) (fun H locs cells slots F => ?_)
      have hk1 := (hx1).k hk1
      refine lv_astore (lv' := [(4, .ref q1), (0, .ref r0), (1, .int x1), (2, .int x2), (3, .ref r3)]) C.ex C.by d_Law_byteOf_17 hv (by decide) rfl (fun ls hv => ?_)
      refine lv_iconst (v := (2 : Int32)) C.ex C.by d_Law_byteOf_19 (by decide) ?_
      exact fx_iret C F d_Law_byteOf_20 (Or.inl ⟨_, rfl, hw⟩)
theorem hm_Law_byteOf : fx_hd y_Law_byteOf method_9_code 5 (Option.some FieldType.int) [(0, 10, 13, 28), (0, 10, 17, 39)] ∈ tables_1 := (fx_m5 (List.mem_of_getElem? (i := 93) rfl))
theorem hi_Law_byteOf : Cond.initialized y_Law_byteOf.cls ∈ tables_1 := (fx_m1 (List.mem_of_getElem? (i := 0) rfl))
theorem c_Law_byteOf {l : Launch} (hl : l.flags = flags0) {D : DD} {Q : Int32 → AH → Prop} {r0 : Nat} {x1 : Int32} {x2 : Int32} {r3 : Nat} {h : AH} (hw : m_Law_byteOf Q r0 x1 x2 r3 h) : fx_Mt l D y_Law_byteOf (fx_hd y_Law_byteOf method_9_code 5 (Option.some FieldType.int) [(0, 10, 13, 28), (0, 10, 17, 39)]) 8 111 [.ref r0, .int x1, .int x2, .ref r3] h (fx_oI Q fx_no) := by
  refine fx_ofW (plainFor_of_name (by decide)) (fun p e s m below meth c C F => ?_)
  have hv := lv_entry ([.ref r0, .int x1, .int x2, .ref r3]) (n := 5) (Nat.le_of_ble_eq_true rfl)
  rw [lg_entry_eq]
  generalize (lg_sl ([.ref r0, .int x1, .int x2, .ref r3]) ++ List.replicate (5 - (lg_sl ([.ref r0, .int x1, .int x2, .ref r3])).length) Slot.unset).toArray = ls at hv ⊢
  have hv : lv_has ls 5 [(0, .ref r0), (1, .int x1), (2, .int x2), (3, .ref r3)] := hv
  exact b_Law_byteOf_0 C hl _ _ _ _ _ hw _ _ _ _ _ hv F
/-! ChainJudge.told(II)J: frames 16, words 248, throws -/
abbrev y_J_told : MethodName := ⟨"ChainJudge", "told", "(II)J"⟩
theorem lf_J_238 : fx_Lk "ChainJudge" 238 7 16 := fx_Lk.mk (C := "ChainJudge$Certificate") (T := fx_T7) (N := 29) rfl (by decide) (by decide) (fx_m2 (List.mem_of_getElem? (i := 1) rfl))
theorem lf_J_242 : fx_Lk "ChainJudge" 242 7 17 := fx_Lk.mk (C := "ChainJudge$Certificate") (T := fx_T7) (N := 29) rfl (by decide) (by decide) (fx_m2 (List.mem_of_getElem? (i := 4) rfl))
theorem lf_J_245 : fx_Lk "ChainJudge" 245 7 18 := fx_Lk.mk (C := "ChainJudge$Certificate") (T := fx_T7) (N := 29) rfl (by decide) (by decide) (fx_m2 (List.mem_of_getElem? (i := 6) rfl))
theorem lf_J_249 : fx_Lk "ChainJudge" 249 7 21 := fx_Lk.mk (C := "ChainJudge$Certificate") (T := fx_T7) (N := 29) rfl (by decide) (by decide) (fx_m2 (List.mem_of_getElem? (i := 14) rfl))
theorem lf_J_252 : fx_Lk "ChainJudge" 252 7 22 := fx_Lk.mk (C := "ChainJudge$Certificate") (T := fx_T7) (N := 29) rfl (by decide) (by decide) (fx_m2 (List.mem_of_getElem? (i := 16) rfl))
theorem lf_J_255 : fx_Lk "ChainJudge" 255 7 23 := fx_Lk.mk (C := "ChainJudge$Certificate") (T := fx_T7) (N := 29) rfl (by decide) (by decide) (fx_m2 (List.mem_of_getElem? (i := 18) rfl))
theorem lf_J_258 : fx_Lk "ChainJudge" 258 7 26 := fx_Lk.mk (C := "ChainJudge$Certificate") (T := fx_T7) (N := 29) rfl (by decide) (by decide) (fx_m2 (List.mem_of_getElem? (i := 22) rfl))
theorem lf_J_261 : fx_Lk "ChainJudge" 261 7 19 := fx_Lk.mk (C := "ChainJudge$Certificate") (T := fx_T7) (N := 29) rfl (by decide) (by decide) (fx_m2 (List.mem_of_getElem? (i := 9) rfl))
theorem lf_J_264 : fx_Lk "ChainJudge" 264 7 15 := fx_Lk.mk (C := "ChainJudge$Certificate") (T := fx_T7) (N := 29) rfl (by decide) (by decide) (fx_m1 (List.mem_of_getElem? (i := 238) rfl))
theorem lf_J_267 : fx_Lk "ChainJudge" 267 7 20 := fx_Lk.mk (C := "ChainJudge$Certificate") (T := fx_T7) (N := 29) rfl (by decide) (by decide) (fx_m2 (List.mem_of_getElem? (i := 11) rfl))
theorem lf_J_270 : fx_Lk "ChainJudge" 270 7 12 := fx_Lk.mk (C := "ChainJudge$Certificate") (T := fx_T7) (N := 29) rfl (by decide) (by decide) (fx_m1 (List.mem_of_getElem? (i := 234) rfl))
theorem lf_J_273 : fx_Lk "ChainJudge" 273 7 11 := fx_Lk.mk (C := "ChainJudge$Certificate") (T := fx_T7) (N := 29) rfl (by decide) (by decide) (fx_m1 (List.mem_of_getElem? (i := 232) rfl))
def dl_J_told : List (Nat × Instr × Nat) := [(0, .aload_n 0, 1), (1, .iload_n 1, 1), (2, .invokevirtual 231, 3), (5, .astore_n 3, 1), (6, .iload_n 2, 1), (7, .ifCond .lt 9, 3), (10, .iload_n 2, 1), (11, .bipush 11, 2), (13, .if_icmp .le 11, 3), (16, .new 107, 3), (19, .dup, 1), (20, .invokespecial 109, 3), (23, .athrow, 1), (24, .aload_n 0, 1), (25, .aload_n 3, 1), (26, .invokevirtual 162, 3), (29, .istore 4, 2), (31, .iload_n 2, 1), (32, .ifCond .ne 14, 3), (35, .iload 4, 2), (37, .ifCond .eq 7, 3), (40, .lconst 1, 1), (41, .goto 4, 3), (44, .lconst 0, 1), (45, .lreturn, 1), (46, .iload 4, 2), (48, .ifCond .ne 11, 3), (51, .new 166, 3), (54, .dup, 1), (55, .invokespecial 168, 3), (58, .athrow, 1), (59, .aload_n 0, 1), (60, .getfield 59, 3), (63, .astore 5, 2), (65, .iload_n 2, 1), (66, .tableswitch 136 1 10 #[54, 60, 66, 80, 87, 94, 101, 108, 122, 129], 54), (120, .aload 5, 2), (122, .getfield 238, 3), (125, .lreturn, 1), (126, .aload 5, 2), (128, .getfield 242, 3), (131, .lreturn, 1), (132, .aload 5, 2), (134, .getfield 245, 3), (137, .ifCond .eq 7, 3), (140, .lconst 1, 1), (141, .goto 4, 3), (144, .lconst 0, 1), (145, .lreturn, 1), (146, .aload 5, 2), (148, .getfield 249, 3), (151, .i2l, 1), (152, .lreturn, 1), (153, .aload 5, 2), (155, .getfield 252, 3), (158, .i2l, 1), (159, .lreturn, 1), (160, .aload 5, 2), (162, .getfield 255, 3), (165, .i2l, 1), (166, .lreturn, 1), (167, .aload 5, 2), (169, .getfield 258, 3), (172, .i2l, 1), (173, .lreturn, 1), (174, .aload 5, 2), (176, .getfield 261, 3), (179, .ifCond .eq 7, 3), (182, .lconst 1, 1), (183, .goto 4, 3), (186, .lconst 0, 1), (187, .lreturn, 1), (188, .aload 5, 2), (190, .getfield 264, 3), (193, .i2l, 1), (194, .lreturn, 1), (195, .aload 5, 2), (197, .getfield 267, 3), (200, .i2l, 1), (201, .lreturn, 1), (202, .aload 5, 2), (204, .getfield 270, 3), (207, .aload 5, 2), (209, .getfield 273, 3), (212, .isub, 1), (213, .i2l, 1), (214, .lreturn, 1)]
theorem dk_J_told : fx_dec prog_1_method_19_code dl_J_told = true := by decide +kernel
theorem d_J_told_0 : decode prog_1_method_19_code 0 = .ok (.aload_n 0, 1) := fx_dat dk_J_told 0 rfl
theorem d_J_told_1 : decode prog_1_method_19_code 1 = .ok (.iload_n 1, 1) := fx_dat dk_J_told 1 rfl
theorem d_J_told_2 : decode prog_1_method_19_code 2 = .ok (.invokevirtual 231, 3) := fx_dat dk_J_told 2 rfl
theorem d_J_told_5 : decode prog_1_method_19_code 5 = .ok (.astore_n 3, 1) := fx_dat dk_J_told 3 rfl
theorem d_J_told_6 : decode prog_1_method_19_code 6 = .ok (.iload_n 2, 1) := fx_dat dk_J_told 4 rfl
theorem d_J_told_7 : decode prog_1_method_19_code 7 = .ok (.ifCond .lt 9, 3) := fx_dat dk_J_told 5 rfl
theorem d_J_told_10 : decode prog_1_method_19_code 10 = .ok (.iload_n 2, 1) := fx_dat dk_J_told 6 rfl
theorem d_J_told_11 : decode prog_1_method_19_code 11 = .ok (.bipush 11, 2) := fx_dat dk_J_told 7 rfl
theorem d_J_told_13 : decode prog_1_method_19_code 13 = .ok (.if_icmp .le 11, 3) := fx_dat dk_J_told 8 rfl
theorem d_J_told_16 : decode prog_1_method_19_code 16 = .ok (.new 107, 3) := fx_dat dk_J_told 9 rfl
theorem d_J_told_19 : decode prog_1_method_19_code 19 = .ok (.dup, 1) := fx_dat dk_J_told 10 rfl
theorem d_J_told_20 : decode prog_1_method_19_code 20 = .ok (.invokespecial 109, 3) := fx_dat dk_J_told 11 rfl
theorem d_J_told_23 : decode prog_1_method_19_code 23 = .ok (.athrow, 1) := fx_dat dk_J_told 12 rfl
theorem d_J_told_24 : decode prog_1_method_19_code 24 = .ok (.aload_n 0, 1) := fx_dat dk_J_told 13 rfl
theorem d_J_told_25 : decode prog_1_method_19_code 25 = .ok (.aload_n 3, 1) := fx_dat dk_J_told 14 rfl
theorem d_J_told_26 : decode prog_1_method_19_code 26 = .ok (.invokevirtual 162, 3) := fx_dat dk_J_told 15 rfl
theorem d_J_told_29 : decode prog_1_method_19_code 29 = .ok (.istore 4, 2) := fx_dat dk_J_told 16 rfl
theorem d_J_told_31 : decode prog_1_method_19_code 31 = .ok (.iload_n 2, 1) := fx_dat dk_J_told 17 rfl
theorem d_J_told_32 : decode prog_1_method_19_code 32 = .ok (.ifCond .ne 14, 3) := fx_dat dk_J_told 18 rfl
theorem d_J_told_35 : decode prog_1_method_19_code 35 = .ok (.iload 4, 2) := fx_dat dk_J_told 19 rfl
theorem d_J_told_37 : decode prog_1_method_19_code 37 = .ok (.ifCond .eq 7, 3) := fx_dat dk_J_told 20 rfl
theorem d_J_told_40 : decode prog_1_method_19_code 40 = .ok (.lconst 1, 1) := fx_dat dk_J_told 21 rfl
theorem d_J_told_41 : decode prog_1_method_19_code 41 = .ok (.goto 4, 3) := fx_dat dk_J_told 22 rfl
theorem d_J_told_44 : decode prog_1_method_19_code 44 = .ok (.lconst 0, 1) := fx_dat dk_J_told 23 rfl
theorem d_J_told_45 : decode prog_1_method_19_code 45 = .ok (.lreturn, 1) := fx_dat dk_J_told 24 rfl
theorem d_J_told_46 : decode prog_1_method_19_code 46 = .ok (.iload 4, 2) := fx_dat dk_J_told 25 rfl
theorem d_J_told_48 : decode prog_1_method_19_code 48 = .ok (.ifCond .ne 11, 3) := fx_dat dk_J_told 26 rfl
theorem d_J_told_51 : decode prog_1_method_19_code 51 = .ok (.new 166, 3) := fx_dat dk_J_told 27 rfl
theorem d_J_told_54 : decode prog_1_method_19_code 54 = .ok (.dup, 1) := fx_dat dk_J_told 28 rfl
theorem d_J_told_55 : decode prog_1_method_19_code 55 = .ok (.invokespecial 168, 3) := fx_dat dk_J_told 29 rfl
theorem d_J_told_58 : decode prog_1_method_19_code 58 = .ok (.athrow, 1) := fx_dat dk_J_told 30 rfl
theorem d_J_told_59 : decode prog_1_method_19_code 59 = .ok (.aload_n 0, 1) := fx_dat dk_J_told 31 rfl
theorem d_J_told_60 : decode prog_1_method_19_code 60 = .ok (.getfield 59, 3) := fx_dat dk_J_told 32 rfl
theorem d_J_told_63 : decode prog_1_method_19_code 63 = .ok (.astore 5, 2) := fx_dat dk_J_told 33 rfl
theorem d_J_told_65 : decode prog_1_method_19_code 65 = .ok (.iload_n 2, 1) := fx_dat dk_J_told 34 rfl
theorem d_J_told_66 : decode prog_1_method_19_code 66 = .ok (.tableswitch 136 1 10 #[54, 60, 66, 80, 87, 94, 101, 108, 122, 129], 54) := fx_dat dk_J_told 35 rfl
theorem d_J_told_120 : decode prog_1_method_19_code 120 = .ok (.aload 5, 2) := fx_dat dk_J_told 36 rfl
theorem d_J_told_122 : decode prog_1_method_19_code 122 = .ok (.getfield 238, 3) := fx_dat dk_J_told 37 rfl
theorem d_J_told_125 : decode prog_1_method_19_code 125 = .ok (.lreturn, 1) := fx_dat dk_J_told 38 rfl
theorem d_J_told_126 : decode prog_1_method_19_code 126 = .ok (.aload 5, 2) := fx_dat dk_J_told 39 rfl
theorem d_J_told_128 : decode prog_1_method_19_code 128 = .ok (.getfield 242, 3) := fx_dat dk_J_told 40 rfl
theorem d_J_told_131 : decode prog_1_method_19_code 131 = .ok (.lreturn, 1) := fx_dat dk_J_told 41 rfl
theorem d_J_told_132 : decode prog_1_method_19_code 132 = .ok (.aload 5, 2) := fx_dat dk_J_told 42 rfl
theorem d_J_told_134 : decode prog_1_method_19_code 134 = .ok (.getfield 245, 3) := fx_dat dk_J_told 43 rfl
theorem d_J_told_137 : decode prog_1_method_19_code 137 = .ok (.ifCond .eq 7, 3) := fx_dat dk_J_told 44 rfl
theorem d_J_told_140 : decode prog_1_method_19_code 140 = .ok (.lconst 1, 1) := fx_dat dk_J_told 45 rfl
theorem d_J_told_141 : decode prog_1_method_19_code 141 = .ok (.goto 4, 3) := fx_dat dk_J_told 46 rfl
theorem d_J_told_144 : decode prog_1_method_19_code 144 = .ok (.lconst 0, 1) := fx_dat dk_J_told 47 rfl
theorem d_J_told_145 : decode prog_1_method_19_code 145 = .ok (.lreturn, 1) := fx_dat dk_J_told 48 rfl
theorem d_J_told_146 : decode prog_1_method_19_code 146 = .ok (.aload 5, 2) := fx_dat dk_J_told 49 rfl
theorem d_J_told_148 : decode prog_1_method_19_code 148 = .ok (.getfield 249, 3) := fx_dat dk_J_told 50 rfl
theorem d_J_told_151 : decode prog_1_method_19_code 151 = .ok (.i2l, 1) := fx_dat dk_J_told 51 rfl
theorem d_J_told_152 : decode prog_1_method_19_code 152 = .ok (.lreturn, 1) := fx_dat dk_J_told 52 rfl
theorem d_J_told_153 : decode prog_1_method_19_code 153 = .ok (.aload 5, 2) := fx_dat dk_J_told 53 rfl
theorem d_J_told_155 : decode prog_1_method_19_code 155 = .ok (.getfield 252, 3) := fx_dat dk_J_told 54 rfl
theorem d_J_told_158 : decode prog_1_method_19_code 158 = .ok (.i2l, 1) := fx_dat dk_J_told 55 rfl
theorem d_J_told_159 : decode prog_1_method_19_code 159 = .ok (.lreturn, 1) := fx_dat dk_J_told 56 rfl
theorem d_J_told_160 : decode prog_1_method_19_code 160 = .ok (.aload 5, 2) := fx_dat dk_J_told 57 rfl
theorem d_J_told_162 : decode prog_1_method_19_code 162 = .ok (.getfield 255, 3) := fx_dat dk_J_told 58 rfl
theorem d_J_told_165 : decode prog_1_method_19_code 165 = .ok (.i2l, 1) := fx_dat dk_J_told 59 rfl
theorem d_J_told_166 : decode prog_1_method_19_code 166 = .ok (.lreturn, 1) := fx_dat dk_J_told 60 rfl
theorem d_J_told_167 : decode prog_1_method_19_code 167 = .ok (.aload 5, 2) := fx_dat dk_J_told 61 rfl
theorem d_J_told_169 : decode prog_1_method_19_code 169 = .ok (.getfield 258, 3) := fx_dat dk_J_told 62 rfl
theorem d_J_told_172 : decode prog_1_method_19_code 172 = .ok (.i2l, 1) := fx_dat dk_J_told 63 rfl
theorem d_J_told_173 : decode prog_1_method_19_code 173 = .ok (.lreturn, 1) := fx_dat dk_J_told 64 rfl
theorem d_J_told_174 : decode prog_1_method_19_code 174 = .ok (.aload 5, 2) := fx_dat dk_J_told 65 rfl
theorem d_J_told_176 : decode prog_1_method_19_code 176 = .ok (.getfield 261, 3) := fx_dat dk_J_told 66 rfl
theorem d_J_told_179 : decode prog_1_method_19_code 179 = .ok (.ifCond .eq 7, 3) := fx_dat dk_J_told 67 rfl
theorem d_J_told_182 : decode prog_1_method_19_code 182 = .ok (.lconst 1, 1) := fx_dat dk_J_told 68 rfl
theorem d_J_told_183 : decode prog_1_method_19_code 183 = .ok (.goto 4, 3) := fx_dat dk_J_told 69 rfl
theorem d_J_told_186 : decode prog_1_method_19_code 186 = .ok (.lconst 0, 1) := fx_dat dk_J_told 70 rfl
theorem d_J_told_187 : decode prog_1_method_19_code 187 = .ok (.lreturn, 1) := fx_dat dk_J_told 71 rfl
theorem d_J_told_188 : decode prog_1_method_19_code 188 = .ok (.aload 5, 2) := fx_dat dk_J_told 72 rfl
theorem d_J_told_190 : decode prog_1_method_19_code 190 = .ok (.getfield 264, 3) := fx_dat dk_J_told 73 rfl
theorem d_J_told_193 : decode prog_1_method_19_code 193 = .ok (.i2l, 1) := fx_dat dk_J_told 74 rfl
theorem d_J_told_194 : decode prog_1_method_19_code 194 = .ok (.lreturn, 1) := fx_dat dk_J_told 75 rfl
theorem d_J_told_195 : decode prog_1_method_19_code 195 = .ok (.aload 5, 2) := fx_dat dk_J_told 76 rfl
theorem d_J_told_197 : decode prog_1_method_19_code 197 = .ok (.getfield 267, 3) := fx_dat dk_J_told 77 rfl
theorem d_J_told_200 : decode prog_1_method_19_code 200 = .ok (.i2l, 1) := fx_dat dk_J_told 78 rfl
theorem d_J_told_201 : decode prog_1_method_19_code 201 = .ok (.lreturn, 1) := fx_dat dk_J_told 79 rfl
theorem d_J_told_202 : decode prog_1_method_19_code 202 = .ok (.aload 5, 2) := fx_dat dk_J_told 80 rfl
theorem d_J_told_204 : decode prog_1_method_19_code 204 = .ok (.getfield 270, 3) := fx_dat dk_J_told 81 rfl
theorem d_J_told_207 : decode prog_1_method_19_code 207 = .ok (.aload 5, 2) := fx_dat dk_J_told 82 rfl
theorem d_J_told_209 : decode prog_1_method_19_code 209 = .ok (.getfield 273, 3) := fx_dat dk_J_told 83 rfl
theorem d_J_told_212 : decode prog_1_method_19_code 212 = .ok (.isub, 1) := fx_dat dk_J_told 84 rfl
theorem d_J_told_213 : decode prog_1_method_19_code 213 = .ok (.i2l, 1) := fx_dat dk_J_told 85 rfl
theorem d_J_told_214 : decode prog_1_method_19_code 214 = .ok (.lreturn, 1) := fx_dat dk_J_told 86 rfl
def m_J_told_16 (Q : Int64 → AH → Prop) (E : Nat → AH → Prop) (h : AH) : Prop := fx_has h 6 ∧ ∀ (_ : fx_wf h) (q1 : Nat), q1 = hp_z h → ∀ h1 : AH, h1 = up_N h 14 0 6 → E q1 h1
def m_J_told_120 (Q : Int64 → AH → Prop) (E : Nat → AH → Prop) (r5 : Nat) (h : AH) : Prop := hp_k h r5 = 8 ∧ Q (hp_L h r5 16) h
def m_J_told_126 (Q : Int64 → AH → Prop) (E : Nat → AH → Prop) (r5 : Nat) (h : AH) : Prop := hp_k h r5 = 8 ∧ Q (hp_L h r5 17) h
def m_J_told_145 (Q : Int64 → AH → Prop) (E : Nat → AH → Prop) (sw0 : Int64) (h : AH) : Prop := Q sw0 h
def m_J_told_132 (Q : Int64 → AH → Prop) (E : Nat → AH → Prop) (r5 : Nat) (h : AH) : Prop := hp_k h r5 = 8 ∧ ((hp_I h r5 18) = 0 → m_J_told_145 Q E (0 : Int64) h) ∧ (¬ (hp_I h r5 18) = 0 → m_J_told_145 Q E (1 : Int64) h)
def m_J_told_146 (Q : Int64 → AH → Prop) (E : Nat → AH → Prop) (r5 : Nat) (h : AH) : Prop := hp_k h r5 = 8 ∧ Q (((hp_I h r5 21)).toInt64) h
def m_J_told_153 (Q : Int64 → AH → Prop) (E : Nat → AH → Prop) (r5 : Nat) (h : AH) : Prop := hp_k h r5 = 8 ∧ Q (((hp_I h r5 22)).toInt64) h
def m_J_told_160 (Q : Int64 → AH → Prop) (E : Nat → AH → Prop) (r5 : Nat) (h : AH) : Prop := hp_k h r5 = 8 ∧ Q (((hp_I h r5 23)).toInt64) h
def m_J_told_167 (Q : Int64 → AH → Prop) (E : Nat → AH → Prop) (r5 : Nat) (h : AH) : Prop := hp_k h r5 = 8 ∧ Q (((hp_I h r5 26)).toInt64) h
def m_J_told_187 (Q : Int64 → AH → Prop) (E : Nat → AH → Prop) (sw0 : Int64) (h : AH) : Prop := Q sw0 h
def m_J_told_174 (Q : Int64 → AH → Prop) (E : Nat → AH → Prop) (r5 : Nat) (h : AH) : Prop := hp_k h r5 = 8 ∧ ((hp_I h r5 19) = 0 → m_J_told_187 Q E (0 : Int64) h) ∧ (¬ (hp_I h r5 19) = 0 → m_J_told_187 Q E (1 : Int64) h)
def m_J_told_188 (Q : Int64 → AH → Prop) (E : Nat → AH → Prop) (r5 : Nat) (h : AH) : Prop := hp_k h r5 = 8 ∧ Q (((hp_I h r5 15)).toInt64) h
def m_J_told_195 (Q : Int64 → AH → Prop) (E : Nat → AH → Prop) (r5 : Nat) (h : AH) : Prop := hp_k h r5 = 8 ∧ Q (((hp_I h r5 20)).toInt64) h
def m_J_told_202 (Q : Int64 → AH → Prop) (E : Nat → AH → Prop) (r5 : Nat) (h : AH) : Prop := hp_k h r5 = 8 ∧ Q ((((hp_I h r5 12) - (hp_I h r5 11))).toInt64) h
def m_J_told_45 (Q : Int64 → AH → Prop) (E : Nat → AH → Prop) (sw0 : Int64) (h : AH) : Prop := Q sw0 h
def m_J_told (Q : Int64 → AH → Prop) (E : Nat → AH → Prop) (r0 : Nat) (x1 : Int32) (x2 : Int32) (h : AH) : Prop := hp_k h r0 = 1 ∧ m_J_of (fun q1 h1 => fx_ext h h1 → (x2 < 0 → m_J_told_16 Q E h1) ∧ (¬ x2 < 0 → (x2 ≤ (11 : Int32) → m_J_reads (fun v1 h2 => fx_ext h1 h2 → zb v1 → (¬ x2 = 0 → (¬ v1 = 0 → ∃ b1, hp_R h2 r0 7 = some b1 ∧ (x2 = (1 : Int32) → m_J_told_120 Q E b1 h2) ∧ (x2 = (2 : Int32) → m_J_told_126 Q E b1 h2) ∧ (x2 = (3 : Int32) → m_J_told_132 Q E b1 h2) ∧ (x2 = (4 : Int32) → m_J_told_146 Q E b1 h2) ∧ (x2 = (5 : Int32) → m_J_told_153 Q E b1 h2) ∧ (x2 = (6 : Int32) → m_J_told_160 Q E b1 h2) ∧ (x2 = (7 : Int32) → m_J_told_167 Q E b1 h2) ∧ (x2 = (8 : Int32) → m_J_told_174 Q E b1 h2) ∧ (x2 = (9 : Int32) → m_J_told_188 Q E b1 h2) ∧ (x2 = (10 : Int32) → m_J_told_195 Q E b1 h2) ∧ ((∀ k ∈ ([(1 : Int32), (2 : Int32), (3 : Int32), (4 : Int32), (5 : Int32), (6 : Int32), (7 : Int32), (8 : Int32), (9 : Int32), (10 : Int32)] : List Int32), ¬ x2 = k) → m_J_told_202 Q E b1 h2)) ∧ (v1 = 0 → fx_has h2 6 ∧ ∀ (_ : fx_wf h2) (q2 : Nat), q2 = hp_z h2 → ∀ h3 : AH, h3 = up_N h2 17 0 6 → E q2 h3)) ∧ (x2 = 0 → (v1 = 0 → m_J_told_45 Q E (0 : Int64) h2) ∧ (¬ v1 = 0 → m_J_told_45 Q E (1 : Int64) h2))) r0 q1 h1) ∧ (¬ x2 ≤ (11 : Int32) → m_J_told_16 Q E h1))) (fun a ht => fx_ext h ht → E a ht) r0 x1 h
theorem b_J_told_16 {p : Program} {l : Launch} {e : Env} {R : Room} {s : State} {m : MethodId} {args : Array Value} {below : List Frame} {meth : Method} {c : Code} {D : DD} {h0 : AH} {Q : Int64 → AH → Prop} {E : Nat → AH → Prop} (C : fx_CX D y_J_told prog_1_method_19_code 6 16 248 (Option.some FieldType.long) [] h0 p R s m meth c) (hl : l.flags = flags0) (h : AH) (hw : m_J_told_16 Q E h) : ∀ (ls : Array Slot) (H : Heap) (locs : List Loc) (cells slots : Nat), lv_has ls 6 [] → fx_F D h0 h H locs cells slots → W p l e R s m args below meth c H locs cells slots (fx_Z D below s h0 (fx_oL Q E)) (F0 m 16 ls []) := by
  unfold m_J_told_16 at hw
  intro ls H locs cells slots hv F
  obtain ⟨hs, hw⟩ := hw
  let q1 : Nat := hp_z h
  let h1 : AH := up_N h 14 0 6
  replace hw := hw F.wf q1 rfl h1 rfl
  have hkq1 : hp_k h1 q1 = 14 := fx_nk _ _ _ _
  refine fx_exc (r := ("java/lang/IllegalArgumentException", fx_T13, 0)) (names := fx_rn) C F rfl rfl (fx_m3 (List.mem_of_getElem? (i := 36) rfl)) (fx_m1 (List.mem_of_getElem? (i := 22) rfl)) (by decide +kernel) (by decide +kernel) ex_J_109 hs hv.1 hl d_J_told_16 d_J_told_19 d_J_told_20 (by decide) (Nat.le_of_ble_eq_true rfl) (fun H locs cells slots (F : fx_F D h0 h1 H locs cells slots) => ?_)
  exact fx_athrow C F (fx_out0 _) d_J_told_23 (Or.inr ⟨_, rfl, hw⟩)
theorem b_J_told_120 {p : Program} {l : Launch} {e : Env} {R : Room} {s : State} {m : MethodId} {args : Array Value} {below : List Frame} {meth : Method} {c : Code} {D : DD} {h0 : AH} {Q : Int64 → AH → Prop} {E : Nat → AH → Prop} (C : fx_CX D y_J_told prog_1_method_19_code 6 16 248 (Option.some FieldType.long) [] h0 p R s m meth c) (hl : l.flags = flags0) (r5 : Nat) (h : AH) (hw : m_J_told_120 Q E r5 h) : ∀ (ls : Array Slot) (H : Heap) (locs : List Loc) (cells slots : Nat), lv_has ls 6 [(5, .ref r5)] → fx_F D h0 h H locs cells slots → W p l e R s m args below meth c H locs cells slots (fx_Z D below s h0 (fx_oL Q E)) (F0 m 120 ls []) := by
  unfold m_J_told_120 at hw
  intro ls H locs cells slots hv F
  refine lv_aload C.ex C.by d_J_told_120 (lv_at hv 0 rfl) ?_
  obtain ⟨hk1, hw⟩ := hw
  refine fx_getL C F lf_J_238 hk1 rfl d_J_told_122 ?_
  exact fx_lret C F d_J_told_125 (Or.inl ⟨_, rfl, hw⟩)
theorem b_J_told_126 {p : Program} {l : Launch} {e : Env} {R : Room} {s : State} {m : MethodId} {args : Array Value} {below : List Frame} {meth : Method} {c : Code} {D : DD} {h0 : AH} {Q : Int64 → AH → Prop} {E : Nat → AH → Prop} (C : fx_CX D y_J_told prog_1_method_19_code 6 16 248 (Option.some FieldType.long) [] h0 p R s m meth c) (hl : l.flags = flags0) (r5 : Nat) (h : AH) (hw : m_J_told_126 Q E r5 h) : ∀ (ls : Array Slot) (H : Heap) (locs : List Loc) (cells slots : Nat), lv_has ls 6 [(5, .ref r5)] → fx_F D h0 h H locs cells slots → W p l e R s m args below meth c H locs cells slots (fx_Z D below s h0 (fx_oL Q E)) (F0 m 126 ls []) := by
  unfold m_J_told_126 at hw
  intro ls H locs cells slots hv F
  refine lv_aload C.ex C.by d_J_told_126 (lv_at hv 0 rfl) ?_
  obtain ⟨hk1, hw⟩ := hw
  refine fx_getL C F lf_J_242 hk1 rfl d_J_told_128 ?_
  exact fx_lret C F d_J_told_131 (Or.inl ⟨_, rfl, hw⟩)
theorem b_J_told_145 {p : Program} {l : Launch} {e : Env} {R : Room} {s : State} {m : MethodId} {args : Array Value} {below : List Frame} {meth : Method} {c : Code} {D : DD} {h0 : AH} {Q : Int64 → AH → Prop} {E : Nat → AH → Prop} (C : fx_CX D y_J_told prog_1_method_19_code 6 16 248 (Option.some FieldType.long) [] h0 p R s m meth c) (hl : l.flags = flags0) (sw0 : Int64) (h : AH) (hw : m_J_told_145 Q E sw0 h) : ∀ (ls : Array Slot) (H : Heap) (locs : List Loc) (cells slots : Nat), lv_has ls 6 [] → fx_F D h0 h H locs cells slots → W p l e R s m args below meth c H locs cells slots (fx_Z D below s h0 (fx_oL Q E)) (F0 m 145 ls [.long sw0]) := by
  unfold m_J_told_145 at hw
  intro ls H locs cells slots hv F
  exact fx_lret C F d_J_told_145 (Or.inl ⟨_, rfl, hw⟩)
theorem b_J_told_132 {p : Program} {l : Launch} {e : Env} {R : Room} {s : State} {m : MethodId} {args : Array Value} {below : List Frame} {meth : Method} {c : Code} {D : DD} {h0 : AH} {Q : Int64 → AH → Prop} {E : Nat → AH → Prop} (C : fx_CX D y_J_told prog_1_method_19_code 6 16 248 (Option.some FieldType.long) [] h0 p R s m meth c) (hl : l.flags = flags0) (r5 : Nat) (h : AH) (hw : m_J_told_132 Q E r5 h) : ∀ (ls : Array Slot) (H : Heap) (locs : List Loc) (cells slots : Nat), lv_has ls 6 [(5, .ref r5)] → fx_F D h0 h H locs cells slots → W p l e R s m args below meth c H locs cells slots (fx_Z D below s h0 (fx_oL Q E)) (F0 m 132 ls []) := by
  unfold m_J_told_132 at hw
  intro ls H locs cells slots hv F
  refine lv_aload C.ex C.by d_J_told_132 (lv_at hv 0 rfl) ?_
  obtain ⟨hk1, hw⟩ := hw
  refine fx_getI C F lf_J_245 hk1 rfl d_J_told_134 ?_
  refine lv_if_eq C.ex C.by d_J_told_137 rfl (fun hc => ?_) (fun hc => ?_)
  · replace hw := hw.1 hc
    refine lv_lconst (v := (0 : Int64)) C.ex C.by d_J_told_144 (by decide) ?_
    exact b_J_told_145 C hl _ _ hw _ _ _ _ _ (lv_sub hv [] rfl) F
  · replace hw := hw.2 hc
    refine lv_lconst (v := (1 : Int64)) C.ex C.by d_J_told_140 (by decide) ?_
    refine lv_goto C.ex C.by d_J_told_141 rfl ?_
    exact b_J_told_145 C hl _ _ hw _ _ _ _ _ (lv_sub hv [] rfl) F
theorem b_J_told_146 {p : Program} {l : Launch} {e : Env} {R : Room} {s : State} {m : MethodId} {args : Array Value} {below : List Frame} {meth : Method} {c : Code} {D : DD} {h0 : AH} {Q : Int64 → AH → Prop} {E : Nat → AH → Prop} (C : fx_CX D y_J_told prog_1_method_19_code 6 16 248 (Option.some FieldType.long) [] h0 p R s m meth c) (hl : l.flags = flags0) (r5 : Nat) (h : AH) (hw : m_J_told_146 Q E r5 h) : ∀ (ls : Array Slot) (H : Heap) (locs : List Loc) (cells slots : Nat), lv_has ls 6 [(5, .ref r5)] → fx_F D h0 h H locs cells slots → W p l e R s m args below meth c H locs cells slots (fx_Z D below s h0 (fx_oL Q E)) (F0 m 146 ls []) := by
  unfold m_J_told_146 at hw
  intro ls H locs cells slots hv F
  refine lv_aload C.ex C.by d_J_told_146 (lv_at hv 0 rfl) ?_
  obtain ⟨hk1, hw⟩ := hw
  refine fx_getI C F lf_J_249 hk1 rfl d_J_told_148 ?_
  refine lv_i2l (v := (((hp_I h r5 21)).toInt64)) C.ex C.by d_J_told_151 rfl ?_
  exact fx_lret C F d_J_told_152 (Or.inl ⟨_, rfl, hw⟩)
theorem b_J_told_153 {p : Program} {l : Launch} {e : Env} {R : Room} {s : State} {m : MethodId} {args : Array Value} {below : List Frame} {meth : Method} {c : Code} {D : DD} {h0 : AH} {Q : Int64 → AH → Prop} {E : Nat → AH → Prop} (C : fx_CX D y_J_told prog_1_method_19_code 6 16 248 (Option.some FieldType.long) [] h0 p R s m meth c) (hl : l.flags = flags0) (r5 : Nat) (h : AH) (hw : m_J_told_153 Q E r5 h) : ∀ (ls : Array Slot) (H : Heap) (locs : List Loc) (cells slots : Nat), lv_has ls 6 [(5, .ref r5)] → fx_F D h0 h H locs cells slots → W p l e R s m args below meth c H locs cells slots (fx_Z D below s h0 (fx_oL Q E)) (F0 m 153 ls []) := by
  unfold m_J_told_153 at hw
  intro ls H locs cells slots hv F
  refine lv_aload C.ex C.by d_J_told_153 (lv_at hv 0 rfl) ?_
  obtain ⟨hk1, hw⟩ := hw
  refine fx_getI C F lf_J_252 hk1 rfl d_J_told_155 ?_
  refine lv_i2l (v := (((hp_I h r5 22)).toInt64)) C.ex C.by d_J_told_158 rfl ?_
  exact fx_lret C F d_J_told_159 (Or.inl ⟨_, rfl, hw⟩)
theorem b_J_told_160 {p : Program} {l : Launch} {e : Env} {R : Room} {s : State} {m : MethodId} {args : Array Value} {below : List Frame} {meth : Method} {c : Code} {D : DD} {h0 : AH} {Q : Int64 → AH → Prop} {E : Nat → AH → Prop} (C : fx_CX D y_J_told prog_1_method_19_code 6 16 248 (Option.some FieldType.long) [] h0 p R s m meth c) (hl : l.flags = flags0) (r5 : Nat) (h : AH) (hw : m_J_told_160 Q E r5 h) : ∀ (ls : Array Slot) (H : Heap) (locs : List Loc) (cells slots : Nat), lv_has ls 6 [(5, .ref r5)] → fx_F D h0 h H locs cells slots → W p l e R s m args below meth c H locs cells slots (fx_Z D below s h0 (fx_oL Q E)) (F0 m 160 ls []) := by
  unfold m_J_told_160 at hw
  intro ls H locs cells slots hv F
  refine lv_aload C.ex C.by d_J_told_160 (lv_at hv 0 rfl) ?_
  obtain ⟨hk1, hw⟩ := hw
  refine fx_getI C F lf_J_255 hk1 rfl d_J_told_162 ?_
  refine lv_i2l (v := (((hp_I h r5 23)).toInt64)) C.ex C.by d_J_told_165 rfl ?_
  exact fx_lret C F d_J_told_166 (Or.inl ⟨_, rfl, hw⟩)
theorem b_J_told_167 {p : Program} {l : Launch} {e : Env} {R : Room} {s : State} {m : MethodId} {args : Array Value} {below : List Frame} {meth : Method} {c : Code} {D : DD} {h0 : AH} {Q : Int64 → AH → Prop} {E : Nat → AH → Prop} (C : fx_CX D y_J_told prog_1_method_19_code 6 16 248 (Option.some FieldType.long) [] h0 p R s m meth c) (hl : l.flags = flags0) (r5 : Nat) (h : AH) (hw : m_J_told_167 Q E r5 h) : ∀ (ls : Array Slot) (H : Heap) (locs : List Loc) (cells slots : Nat), lv_has ls 6 [(5, .ref r5)] → fx_F D h0 h H locs cells slots → W p l e R s m args below meth c H locs cells slots (fx_Z D below s h0 (fx_oL Q E)) (F0 m 167 ls []) := by
  unfold m_J_told_167 at hw
  intro ls H locs cells slots hv F
  refine lv_aload C.ex C.by d_J_told_167 (lv_at hv 0 rfl) ?_
  obtain ⟨hk1, hw⟩ := hw
  refine fx_getI C F lf_J_258 hk1 rfl d_J_told_169 ?_
  refine lv_i2l (v := (((hp_I h r5 26)).toInt64)) C.ex C.by d_J_told_172 rfl ?_
  exact fx_lret C F d_J_told_173 (Or.inl ⟨_, rfl, hw⟩)
theorem b_J_told_187 {p : Program} {l : Launch} {e : Env} {R : Room} {s : State} {m : MethodId} {args : Array Value} {below : List Frame} {meth : Method} {c : Code} {D : DD} {h0 : AH} {Q : Int64 → AH → Prop} {E : Nat → AH → Prop} (C : fx_CX D y_J_told prog_1_method_19_code 6 16 248 (Option.some FieldType.long) [] h0 p R s m meth c) (hl : l.flags = flags0) (sw0 : Int64) (h : AH) (hw : m_J_told_187 Q E sw0 h) : ∀ (ls : Array Slot) (H : Heap) (locs : List Loc) (cells slots : Nat), lv_has ls 6 [] → fx_F D h0 h H locs cells slots → W p l e R s m args below meth c H locs cells slots (fx_Z D below s h0 (fx_oL Q E)) (F0 m 187 ls [.long sw0]) := by
  unfold m_J_told_187 at hw
  intro ls H locs cells slots hv F
  exact fx_lret C F d_J_told_187 (Or.inl ⟨_, rfl, hw⟩)
theorem b_J_told_174 {p : Program} {l : Launch} {e : Env} {R : Room} {s : State} {m : MethodId} {args : Array Value} {below : List Frame} {meth : Method} {c : Code} {D : DD} {h0 : AH} {Q : Int64 → AH → Prop} {E : Nat → AH → Prop} (C : fx_CX D y_J_told prog_1_method_19_code 6 16 248 (Option.some FieldType.long) [] h0 p R s m meth c) (hl : l.flags = flags0) (r5 : Nat) (h : AH) (hw : m_J_told_174 Q E r5 h) : ∀ (ls : Array Slot) (H : Heap) (locs : List Loc) (cells slots : Nat), lv_has ls 6 [(5, .ref r5)] → fx_F D h0 h H locs cells slots → W p l e R s m args below meth c H locs cells slots (fx_Z D below s h0 (fx_oL Q E)) (F0 m 174 ls []) := by
  unfold m_J_told_174 at hw
  intro ls H locs cells slots hv F
  refine lv_aload C.ex C.by d_J_told_174 (lv_at hv 0 rfl) ?_
  obtain ⟨hk1, hw⟩ := hw
  refine fx_getI C F lf_J_261 hk1 rfl d_J_told_176 ?_
  refine lv_if_eq C.ex C.by d_J_told_179 rfl (fun hc => ?_) (fun hc => ?_)
  · replace hw := hw.1 hc
    refine lv_lconst (v := (0 : Int64)) C.ex C.by d_J_told_186 (by decide) ?_
    exact b_J_told_187 C hl _ _ hw _ _ _ _ _ (lv_sub hv [] rfl) F
  · replace hw := hw.2 hc
    refine lv_lconst (v := (1 : Int64)) C.ex C.by d_J_told_182 (by decide) ?_
    refine lv_goto C.ex C.by d_J_told_183 rfl ?_
    exact b_J_told_187 C hl _ _ hw _ _ _ _ _ (lv_sub hv [] rfl) F
theorem b_J_told_188 {p : Program} {l : Launch} {e : Env} {R : Room} {s : State} {m : MethodId} {args : Array Value} {below : List Frame} {meth : Method} {c : Code} {D : DD} {h0 : AH} {Q : Int64 → AH → Prop} {E : Nat → AH → Prop} (C : fx_CX D y_J_told prog_1_method_19_code 6 16 248 (Option.some FieldType.long) [] h0 p R s m meth c) (hl : l.flags = flags0) (r5 : Nat) (h : AH) (hw : m_J_told_188 Q E r5 h) : ∀ (ls : Array Slot) (H : Heap) (locs : List Loc) (cells slots : Nat), lv_has ls 6 [(5, .ref r5)] → fx_F D h0 h H locs cells slots → W p l e R s m args below meth c H locs cells slots (fx_Z D below s h0 (fx_oL Q E)) (F0 m 188 ls []) := by
  unfold m_J_told_188 at hw
  intro ls H locs cells slots hv F
  refine lv_aload C.ex C.by d_J_told_188 (lv_at hv 0 rfl) ?_
  obtain ⟨hk1, hw⟩ := hw
  refine fx_getI C F lf_J_264 hk1 rfl d_J_told_190 ?_
  refine lv_i2l (v := (((hp_I h r5 15)).toInt64)) C.ex C.by d_J_told_193 rfl ?_
  exact fx_lret C F d_J_told_194 (Or.inl ⟨_, rfl, hw⟩)
theorem b_J_told_195 {p : Program} {l : Launch} {e : Env} {R : Room} {s : State} {m : MethodId} {args : Array Value} {below : List Frame} {meth : Method} {c : Code} {D : DD} {h0 : AH} {Q : Int64 → AH → Prop} {E : Nat → AH → Prop} (C : fx_CX D y_J_told prog_1_method_19_code 6 16 248 (Option.some FieldType.long) [] h0 p R s m meth c) (hl : l.flags = flags0) (r5 : Nat) (h : AH) (hw : m_J_told_195 Q E r5 h) : ∀ (ls : Array Slot) (H : Heap) (locs : List Loc) (cells slots : Nat), lv_has ls 6 [(5, .ref r5)] → fx_F D h0 h H locs cells slots → W p l e R s m args below meth c H locs cells slots (fx_Z D below s h0 (fx_oL Q E)) (F0 m 195 ls []) := by
  unfold m_J_told_195 at hw
  intro ls H locs cells slots hv F
  refine lv_aload C.ex C.by d_J_told_195 (lv_at hv 0 rfl) ?_
  obtain ⟨hk1, hw⟩ := hw
  refine fx_getI C F lf_J_267 hk1 rfl d_J_told_197 ?_
  refine lv_i2l (v := (((hp_I h r5 20)).toInt64)) C.ex C.by d_J_told_200 rfl ?_
  exact fx_lret C F d_J_told_201 (Or.inl ⟨_, rfl, hw⟩)
theorem b_J_told_202 {p : Program} {l : Launch} {e : Env} {R : Room} {s : State} {m : MethodId} {args : Array Value} {below : List Frame} {meth : Method} {c : Code} {D : DD} {h0 : AH} {Q : Int64 → AH → Prop} {E : Nat → AH → Prop} (C : fx_CX D y_J_told prog_1_method_19_code 6 16 248 (Option.some FieldType.long) [] h0 p R s m meth c) (hl : l.flags = flags0) (r5 : Nat) (h : AH) (hw : m_J_told_202 Q E r5 h) : ∀ (ls : Array Slot) (H : Heap) (locs : List Loc) (cells slots : Nat), lv_has ls 6 [(5, .ref r5)] → fx_F D h0 h H locs cells slots → W p l e R s m args below meth c H locs cells slots (fx_Z D below s h0 (fx_oL Q E)) (F0 m 202 ls []) := by
  unfold m_J_told_202 at hw
  intro ls H locs cells slots hv F
  refine lv_aload C.ex C.by d_J_told_202 (lv_at hv 0 rfl) ?_
  obtain ⟨hk1, hw⟩ := hw
  refine fx_getI C F lf_J_270 hk1 rfl d_J_told_204 ?_
  refine lv_aload C.ex C.by d_J_told_207 (lv_at hv 0 rfl) ?_
  refine fx_getI C F lf_J_273 hk1 rfl d_J_told_209 ?_
  refine lv_isub C.ex C.by d_J_told_212 ?_
  refine lv_i2l (v := ((((hp_I h r5 12) - (hp_I h r5 11))).toInt64)) C.ex C.by d_J_told_213 rfl ?_
  exact fx_lret C F d_J_told_214 (Or.inl ⟨_, rfl, hw⟩)
theorem b_J_told_45 {p : Program} {l : Launch} {e : Env} {R : Room} {s : State} {m : MethodId} {args : Array Value} {below : List Frame} {meth : Method} {c : Code} {D : DD} {h0 : AH} {Q : Int64 → AH → Prop} {E : Nat → AH → Prop} (C : fx_CX D y_J_told prog_1_method_19_code 6 16 248 (Option.some FieldType.long) [] h0 p R s m meth c) (hl : l.flags = flags0) (sw0 : Int64) (h : AH) (hw : m_J_told_45 Q E sw0 h) : ∀ (ls : Array Slot) (H : Heap) (locs : List Loc) (cells slots : Nat), lv_has ls 6 [] → fx_F D h0 h H locs cells slots → W p l e R s m args below meth c H locs cells slots (fx_Z D below s h0 (fx_oL Q E)) (F0 m 45 ls [.long sw0]) := by
  unfold m_J_told_45 at hw
  intro ls H locs cells slots hv F
  exact fx_lret C F d_J_told_45 (Or.inl ⟨_, rfl, hw⟩)
theorem b_J_told_0 {p : Program} {l : Launch} {e : Env} {R : Room} {s : State} {m : MethodId} {args : Array Value} {below : List Frame} {meth : Method} {c : Code} {D : DD} {h0 : AH} {Q : Int64 → AH → Prop} {E : Nat → AH → Prop} (C : fx_CX D y_J_told prog_1_method_19_code 6 16 248 (Option.some FieldType.long) [] h0 p R s m meth c) (hl : l.flags = flags0) (r0 : Nat) (x1 : Int32) (x2 : Int32) (h : AH) (hw : m_J_told Q E r0 x1 x2 h) : ∀ (ls : Array Slot) (H : Heap) (locs : List Loc) (cells slots : Nat), lv_has ls 6 [(0, .ref r0), (1, .int x1), (2, .int x2)] → fx_F D h0 h H locs cells slots → W p l e R s m args below meth c H locs cells slots (fx_Z D below s h0 (fx_oL Q E)) (F0 m 0 ls []) := by
  unfold m_J_told at hw
  intro ls H locs cells slots hv F
  refine lv_aload_n C.ex C.by d_J_told_0 rfl (lv_at hv 0 rfl) ?_
  refine lv_iload_n C.ex C.by d_J_told_1 rfl (lv_at hv 1 rfl) ?_
  obtain ⟨hk1, hw⟩ := hw
  refine fx_callR C F (c_J_of hl hw) hm_J_of hi_J_of hv.1 (by decide) (Nat.le_of_ble_eq_true rfl) (iv_J_of C F lm_J_231 hk1 d_J_told_2) (fx_out0 _) (fun _ _ hE hx => Or.inr ⟨_, rfl, hE hx⟩) (fun q1 h1 H locs cells slots hw hx1 F => ?_)
  replace hw := hw hx1
  have hk1 := (hx1).k hk1
  refine lv_astore_n (lv' := [(3, .ref q1), (0, .ref r0), (1, .int x1), (2, .int x2)]) C.ex C.by d_J_told_5 rfl hv (by decide) rfl (fun ls hv => ?_)
  refine lv_iload_n C.ex C.by d_J_told_6 rfl (lv_at hv 3 rfl) ?_
  refine lv_if_lt C.ex C.by d_J_told_7 rfl (fun hc => ?_) (fun hc => ?_)
  · replace hw := hw.1 hc
    exact b_J_told_16 C hl _ hw _ _ _ _ _ (lv_sub hv [] rfl) F
  · replace hw := hw.2 hc
    refine lv_iload_n C.ex C.by d_J_told_10 rfl (lv_at hv 3 rfl) ?_
    refine lv_bipush (v := (11 : Int32)) C.ex C.by d_J_told_11 (by decide) ?_
    refine lv_icmp_le C.ex C.by d_J_told_13 rfl (fun hc => ?_) (fun hc => ?_)
    · replace hw := hw.1 hc
      refine lv_aload_n C.ex C.by d_J_told_24 rfl (lv_at hv 1 rfl) ?_
      refine lv_aload_n C.ex C.by d_J_told_25 rfl (lv_at hv 0 rfl) ?_
      refine fx_callZ C F (c_J_reads hl hw) hm_J_reads hi_J_reads hv.1 (by decide) (Nat.le_of_ble_eq_true rfl) (iv_J_reads C F lm_J_162 hk1 d_J_told_26) (fx_out0 _) fx_eno (fun v1 h2 H locs cells slots hw hx2 hzb F => ?_)
      replace hw := hw hx2 hzb
      have hk1 := (hx2).k hk1
      refine lv_istore (lv' := [(4, .int v1), (3, .ref q1), (0, .ref r0), (1, .int x1), (2, .int x2)]) C.ex C.by d_J_told_29 hv (by decide) rfl (fun ls hv => ?_)
      refine lv_iload_n C.ex C.by d_J_told_31 rfl (lv_at hv 4 rfl) ?_
      refine lv_if_ne C.ex C.by d_J_told_32 rfl (fun hc => ?_) (fun hc => ?_)
      · replace hw := hw.1 hc
        refine lv_iload C.ex C.by d_J_told_46 (lv_at hv 0 rfl) ?_
        refine lv_if_ne C.ex C.by d_J_told_48 rfl (fun hc => ?_) (fun hc => ?_)
        · replace hw := hw.1 hc
          refine lv_aload_n C.ex C.by d_J_told_59 rfl (lv_at hv 2 rfl) ?_
          obtain ⟨b1, hb1, hw⟩ := hw
          refine fx_getR C F lf_J_59 hk1 rfl hb1 d_J_told_60 ?_
          refine lv_astore (lv' := [(5, .ref b1), (4, .int v1), (3, .ref q1), (0, .ref r0), (1, .int x1), (2, .int x2)]) C.ex C.by d_J_told_63 hv (by decide) rfl (fun ls hv => ?_)
          refine lv_iload_n C.ex C.by d_J_told_65 rfl (lv_at hv 5 rfl) ?_
          by_cases hs0 : x2 = (1 : Int32)
          · replace hw := hw.1 hs0
            refine lv_tableIn (off := 54) (tgt := 120) C.ex C.by d_J_told_66 (by rw [hs0]; decide) (by rw [hs0]; decide) (by rw [hs0]; rfl) rfl ?_
            exact b_J_told_120 C hl _ _ hw _ _ _ _ _ (lv_sub hv [0] rfl) F
          by_cases hs1 : x2 = (2 : Int32)
          · replace hw := hw.2.1 hs1
            refine lv_tableIn (off := 60) (tgt := 126) C.ex C.by d_J_told_66 (by rw [hs1]; decide) (by rw [hs1]; decide) (by rw [hs1]; rfl) rfl ?_
            exact b_J_told_126 C hl _ _ hw _ _ _ _ _ (lv_sub hv [0] rfl) F
          by_cases hs2 : x2 = (3 : Int32)
          · replace hw := hw.2.2.1 hs2
            refine lv_tableIn (off := 66) (tgt := 132) C.ex C.by d_J_told_66 (by rw [hs2]; decide) (by rw [hs2]; decide) (by rw [hs2]; rfl) rfl ?_
            exact b_J_told_132 C hl _ _ hw _ _ _ _ _ (lv_sub hv [0] rfl) F
          by_cases hs3 : x2 = (4 : Int32)
          · replace hw := hw.2.2.2.1 hs3
            refine lv_tableIn (off := 80) (tgt := 146) C.ex C.by d_J_told_66 (by rw [hs3]; decide) (by rw [hs3]; decide) (by rw [hs3]; rfl) rfl ?_
            exact b_J_told_146 C hl _ _ hw _ _ _ _ _ (lv_sub hv [0] rfl) F
          by_cases hs4 : x2 = (5 : Int32)
          · replace hw := hw.2.2.2.2.1 hs4
            refine lv_tableIn (off := 87) (tgt := 153) C.ex C.by d_J_told_66 (by rw [hs4]; decide) (by rw [hs4]; decide) (by rw [hs4]; rfl) rfl ?_
            exact b_J_told_153 C hl _ _ hw _ _ _ _ _ (lv_sub hv [0] rfl) F
          by_cases hs5 : x2 = (6 : Int32)
          · replace hw := hw.2.2.2.2.2.1 hs5
            refine lv_tableIn (off := 94) (tgt := 160) C.ex C.by d_J_told_66 (by rw [hs5]; decide) (by rw [hs5]; decide) (by rw [hs5]; rfl) rfl ?_
            exact b_J_told_160 C hl _ _ hw _ _ _ _ _ (lv_sub hv [0] rfl) F
          by_cases hs6 : x2 = (7 : Int32)
          · replace hw := hw.2.2.2.2.2.2.1 hs6
            refine lv_tableIn (off := 101) (tgt := 167) C.ex C.by d_J_told_66 (by rw [hs6]; decide) (by rw [hs6]; decide) (by rw [hs6]; rfl) rfl ?_
            exact b_J_told_167 C hl _ _ hw _ _ _ _ _ (lv_sub hv [0] rfl) F
          by_cases hs7 : x2 = (8 : Int32)
          · replace hw := hw.2.2.2.2.2.2.2.1 hs7
            refine lv_tableIn (off := 108) (tgt := 174) C.ex C.by d_J_told_66 (by rw [hs7]; decide) (by rw [hs7]; decide) (by rw [hs7]; rfl) rfl ?_
            exact b_J_told_174 C hl _ _ hw _ _ _ _ _ (lv_sub hv [0] rfl) F
          by_cases hs8 : x2 = (9 : Int32)
          · replace hw := hw.2.2.2.2.2.2.2.2.1 hs8
            refine lv_tableIn (off := 122) (tgt := 188) C.ex C.by d_J_told_66 (by rw [hs8]; decide) (by rw [hs8]; decide) (by rw [hs8]; rfl) rfl ?_
            exact b_J_told_188 C hl _ _ hw _ _ _ _ _ (lv_sub hv [0] rfl) F
          by_cases hs9 : x2 = (10 : Int32)
          · replace hw := hw.2.2.2.2.2.2.2.2.2.1 hs9
            refine lv_tableIn (off := 129) (tgt := 195) C.ex C.by d_J_told_66 (by rw [hs9]; decide) (by rw [hs9]; decide) (by rw [hs9]; rfl) rfl ?_
            exact b_J_told_195 C hl _ _ hw _ _ _ _ _ (lv_sub hv [0] rfl) F
          have hno : ∀ k ∈ ([(1 : Int32), (2 : Int32), (3 : Int32), (4 : Int32), (5 : Int32), (6 : Int32), (7 : Int32), (8 : Int32), (9 : Int32), (10 : Int32)] : List Int32), ¬ x2 = k := by
            intro k hk
            simp only [List.mem_cons, List.not_mem_nil, or_false] at hk
            rcases hk with rfl | rfl | rfl | rfl | rfl | rfl | rfl | rfl | rfl | rfl
            · exact hs0
            · exact hs1
            · exact hs2
            · exact hs3
            · exact hs4
            · exact hs5
            · exact hs6
            · exact hs7
            · exact hs8
            · exact hs9
          replace hw := hw.2.2.2.2.2.2.2.2.2.2 hno
          refine lv_tableOut (tgt := 202) C.ex C.by d_J_told_66 (fx_sw [(1 : Int32), (2 : Int32), (3 : Int32), (4 : Int32), (5 : Int32), (6 : Int32), (7 : Int32), (8 : Int32), (9 : Int32), (10 : Int32)] (by intro z h1 h2; rcases (show z = 1 ∨ z = 2 ∨ z = 3 ∨ z = 4 ∨ z = 5 ∨ z = 6 ∨ z = 7 ∨ z = 8 ∨ z = 9 ∨ z = 10 by omega) with rfl | rfl | rfl | rfl | rfl | rfl | rfl | rfl | rfl | rfl; exact ⟨(1 : Int32), by decide, by decide⟩; exact ⟨(2 : Int32), by decide, by decide⟩; exact ⟨(3 : Int32), by decide, by decide⟩; exact ⟨(4 : Int32), by decide, by decide⟩; exact ⟨(5 : Int32), by decide, by decide⟩; exact ⟨(6 : Int32), by decide, by decide⟩; exact ⟨(7 : Int32), by decide, by decide⟩; exact ⟨(8 : Int32), by decide, by decide⟩; exact ⟨(9 : Int32), by decide, by decide⟩; exact ⟨(10 : Int32), by decide, by decide⟩) hno) rfl ?_
          exact b_J_told_202 C hl _ _ hw _ _ _ _ _ (lv_sub hv [0] rfl) F
        · replace hw := hw.2 hc
          obtain ⟨hs, hw⟩ := hw
          let q2 : Nat := hp_z h2
          let h3 : AH := up_N h2 17 0 6
          replace hw := hw F.wf q2 rfl h3 rfl
          have hk1 := (F.xN (k := 17) (n := 0) (m := 6)).k hk1
          have hkq2 : hp_k h3 q2 = 17 := fx_nk _ _ _ _
          refine fx_exc (r := ("java/lang/UnsupportedOperationException", fx_T16, 0)) (names := fx_rn) C F rfl rfl (fx_m4 (List.mem_of_getElem? (i := 30) rfl)) (fx_m1 (List.mem_of_getElem? (i := 27) rfl)) (by decide +kernel) (by decide +kernel) ex_J_168 hs hv.1 hl d_J_told_51 d_J_told_54 d_J_told_55 (by decide) (Nat.le_of_ble_eq_true rfl) (fun H locs cells slots (F : fx_F D h0 h3 H locs cells slots) => ?_)
          exact fx_athrow C F (fx_out0 _) d_J_told_58 (Or.inr ⟨_, rfl, hw⟩)
      · replace hw := hw.2 hc
        refine lv_iload C.ex C.by d_J_told_35 (lv_at hv 0 rfl) ?_
        refine lv_if_eq C.ex C.by d_J_told_37 rfl (fun hc => ?_) (fun hc => ?_)
        · replace hw := hw.1 hc
          refine lv_lconst (v := (0 : Int64)) C.ex C.by d_J_told_44 (by decide) ?_
          exact b_J_told_45 C hl _ _ hw _ _ _ _ _ (lv_sub hv [] rfl) F
        · replace hw := hw.2 hc
          refine lv_lconst (v := (1 : Int64)) C.ex C.by d_J_told_40 (by decide) ?_
          refine lv_goto C.ex C.by d_J_told_41 rfl ?_
          exact b_J_told_45 C hl _ _ hw _ _ _ _ _ (lv_sub hv [] rfl) F
    · replace hw := hw.2 hc
      exact b_J_told_16 C hl _ hw _ _ _ _ _ (lv_sub hv [] rfl) F
theorem hm_J_told : fx_hd y_J_told prog_1_method_19_code 6 (Option.some FieldType.long) [] ∈ tables_1 := (fx_m5 (List.mem_of_getElem? (i := 104) rfl))
theorem hi_J_told : Cond.initialized y_J_told.cls ∈ tables_1 := (fx_m1 (List.mem_of_getElem? (i := 1) rfl))
theorem c_J_told {l : Launch} (hl : l.flags = flags0) {D : DD} {Q : Int64 → AH → Prop} {E : Nat → AH → Prop} {r0 : Nat} {x1 : Int32} {x2 : Int32} {h : AH} (hw : m_J_told Q E r0 x1 x2 h) : fx_Mt l D y_J_told (fx_hd y_J_told prog_1_method_19_code 6 (Option.some FieldType.long) []) 16 248 [.ref r0, .int x1, .int x2] h (fx_oL Q E) := by
  refine fx_ofW (plainFor_of_name (by decide)) (fun p e s m below meth c C F => ?_)
  have hv := lv_entry ([.ref r0, .int x1, .int x2]) (n := 6) (Nat.le_of_ble_eq_true rfl)
  rw [lg_entry_eq]
  generalize (lg_sl ([.ref r0, .int x1, .int x2]) ++ List.replicate (6 - (lg_sl ([.ref r0, .int x1, .int x2])).length) Slot.unset).toArray = ls at hv ⊢
  have hv : lv_has ls 6 [(0, .ref r0), (1, .int x1), (2, .int x2)] := hv
  exact b_J_told_0 C hl _ _ _ _ hw _ _ _ _ _ hv F
/-! ChainJudgeLaw.told(LChainJudge;II[J)I: frames 17, words 267 -/
abbrev y_Law_told : MethodName := ⟨"ChainJudgeLaw", "told", "(LChainJudge;II[J)I"⟩
theorem lm_Law_45 : Cond.methodLink "ChainJudgeLaw" 45 y_J_told ∈ tables_1 ∨ ∃ host, Cond.methodLinkNest "ChainJudgeLaw" 45 y_J_told host ∈ tables_1 := Or.inl (fx_m5 (List.mem_of_getElem? (i := 101) rfl))
section
variable {p : Program} {l : Launch} {e : Env} {R : Room} {s : State} {m : MethodId} {args : Array Value} {below : List Frame} {meth : Method} {c : Code} {H : Heap} {locs : List Loc} {cells slots : Nat}
variable {D : DD} {y : MethodName} {cc : ByteArray} {nL kf kw : Nat} {ret : Option FieldType} {hh : List (Nat × Nat × Nat × Nat)} {h0 h : AH} {pc : Nat} {ls : Array Slot} {rest : List Value} {b idx : Nat}
theorem iv_J_told {x1 : Int32} {x2 : Int32} (C : fx_CX D y cc nL kf kw ret hh h0 p R s m meth c) (F : fx_F D h0 h H locs cells slots) (hw1 : Cond.methodLink y.cls idx y_J_told ∈ tables_1 ∨ ∃ host, Cond.methodLinkNest y.cls idx y_J_told host ∈ tables_1) (hk : hp_k h b = 1) (hd : decode cc pc = .ok (.invokevirtual idx, 3)) : fx_IV p l e R s m args below meth c H locs cells slots (F0 m pc ls (.int x2 :: .int x1 :: .ref b :: rest)) rest y_J_told [.ref b, .int x1, .int x2] 3 := fun T hT X => fx_invV (As := [.int x1, .int x2]) (Cn := "ChainJudge") C X hw1 (fx_m5 (List.mem_of_getElem? (i := 102) rfl)) (fx_selW C (fx_m5 (List.mem_of_getElem? (i := 103) rfl))) hm_J_told ⟨by decide, by decide⟩ (by rw [hT]; exact fx_clsO (ci := 0) (r := ("ChainJudge", fx_T0, 16)) C F rfl (by decide) hk) rfl (n := 2) (by decide +kernel) rfl rfl hd
end
def dl_Law_told : List (Nat × Instr × Nat) := [(0, .aload_n 3, 1), (1, .iconst 0, 1), (2, .aload_n 0, 1), (3, .iload_n 1, 1), (4, .iload_n 2, 1), (5, .invokevirtual 45, 3), (8, .lastore, 1), (9, .goto 15, 3), (12, .astore 4, 2), (14, .iconst 1, 1), (15, .ireturn, 1), (16, .astore 4, 2), (18, .iconst 2, 1), (19, .ireturn, 1), (20, .astore 4, 2), (22, .iconst 3, 1), (23, .ireturn, 1), (24, .iconst 0, 1), (25, .ireturn, 1)]
theorem dk_Law_told : fx_dec method_10_code dl_Law_told = true := by decide +kernel
theorem d_Law_told_0 : decode method_10_code 0 = .ok (.aload_n 3, 1) := fx_dat dk_Law_told 0 rfl
theorem d_Law_told_1 : decode method_10_code 1 = .ok (.iconst 0, 1) := fx_dat dk_Law_told 1 rfl
theorem d_Law_told_2 : decode method_10_code 2 = .ok (.aload_n 0, 1) := fx_dat dk_Law_told 2 rfl
theorem d_Law_told_3 : decode method_10_code 3 = .ok (.iload_n 1, 1) := fx_dat dk_Law_told 3 rfl
theorem d_Law_told_4 : decode method_10_code 4 = .ok (.iload_n 2, 1) := fx_dat dk_Law_told 4 rfl
theorem d_Law_told_5 : decode method_10_code 5 = .ok (.invokevirtual 45, 3) := fx_dat dk_Law_told 5 rfl
theorem d_Law_told_8 : decode method_10_code 8 = .ok (.lastore, 1) := fx_dat dk_Law_told 6 rfl
theorem d_Law_told_9 : decode method_10_code 9 = .ok (.goto 15, 3) := fx_dat dk_Law_told 7 rfl
theorem d_Law_told_12 : decode method_10_code 12 = .ok (.astore 4, 2) := fx_dat dk_Law_told 8 rfl
theorem d_Law_told_14 : decode method_10_code 14 = .ok (.iconst 1, 1) := fx_dat dk_Law_told 9 rfl
theorem d_Law_told_15 : decode method_10_code 15 = .ok (.ireturn, 1) := fx_dat dk_Law_told 10 rfl
theorem d_Law_told_16 : decode method_10_code 16 = .ok (.astore 4, 2) := fx_dat dk_Law_told 11 rfl
theorem d_Law_told_18 : decode method_10_code 18 = .ok (.iconst 2, 1) := fx_dat dk_Law_told 12 rfl
theorem d_Law_told_19 : decode method_10_code 19 = .ok (.ireturn, 1) := fx_dat dk_Law_told 13 rfl
theorem d_Law_told_20 : decode method_10_code 20 = .ok (.astore 4, 2) := fx_dat dk_Law_told 14 rfl
theorem d_Law_told_22 : decode method_10_code 22 = .ok (.iconst 3, 1) := fx_dat dk_Law_told 15 rfl
theorem d_Law_told_23 : decode method_10_code 23 = .ok (.ireturn, 1) := fx_dat dk_Law_told 16 rfl
theorem d_Law_told_24 : decode method_10_code 24 = .ok (.iconst 0, 1) := fx_dat dk_Law_told 17 rfl
theorem d_Law_told_25 : decode method_10_code 25 = .ok (.ireturn, 1) := fx_dat dk_Law_told 18 rfl
def m_Law_told (Q : Int32 → AH → Prop) (r0 : Nat) (x1 : Int32) (x2 : Int32) (r3 : Nat) (h : AH) : Prop := hp_k h r0 = 1 ∧ m_J_told (fun u1 h1 => fx_ext h h1 → hp_k h1 r3 = 103 ∧ vp_in (0 : Int32) (hp_n h1 r3) ∧ ∀ h2 : AH, h2 = up_L h1 r3 ((0 : Int32)).toNatClampNeg u1 → Q (0 : Int32) h2) (fun q1 h3 => fx_ext h h3 → (hp_k h3 q1 = 16 ∧ Q (1 : Int32) h3) ∨ (hp_k h3 q1 = 14 ∧ Q (2 : Int32) h3) ∨ (hp_k h3 q1 = 17 ∧ Q (3 : Int32) h3)) r0 x1 x2 h
theorem b_Law_told_0 {p : Program} {l : Launch} {e : Env} {R : Room} {s : State} {m : MethodId} {args : Array Value} {below : List Frame} {meth : Method} {c : Code} {D : DD} {h0 : AH} {Q : Int32 → AH → Prop} (C : fx_CX D y_Law_told method_10_code 5 17 267 (Option.some FieldType.int) [(0, 9, 12, 28), (0, 9, 16, 19), (0, 9, 20, 30)] h0 p R s m meth c) (hl : l.flags = flags0) (r0 : Nat) (x1 : Int32) (x2 : Int32) (r3 : Nat) (h : AH) (hw : m_Law_told Q r0 x1 x2 r3 h) : ∀ (ls : Array Slot) (H : Heap) (locs : List Loc) (cells slots : Nat), lv_has ls 5 [(0, .ref r0), (1, .int x1), (2, .int x2), (3, .ref r3)] → fx_F D h0 h H locs cells slots → W p l e R s m args below meth c H locs cells slots (fx_Z D below s h0 (fx_oI Q fx_no)) (F0 m 0 ls []) := by
  unfold m_Law_told at hw
  intro ls H locs cells slots hv F
  refine lv_aload_n C.ex C.by d_Law_told_0 rfl (lv_at hv 3 rfl) ?_
  refine lv_iconst (v := (0 : Int32)) C.ex C.by d_Law_told_1 (by decide) ?_
  refine lv_aload_n C.ex C.by d_Law_told_2 rfl (lv_at hv 0 rfl) ?_
  refine lv_iload_n C.ex C.by d_Law_told_3 rfl (lv_at hv 1 rfl) ?_
  refine lv_iload_n C.ex C.by d_Law_told_4 rfl (lv_at hv 2 rfl) ?_
  obtain ⟨hk1, hw⟩ := hw
  refine fx_callLc C F (c_J_told hl hw) hm_J_told hi_J_told hv.1 (by decide) (Nat.le_of_ble_eq_true rfl) (iv_J_told C F lm_Law_45 hk1 d_Law_told_5) (fun u1 h1 H locs cells slots hw hx1 F => ?_) (fun q1 h3 T locs cells slots hw hx1 F X => ?_)
  · replace hw := hw hx1
    have hk1 := (hx1).k hk1
    obtain ⟨hk2, hw⟩ := hw
    obtain ⟨hi1, hw⟩ := hw
    let h2 : AH := up_L h1 r3 ((0 : Int32)).toNatClampNeg u1
    replace hw := hw h2 rfl
    refine fx_last C F hk2 hi1 d_Law_told_8 (fun H locs (F : fx_F D h0 h2 H locs _ _) => ?_)
    refine lv_goto C.ex C.by d_Law_told_9 rfl ?_
    refine lv_iconst (v := (0 : Int32)) C.ex C.by d_Law_told_24 (by decide) ?_
    exact fx_iret C F d_Law_told_25 (Or.inl ⟨_, rfl, hw⟩)
  · replace hw := hw hx1
    rcases hw with ⟨hk9, hw⟩ | ⟨hk9, hw⟩ | ⟨hk9, hw⟩
    · have hp0 : ∀ q ∈ ([] : List ((Nat × Nat × Nat × Nat) × String)), fx_passes "ChainJudgeLaw" "java/util/NoSuchElementException" 5 q := by
        intro q hq
        cases hq
      refine fx_caught (ci := 15) (r := ("java/util/NoSuchElementException", fx_T15, 0)) C F X rfl (by decide) hk9 [] (0, 9, 12, 28) [(0, 9, 16, 19), (0, 9, 20, 30)] "java/util/NoSuchElementException" rfl hp0 rfl (by decide) (fx_m3 (List.mem_of_getElem? (i := 65) rfl)) (fx_m3 (List.mem_of_getElem? (i := 73) rfl)) (fun H locs cells slots F => ?_)
      have hk1 := (hx1).k hk1
      refine lv_astore (lv' := [(4, .ref q1), (0, .ref r0), (1, .int x1), (2, .int x2), (3, .ref r3)]) C.ex C.by d_Law_told_12 hv (by decide) rfl (fun ls hv => ?_)
      refine lv_iconst (v := (1 : Int32)) C.ex C.by d_Law_told_14 (by decide) ?_
      exact fx_iret C F d_Law_told_15 (Or.inl ⟨_, rfl, hw⟩)
    · have hp1 : ∀ q ∈ ([((0, 9, 12, 28), "java/util/NoSuchElementException")] : List ((Nat × Nat × Nat × Nat) × String)), fx_passes "ChainJudgeLaw" "java/lang/IllegalArgumentException" 5 q := by
        intro q hq
        rcases List.mem_cons.mp hq with rfl | hq
        · exact ⟨rfl, by decide, (fx_m3 (List.mem_of_getElem? (i := 65) rfl)), List.mem_of_getElem? (i := 0) rfl⟩
        cases hq
      refine fx_caught (ci := 13) (r := ("java/lang/IllegalArgumentException", fx_T13, 0)) C F X rfl (by decide) hk9 [((0, 9, 12, 28), "java/util/NoSuchElementException")] (0, 9, 16, 19) [(0, 9, 20, 30)] "java/lang/IllegalArgumentException" rfl hp1 rfl (by decide) (fx_m3 (List.mem_of_getElem? (i := 31) rfl)) (fx_m3 (List.mem_of_getElem? (i := 38) rfl)) (fun H locs cells slots F => ?_)
      have hk1 := (hx1).k hk1
      refine lv_astore (lv' := [(4, .ref q1), (0, .ref r0), (1, .int x1), (2, .int x2), (3, .ref r3)]) C.ex C.by d_Law_told_16 hv (by decide) rfl (fun ls hv => ?_)
      refine lv_iconst (v := (2 : Int32)) C.ex C.by d_Law_told_18 (by decide) ?_
      exact fx_iret C F d_Law_told_19 (Or.inl ⟨_, rfl, hw⟩)
    · have hp2 : ∀ q ∈ ([((0, 9, 12, 28), "java/util/NoSuchElementException"), ((0, 9, 16, 19), "java/lang/IllegalArgumentException")] : List ((Nat × Nat × Nat × Nat) × String)), fx_passes "ChainJudgeLaw" "java/lang/UnsupportedOperationException" 5 q := by
        intro q hq
        rcases List.mem_cons.mp hq with rfl | hq
        · exact ⟨rfl, by decide, (fx_m3 (List.mem_of_getElem? (i := 65) rfl)), List.mem_of_getElem? (i := 1) rfl⟩
        rcases List.mem_cons.mp hq with rfl | hq
        · exact ⟨rfl, by decide, (fx_m3 (List.mem_of_getElem? (i := 31) rfl)), List.mem_of_getElem? (i := 2) rfl⟩
        cases hq
      refine fx_caught (ci := 16) (r := ("java/lang/UnsupportedOperationException", fx_T16, 0)) C F X rfl (by decide) hk9 [((0, 9, 12, 28), "java/util/NoSuchElementException"), ((0, 9, 16, 19), "java/lang/IllegalArgumentException")] (0, 9, 20, 30) [] "java/lang/UnsupportedOperationException" rfl hp2 rfl (by decide) (fx_m3 (List.mem_of_getElem? (i := 66) rfl)) (fx_m4 (List.mem_of_getElem? (i := 32) rfl)) (fun H locs cells slots F => ?_)
      have hk1 := (hx1).k hk1
      refine lv_astore (lv' := [(4, .ref q1), (0, .ref r0), (1, .int x1), (2, .int x2), (3, .ref r3)]) C.ex C.by d_Law_told_20 hv (by decide) rfl (fun ls hv => ?_)
      refine lv_iconst (v := (3 : Int32)) C.ex C.by d_Law_told_22 (by decide) ?_
      exact fx_iret C F d_Law_told_23 (Or.inl ⟨_, rfl, hw⟩)
theorem hm_Law_told : fx_hd y_Law_told method_10_code 5 (Option.some FieldType.int) [(0, 9, 12, 28), (0, 9, 16, 19), (0, 9, 20, 30)] ∈ tables_1 := (fx_m5 (List.mem_of_getElem? (i := 100) rfl))
theorem hi_Law_told : Cond.initialized y_Law_told.cls ∈ tables_1 := (fx_m1 (List.mem_of_getElem? (i := 0) rfl))
theorem c_Law_told {l : Launch} (hl : l.flags = flags0) {D : DD} {Q : Int32 → AH → Prop} {r0 : Nat} {x1 : Int32} {x2 : Int32} {r3 : Nat} {h : AH} (hw : m_Law_told Q r0 x1 x2 r3 h) : fx_Mt l D y_Law_told (fx_hd y_Law_told method_10_code 5 (Option.some FieldType.int) [(0, 9, 12, 28), (0, 9, 16, 19), (0, 9, 20, 30)]) 17 267 [.ref r0, .int x1, .int x2, .ref r3] h (fx_oI Q fx_no) := by
  refine fx_ofW (plainFor_of_name (by decide)) (fun p e s m below meth c C F => ?_)
  have hv := lv_entry ([.ref r0, .int x1, .int x2, .ref r3]) (n := 5) (Nat.le_of_ble_eq_true rfl)
  rw [lg_entry_eq]
  generalize (lg_sl ([.ref r0, .int x1, .int x2, .ref r3]) ++ List.replicate (5 - (lg_sl ([.ref r0, .int x1, .int x2, .ref r3])).length) Slot.unset).toArray = ls at hv ⊢
  have hv : lv_has ls 5 [(0, .ref r0), (1, .int x1), (2, .int x2), (3, .ref r3)] := hv
  exact b_Law_told_0 C hl _ _ _ _ _ hw _ _ _ _ _ hv F
