set_option maxRecDepth 10000
/-! ChainJudge.add(I)I: frames 7, words 94, throws -/
abbrev y_J_add : MethodName := ⟨"ChainJudge", "add", "(I)I"⟩
def dl_J_add : List (Nat × Instr × Nat) := [(0, .aload_n 0, 1), (1, .iload_n 1, 1), (2, .invokevirtual 231, 3), (5, .pop, 1), (6, .aload_n 0, 1), (7, .getfield 81, 3), (10, .bipush 16, 2), (12, .if_icmp .ne 11, 3), (15, .new 100, 3), (18, .dup, 1), (19, .invokespecial 102, 3), (22, .athrow, 1), (23, .aload_n 0, 1), (24, .getfield 77, 3), (27, .aload_n 0, 1), (28, .dup, 1), (29, .getfield 81, 3), (32, .dup_x1, 1), (33, .iconst 1, 1), (34, .iadd, 1), (35, .putfield 81, 3), (38, .iload_n 1, 1), (39, .iastore, 1), (40, .aload_n 0, 1), (41, .getfield 81, 3), (44, .ireturn, 1)]
theorem dk_J_add : fx_dec prog_1_method_20_code dl_J_add = true := by decide +kernel
theorem d_J_add_0 : decode prog_1_method_20_code 0 = .ok (.aload_n 0, 1) := fx_dat dk_J_add 0 rfl
theorem d_J_add_1 : decode prog_1_method_20_code 1 = .ok (.iload_n 1, 1) := fx_dat dk_J_add 1 rfl
theorem d_J_add_2 : decode prog_1_method_20_code 2 = .ok (.invokevirtual 231, 3) := fx_dat dk_J_add 2 rfl
theorem d_J_add_5 : decode prog_1_method_20_code 5 = .ok (.pop, 1) := fx_dat dk_J_add 3 rfl
theorem d_J_add_6 : decode prog_1_method_20_code 6 = .ok (.aload_n 0, 1) := fx_dat dk_J_add 4 rfl
theorem d_J_add_7 : decode prog_1_method_20_code 7 = .ok (.getfield 81, 3) := fx_dat dk_J_add 5 rfl
theorem d_J_add_10 : decode prog_1_method_20_code 10 = .ok (.bipush 16, 2) := fx_dat dk_J_add 6 rfl
theorem d_J_add_12 : decode prog_1_method_20_code 12 = .ok (.if_icmp .ne 11, 3) := fx_dat dk_J_add 7 rfl
theorem d_J_add_15 : decode prog_1_method_20_code 15 = .ok (.new 100, 3) := fx_dat dk_J_add 8 rfl
theorem d_J_add_18 : decode prog_1_method_20_code 18 = .ok (.dup, 1) := fx_dat dk_J_add 9 rfl
theorem d_J_add_19 : decode prog_1_method_20_code 19 = .ok (.invokespecial 102, 3) := fx_dat dk_J_add 10 rfl
theorem d_J_add_22 : decode prog_1_method_20_code 22 = .ok (.athrow, 1) := fx_dat dk_J_add 11 rfl
theorem d_J_add_23 : decode prog_1_method_20_code 23 = .ok (.aload_n 0, 1) := fx_dat dk_J_add 12 rfl
theorem d_J_add_24 : decode prog_1_method_20_code 24 = .ok (.getfield 77, 3) := fx_dat dk_J_add 13 rfl
theorem d_J_add_27 : decode prog_1_method_20_code 27 = .ok (.aload_n 0, 1) := fx_dat dk_J_add 14 rfl
theorem d_J_add_28 : decode prog_1_method_20_code 28 = .ok (.dup, 1) := fx_dat dk_J_add 15 rfl
theorem d_J_add_29 : decode prog_1_method_20_code 29 = .ok (.getfield 81, 3) := fx_dat dk_J_add 16 rfl
theorem d_J_add_32 : decode prog_1_method_20_code 32 = .ok (.dup_x1, 1) := fx_dat dk_J_add 17 rfl
theorem d_J_add_33 : decode prog_1_method_20_code 33 = .ok (.iconst 1, 1) := fx_dat dk_J_add 18 rfl
theorem d_J_add_34 : decode prog_1_method_20_code 34 = .ok (.iadd, 1) := fx_dat dk_J_add 19 rfl
theorem d_J_add_35 : decode prog_1_method_20_code 35 = .ok (.putfield 81, 3) := fx_dat dk_J_add 20 rfl
theorem d_J_add_38 : decode prog_1_method_20_code 38 = .ok (.iload_n 1, 1) := fx_dat dk_J_add 21 rfl
theorem d_J_add_39 : decode prog_1_method_20_code 39 = .ok (.iastore, 1) := fx_dat dk_J_add 22 rfl
theorem d_J_add_40 : decode prog_1_method_20_code 40 = .ok (.aload_n 0, 1) := fx_dat dk_J_add 23 rfl
theorem d_J_add_41 : decode prog_1_method_20_code 41 = .ok (.getfield 81, 3) := fx_dat dk_J_add 24 rfl
theorem d_J_add_44 : decode prog_1_method_20_code 44 = .ok (.ireturn, 1) := fx_dat dk_J_add 25 rfl
def m_J_add (Q : Int32 → AH → Prop) (E : Nat → AH → Prop) (r0 : Nat) (x1 : Int32) (h : AH) : Prop := hp_k h r0 = 1 ∧ m_J_of (fun q1 h1 => fx_ext h h1 → (¬ (hp_I h1 r0 11) = (16 : Int32) → ∃ b1, hp_R h1 r0 10 = some b1 ∧ ∀ h2 : AH, h2 = up_I h1 r0 11 ((hp_I h1 r0 11) + (1 : Int32)) → hp_k h2 b1 = 102 ∧ vp_in (hp_I h1 r0 11) (hp_n h2 b1) ∧ ∀ h3 : AH, h3 = up_I h2 b1 ((hp_I h1 r0 11)).toNatClampNeg x1 → Q (hp_I h3 r0 11) h3) ∧ ((hp_I h1 r0 11) = (16 : Int32) → fx_has h1 6 ∧ ∀ (_ : fx_wf h1) (q2 : Nat), q2 = hp_z h1 → ∀ h4 : AH, h4 = up_N h1 15 0 6 → E q2 h4)) (fun a ht => fx_ext h ht → E a ht) r0 x1 h
theorem b_J_add_0 {p : Program} {l : Launch} {e : Env} {R : Room} {s : State} {m : MethodId} {args : Array Value} {below : List Frame} {meth : Method} {c : Code} {D : DD} {h0 : AH} {Q : Int32 → AH → Prop} {E : Nat → AH → Prop} (C : fx_CX D y_J_add prog_1_method_20_code 2 7 94 (Option.some FieldType.int) [] h0 p R s m meth c) (hl : l.flags = flags0) (r0 : Nat) (x1 : Int32) (h : AH) (hw : m_J_add Q E r0 x1 h) : ∀ (ls : Array Slot) (H : Heap) (locs : List Loc) (cells slots : Nat), lv_has ls 2 [(0, .ref r0), (1, .int x1)] → fx_F D h0 h H locs cells slots → W p l e R s m args below meth c H locs cells slots (fx_Z D below s h0 (fx_oI Q E)) (F0 m 0 ls []) := by
  unfold m_J_add at hw
  intro ls H locs cells slots hv F
  refine lv_aload_n C.ex C.by d_J_add_0 rfl (lv_at hv 0 rfl) ?_
  refine lv_iload_n C.ex C.by d_J_add_1 rfl (lv_at hv 1 rfl) ?_
  obtain ⟨hk1, hw⟩ := hw
  refine fx_callR C F (c_J_of hl hw) hm_J_of hi_J_of hv.1 (by decide) (Nat.le_of_ble_eq_true rfl) (iv_J_of C F lm_J_231 hk1 d_J_add_2) (fx_out0 _) (fun _ _ hE hx => Or.inr ⟨_, rfl, hE hx⟩) (fun q1 h1 H locs cells slots hw hx1 F => ?_)
  replace hw := hw hx1
  have hk1 := (hx1).k hk1
  refine lv_pop C.ex C.by d_J_add_5 rfl ?_
  refine lv_aload_n C.ex C.by d_J_add_6 rfl (lv_at hv 0 rfl) ?_
  refine fx_getI C F lf_J_81 hk1 rfl d_J_add_7 ?_
  refine lv_bipush (v := (16 : Int32)) C.ex C.by d_J_add_10 (by decide) ?_
  refine lv_icmp_ne C.ex C.by d_J_add_12 rfl (fun hc => ?_) (fun hc => ?_)
  · replace hw := hw.1 hc
    refine lv_aload_n C.ex C.by d_J_add_23 rfl (lv_at hv 0 rfl) ?_
    obtain ⟨b1, hb1, hw⟩ := hw
    refine fx_getR C F lf_J_77 hk1 rfl hb1 d_J_add_24 ?_
    refine lv_aload_n C.ex C.by d_J_add_27 rfl (lv_at hv 0 rfl) ?_
    refine lv_dup C.ex C.by d_J_add_28 rfl ?_
    refine fx_getI C F lf_J_81 hk1 rfl d_J_add_29 ?_
    refine lv_dup_x1 C.ex C.by d_J_add_32 rfl rfl ?_
    refine lv_iconst (v := (1 : Int32)) C.ex C.by d_J_add_33 (by decide) ?_
    refine lv_iadd C.ex C.by d_J_add_34 ?_
    let h2 : AH := up_I h1 r0 11 ((hp_I h1 r0 11) + (1 : Int32))
    replace hw := hw h2 rfl
    refine fx_putI C F lf_J_81 hk1 rfl rfl (fx_mayF.no rfl rfl) d_J_add_35 (fun H locs (F : fx_F D h0 h2 H locs _ _) => ?_)
    refine lv_iload_n C.ex C.by d_J_add_38 rfl (lv_at hv 1 rfl) ?_
    obtain ⟨hk2, hw⟩ := hw
    obtain ⟨hi1, hw⟩ := hw
    let h3 : AH := up_I h2 b1 ((hp_I h1 r0 11)).toNatClampNeg x1
    replace hw := hw h3 rfl
    refine fx_iast C F hk2 hi1 d_J_add_39 (fun H locs (F : fx_F D h0 h3 H locs _ _) => ?_)
    refine lv_aload_n C.ex C.by d_J_add_40 rfl (lv_at hv 0 rfl) ?_
    refine fx_getI C F lf_J_81 hk1 rfl d_J_add_41 ?_
    exact fx_iret C F d_J_add_44 (Or.inl ⟨_, rfl, hw⟩)
  · replace hw := hw.2 hc
    obtain ⟨hs, hw⟩ := hw
    let q2 : Nat := hp_z h1
    let h4 : AH := up_N h1 15 0 6
    replace hw := hw F.wf q2 rfl h4 rfl
    have hk1 := (F.xN (k := 15) (n := 0) (m := 6)).k hk1
    have hkq2 : hp_k h4 q2 = 15 := fx_nk _ _ _ _
    refine fx_exc (r := ("java/lang/IllegalStateException", fx_T14, 0)) (names := fx_rn) C F rfl rfl (fx_m2 (List.mem_of_getElem? (i := 185) rfl)) (fx_m1 (List.mem_of_getElem? (i := 19) rfl)) (by decide +kernel) (by decide +kernel) ex_J_102 hs hv.1 hl d_J_add_15 d_J_add_18 d_J_add_19 (by decide) (Nat.le_of_ble_eq_true rfl) (fun H locs cells slots (F : fx_F D h0 h4 H locs cells slots) => ?_)
    exact fx_athrow C F (fx_out0 _) d_J_add_22 (Or.inr ⟨_, rfl, hw⟩)
theorem hm_J_add : fx_hd y_J_add prog_1_method_20_code 2 (Option.some FieldType.int) [] ∈ tables_1 := (fx_m5 (List.mem_of_getElem? (i := 111) rfl))
theorem hi_J_add : Cond.initialized y_J_add.cls ∈ tables_1 := (fx_m1 (List.mem_of_getElem? (i := 1) rfl))
theorem c_J_add {l : Launch} (hl : l.flags = flags0) {D : DD} {Q : Int32 → AH → Prop} {E : Nat → AH → Prop} {r0 : Nat} {x1 : Int32} {h : AH} (hw : m_J_add Q E r0 x1 h) : fx_Mt l D y_J_add (fx_hd y_J_add prog_1_method_20_code 2 (Option.some FieldType.int) []) 7 94 [.ref r0, .int x1] h (fx_oI Q E) := by
  refine fx_ofW (plainFor_of_name (by decide)) (fun p e s m below meth c C F => ?_)
  have hv := lv_entry ([.ref r0, .int x1]) (n := 2) (Nat.le_of_ble_eq_true rfl)
  rw [lg_entry_eq]
  generalize (lg_sl ([.ref r0, .int x1]) ++ List.replicate (2 - (lg_sl ([.ref r0, .int x1])).length) Slot.unset).toArray = ls at hv ⊢
  have hv : lv_has ls 2 [(0, .ref r0), (1, .int x1)] := hv
  exact b_J_add_0 C hl _ _ _ hw _ _ _ _ _ hv F
/-! ChainJudgeLaw.add(LChainJudge;I[J)I: frames 8, words 109 -/
abbrev y_Law_add : MethodName := ⟨"ChainJudgeLaw", "add", "(LChainJudge;I[J)I"⟩
theorem lm_Law_49 : Cond.methodLink "ChainJudgeLaw" 49 y_J_add ∈ tables_1 ∨ ∃ host, Cond.methodLinkNest "ChainJudgeLaw" 49 y_J_add host ∈ tables_1 := Or.inl (fx_m5 (List.mem_of_getElem? (i := 108) rfl))
section
variable {p : Program} {l : Launch} {e : Env} {R : Room} {s : State} {m : MethodId} {args : Array Value} {below : List Frame} {meth : Method} {c : Code} {H : Heap} {locs : List Loc} {cells slots : Nat}
variable {D : DD} {y : MethodName} {cc : ByteArray} {nL kf kw : Nat} {ret : Option FieldType} {hh : List (Nat × Nat × Nat × Nat)} {h0 h : AH} {pc : Nat} {ls : Array Slot} {rest : List Value} {b idx : Nat}
theorem iv_J_add {x1 : Int32} (C : fx_CX D y cc nL kf kw ret hh h0 p R s m meth c) (F : fx_F D h0 h H locs cells slots) (hw1 : Cond.methodLink y.cls idx y_J_add ∈ tables_1 ∨ ∃ host, Cond.methodLinkNest y.cls idx y_J_add host ∈ tables_1) (hk : hp_k h b = 1) (hd : decode cc pc = .ok (.invokevirtual idx, 3)) : fx_IV p l e R s m args below meth c H locs cells slots (F0 m pc ls (.int x1 :: .ref b :: rest)) rest y_J_add [.ref b, .int x1] 3 := fun T hT X => fx_invV (As := [.int x1]) (Cn := "ChainJudge") C X hw1 (fx_m5 (List.mem_of_getElem? (i := 109) rfl)) (fx_selW C (fx_m5 (List.mem_of_getElem? (i := 110) rfl))) hm_J_add ⟨by decide, by decide⟩ (by rw [hT]; exact fx_clsO (ci := 0) (r := ("ChainJudge", fx_T0, 16)) C F rfl (by decide) hk) rfl (n := 1) (by decide +kernel) rfl rfl hd
end
def dl_Law_add : List (Nat × Instr × Nat) := [(0, .aload_n 2, 1), (1, .iconst 0, 1), (2, .aload_n 0, 1), (3, .iload_n 1, 1), (4, .invokevirtual 49, 3), (7, .i2l, 1), (8, .lastore, 1), (9, .goto 9, 3), (12, .astore_n 3, 1), (13, .iconst 1, 1), (14, .ireturn, 1), (15, .astore_n 3, 1), (16, .iconst 2, 1), (17, .ireturn, 1), (18, .iconst 0, 1), (19, .ireturn, 1)]
theorem dk_Law_add : fx_dec method_11_code dl_Law_add = true := by decide +kernel
theorem d_Law_add_0 : decode method_11_code 0 = .ok (.aload_n 2, 1) := fx_dat dk_Law_add 0 rfl
theorem d_Law_add_1 : decode method_11_code 1 = .ok (.iconst 0, 1) := fx_dat dk_Law_add 1 rfl
theorem d_Law_add_2 : decode method_11_code 2 = .ok (.aload_n 0, 1) := fx_dat dk_Law_add 2 rfl
theorem d_Law_add_3 : decode method_11_code 3 = .ok (.iload_n 1, 1) := fx_dat dk_Law_add 3 rfl
theorem d_Law_add_4 : decode method_11_code 4 = .ok (.invokevirtual 49, 3) := fx_dat dk_Law_add 4 rfl
theorem d_Law_add_7 : decode method_11_code 7 = .ok (.i2l, 1) := fx_dat dk_Law_add 5 rfl
theorem d_Law_add_8 : decode method_11_code 8 = .ok (.lastore, 1) := fx_dat dk_Law_add 6 rfl
theorem d_Law_add_9 : decode method_11_code 9 = .ok (.goto 9, 3) := fx_dat dk_Law_add 7 rfl
theorem d_Law_add_12 : decode method_11_code 12 = .ok (.astore_n 3, 1) := fx_dat dk_Law_add 8 rfl
theorem d_Law_add_13 : decode method_11_code 13 = .ok (.iconst 1, 1) := fx_dat dk_Law_add 9 rfl
theorem d_Law_add_14 : decode method_11_code 14 = .ok (.ireturn, 1) := fx_dat dk_Law_add 10 rfl
theorem d_Law_add_15 : decode method_11_code 15 = .ok (.astore_n 3, 1) := fx_dat dk_Law_add 11 rfl
theorem d_Law_add_16 : decode method_11_code 16 = .ok (.iconst 2, 1) := fx_dat dk_Law_add 12 rfl
theorem d_Law_add_17 : decode method_11_code 17 = .ok (.ireturn, 1) := fx_dat dk_Law_add 13 rfl
theorem d_Law_add_18 : decode method_11_code 18 = .ok (.iconst 0, 1) := fx_dat dk_Law_add 14 rfl
theorem d_Law_add_19 : decode method_11_code 19 = .ok (.ireturn, 1) := fx_dat dk_Law_add 15 rfl
def m_Law_add (Q : Int32 → AH → Prop) (r0 : Nat) (x1 : Int32) (r2 : Nat) (h : AH) : Prop := hp_k h r0 = 1 ∧ m_J_add (fun v1 h1 => fx_ext h h1 → hp_k h1 r2 = 103 ∧ vp_in (0 : Int32) (hp_n h1 r2) ∧ ∀ h2 : AH, h2 = up_L h1 r2 ((0 : Int32)).toNatClampNeg ((v1).toInt64) → Q (0 : Int32) h2) (fun q1 h3 => fx_ext h h3 → (hp_k h3 q1 = 16 ∧ Q (1 : Int32) h3) ∨ (hp_k h3 q1 = 15 ∧ Q (2 : Int32) h3)) r0 x1 h
theorem b_Law_add_0 {p : Program} {l : Launch} {e : Env} {R : Room} {s : State} {m : MethodId} {args : Array Value} {below : List Frame} {meth : Method} {c : Code} {D : DD} {h0 : AH} {Q : Int32 → AH → Prop} (C : fx_CX D y_Law_add method_11_code 4 8 109 (Option.some FieldType.int) [(0, 9, 12, 28), (0, 9, 15, 13)] h0 p R s m meth c) (hl : l.flags = flags0) (r0 : Nat) (x1 : Int32) (r2 : Nat) (h : AH) (hw : m_Law_add Q r0 x1 r2 h) : ∀ (ls : Array Slot) (H : Heap) (locs : List Loc) (cells slots : Nat), lv_has ls 4 [(0, .ref r0), (1, .int x1), (2, .ref r2)] → fx_F D h0 h H locs cells slots → W p l e R s m args below meth c H locs cells slots (fx_Z D below s h0 (fx_oI Q fx_no)) (F0 m 0 ls []) := by
  unfold m_Law_add at hw
  intro ls H locs cells slots hv F
  refine lv_aload_n C.ex C.by d_Law_add_0 rfl (lv_at hv 2 rfl) ?_
  refine lv_iconst (v := (0 : Int32)) C.ex C.by d_Law_add_1 (by decide) ?_
  refine lv_aload_n C.ex C.by d_Law_add_2 rfl (lv_at hv 0 rfl) ?_
  refine lv_iload_n C.ex C.by d_Law_add_3 rfl (lv_at hv 1 rfl) ?_
  obtain ⟨hk1, hw⟩ := hw
  refine fx_callIc C F (c_J_add hl hw) hm_J_add hi_J_add hv.1 (by decide) (Nat.le_of_ble_eq_true rfl) (iv_J_add C F lm_Law_49 hk1 d_Law_add_4) (fun v1 h1 H locs cells slots hw hx1 F => ?_) (fun q1 h3 T locs cells slots hw hx1 F X => ?_)
  · replace hw := hw hx1
    have hk1 := (hx1).k hk1
    refine lv_i2l (v := ((v1).toInt64)) C.ex C.by d_Law_add_7 rfl ?_
    obtain ⟨hk2, hw⟩ := hw
    obtain ⟨hi1, hw⟩ := hw
    let h2 : AH := up_L h1 r2 ((0 : Int32)).toNatClampNeg ((v1).toInt64)
    replace hw := hw h2 rfl
    refine fx_last C F hk2 hi1 d_Law_add_8 (fun H locs (F : fx_F D h0 h2 H locs _ _) => ?_)
    refine lv_goto C.ex C.by d_Law_add_9 rfl ?_
    refine lv_iconst (v := (0 : Int32)) C.ex C.by d_Law_add_18 (by decide) ?_
    exact fx_iret C F d_Law_add_19 (Or.inl ⟨_, rfl, hw⟩)
  · replace hw := hw hx1
    rcases hw with ⟨hk9, hw⟩ | ⟨hk9, hw⟩
    · have hp0 : ∀ q ∈ ([] : List ((Nat × Nat × Nat × Nat) × String)), fx_passes "ChainJudgeLaw" "java/util/NoSuchElementException" 4 q := by
        intro q hq
        cases hq
      refine fx_caught (ci := 15) (r := ("java/util/NoSuchElementException", fx_T15, 0)) C F X rfl (by decide) hk9 [] (0, 9, 12, 28) [(0, 9, 15, 13)] "java/util/NoSuchElementException" rfl hp0 rfl (by decide) (fx_m3 (List.mem_of_getElem? (i := 65) rfl)) (fx_m3 (List.mem_of_getElem? (i := 73) rfl)) (fun H locs cells slots F => ?_)
      have hk1 := (hx1).k hk1
      refine lv_astore_n (lv' := [(3, .ref q1), (0, .ref r0), (1, .int x1), (2, .ref r2)]) C.ex C.by d_Law_add_12 rfl hv (by decide) rfl (fun ls hv => ?_)
      refine lv_iconst (v := (1 : Int32)) C.ex C.by d_Law_add_13 (by decide) ?_
      exact fx_iret C F d_Law_add_14 (Or.inl ⟨_, rfl, hw⟩)
    · have hp1 : ∀ q ∈ ([((0, 9, 12, 28), "java/util/NoSuchElementException")] : List ((Nat × Nat × Nat × Nat) × String)), fx_passes "ChainJudgeLaw" "java/lang/IllegalStateException" 4 q := by
        intro q hq
        rcases List.mem_cons.mp hq with rfl | hq
        · exact ⟨rfl, by decide, (fx_m3 (List.mem_of_getElem? (i := 65) rfl)), List.mem_of_getElem? (i := 3) rfl⟩
        cases hq
      refine fx_caught (ci := 14) (r := ("java/lang/IllegalStateException", fx_T14, 0)) C F X rfl (by decide) hk9 [((0, 9, 12, 28), "java/util/NoSuchElementException")] (0, 9, 15, 13) [] "java/lang/IllegalStateException" rfl hp1 rfl (by decide) (fx_m2 (List.mem_of_getElem? (i := 179) rfl)) (fx_m2 (List.mem_of_getElem? (i := 187) rfl)) (fun H locs cells slots F => ?_)
      have hk1 := (hx1).k hk1
      refine lv_astore_n (lv' := [(3, .ref q1), (0, .ref r0), (1, .int x1), (2, .ref r2)]) C.ex C.by d_Law_add_15 rfl hv (by decide) rfl (fun ls hv => ?_)
      refine lv_iconst (v := (2 : Int32)) C.ex C.by d_Law_add_16 (by decide) ?_
      exact fx_iret C F d_Law_add_17 (Or.inl ⟨_, rfl, hw⟩)
theorem hm_Law_add : fx_hd y_Law_add method_11_code 4 (Option.some FieldType.int) [(0, 9, 12, 28), (0, 9, 15, 13)] ∈ tables_1 := (fx_m5 (List.mem_of_getElem? (i := 107) rfl))
theorem hi_Law_add : Cond.initialized y_Law_add.cls ∈ tables_1 := (fx_m1 (List.mem_of_getElem? (i := 0) rfl))
theorem c_Law_add {l : Launch} (hl : l.flags = flags0) {D : DD} {Q : Int32 → AH → Prop} {r0 : Nat} {x1 : Int32} {r2 : Nat} {h : AH} (hw : m_Law_add Q r0 x1 r2 h) : fx_Mt l D y_Law_add (fx_hd y_Law_add method_11_code 4 (Option.some FieldType.int) [(0, 9, 12, 28), (0, 9, 15, 13)]) 8 109 [.ref r0, .int x1, .ref r2] h (fx_oI Q fx_no) := by
  refine fx_ofW (plainFor_of_name (by decide)) (fun p e s m below meth c C F => ?_)
  have hv := lv_entry ([.ref r0, .int x1, .ref r2]) (n := 4) (Nat.le_of_ble_eq_true rfl)
  rw [lg_entry_eq]
  generalize (lg_sl ([.ref r0, .int x1, .ref r2]) ++ List.replicate (4 - (lg_sl ([.ref r0, .int x1, .ref r2])).length) Slot.unset).toArray = ls at hv ⊢
  have hv : lv_has ls 4 [(0, .ref r0), (1, .int x1), (2, .ref r2)] := hv
  exact b_Law_add_0 C hl _ _ _ _ hw _ _ _ _ _ hv F
/-! ChainJudge.trust(I)I: frames 16, words 248, throws -/
abbrev y_J_trust : MethodName := ⟨"ChainJudge", "trust", "(I)I"⟩
def dl_J_trust : List (Nat × Instr × Nat) := [(0, .aload_n 0, 1), (1, .iload_n 1, 1), (2, .invokevirtual 231, 3), (5, .astore_n 2, 1), (6, .aload_n 0, 1), (7, .aload_n 2, 1), (8, .invokevirtual 162, 3), (11, .ifCond .ne 11, 3), (14, .new 166, 3), (17, .dup, 1), (18, .invokespecial 168, 3), (21, .athrow, 1), (22, .aload_n 0, 1), (23, .getfield 52, 3), (26, .getfield 275, 3), (29, .invokevirtual 125, 3), (32, .bipush 16, 2), (34, .if_icmp .ne 11, 3), (37, .new 100, 3), (40, .dup, 1), (41, .invokespecial 102, 3), (44, .athrow, 1), (45, .new 56, 3), (48, .dup, 1), (49, .aload_n 0, 1), (50, .getfield 43, 3), (53, .invokespecial 58, 3), (56, .astore_n 3, 1), (57, .aload_n 3, 1), (58, .aload_n 2, 1), (59, .getfield 137, 3), (62, .iconst 0, 1), (63, .aload_n 2, 1), (64, .getfield 137, 3), (67, .arraylength, 1), (68, .invokevirtual 138, 3), (71, .pop, 1), (72, .aload_n 0, 1), (73, .getfield 52, 3), (76, .getfield 275, 3), (79, .aload_n 3, 1), (80, .invokevirtual 227, 3), (83, .pop, 1), (84, .aload_n 0, 1), (85, .getfield 52, 3), (88, .getfield 275, 3), (91, .invokevirtual 125, 3), (94, .ireturn, 1)]
theorem dk_J_trust : fx_dec prog_1_method_22_code dl_J_trust = true := by decide +kernel
theorem d_J_trust_0 : decode prog_1_method_22_code 0 = .ok (.aload_n 0, 1) := fx_dat dk_J_trust 0 rfl
theorem d_J_trust_1 : decode prog_1_method_22_code 1 = .ok (.iload_n 1, 1) := fx_dat dk_J_trust 1 rfl
theorem d_J_trust_2 : decode prog_1_method_22_code 2 = .ok (.invokevirtual 231, 3) := fx_dat dk_J_trust 2 rfl
theorem d_J_trust_5 : decode prog_1_method_22_code 5 = .ok (.astore_n 2, 1) := fx_dat dk_J_trust 3 rfl
theorem d_J_trust_6 : decode prog_1_method_22_code 6 = .ok (.aload_n 0, 1) := fx_dat dk_J_trust 4 rfl
theorem d_J_trust_7 : decode prog_1_method_22_code 7 = .ok (.aload_n 2, 1) := fx_dat dk_J_trust 5 rfl
theorem d_J_trust_8 : decode prog_1_method_22_code 8 = .ok (.invokevirtual 162, 3) := fx_dat dk_J_trust 6 rfl
theorem d_J_trust_11 : decode prog_1_method_22_code 11 = .ok (.ifCond .ne 11, 3) := fx_dat dk_J_trust 7 rfl
theorem d_J_trust_14 : decode prog_1_method_22_code 14 = .ok (.new 166, 3) := fx_dat dk_J_trust 8 rfl
theorem d_J_trust_17 : decode prog_1_method_22_code 17 = .ok (.dup, 1) := fx_dat dk_J_trust 9 rfl
theorem d_J_trust_18 : decode prog_1_method_22_code 18 = .ok (.invokespecial 168, 3) := fx_dat dk_J_trust 10 rfl
theorem d_J_trust_21 : decode prog_1_method_22_code 21 = .ok (.athrow, 1) := fx_dat dk_J_trust 11 rfl
theorem d_J_trust_22 : decode prog_1_method_22_code 22 = .ok (.aload_n 0, 1) := fx_dat dk_J_trust 12 rfl
theorem d_J_trust_23 : decode prog_1_method_22_code 23 = .ok (.getfield 52, 3) := fx_dat dk_J_trust 13 rfl
theorem d_J_trust_26 : decode prog_1_method_22_code 26 = .ok (.getfield 275, 3) := fx_dat dk_J_trust 14 rfl
theorem d_J_trust_29 : decode prog_1_method_22_code 29 = .ok (.invokevirtual 125, 3) := fx_dat dk_J_trust 15 rfl
theorem d_J_trust_32 : decode prog_1_method_22_code 32 = .ok (.bipush 16, 2) := fx_dat dk_J_trust 16 rfl
theorem d_J_trust_34 : decode prog_1_method_22_code 34 = .ok (.if_icmp .ne 11, 3) := fx_dat dk_J_trust 17 rfl
theorem d_J_trust_37 : decode prog_1_method_22_code 37 = .ok (.new 100, 3) := fx_dat dk_J_trust 18 rfl
theorem d_J_trust_40 : decode prog_1_method_22_code 40 = .ok (.dup, 1) := fx_dat dk_J_trust 19 rfl
theorem d_J_trust_41 : decode prog_1_method_22_code 41 = .ok (.invokespecial 102, 3) := fx_dat dk_J_trust 20 rfl
theorem d_J_trust_44 : decode prog_1_method_22_code 44 = .ok (.athrow, 1) := fx_dat dk_J_trust 21 rfl
theorem d_J_trust_45 : decode prog_1_method_22_code 45 = .ok (.new 56, 3) := fx_dat dk_J_trust 22 rfl
theorem d_J_trust_48 : decode prog_1_method_22_code 48 = .ok (.dup, 1) := fx_dat dk_J_trust 23 rfl
theorem d_J_trust_49 : decode prog_1_method_22_code 49 = .ok (.aload_n 0, 1) := fx_dat dk_J_trust 24 rfl
theorem d_J_trust_50 : decode prog_1_method_22_code 50 = .ok (.getfield 43, 3) := fx_dat dk_J_trust 25 rfl
theorem d_J_trust_53 : decode prog_1_method_22_code 53 = .ok (.invokespecial 58, 3) := fx_dat dk_J_trust 26 rfl
theorem d_J_trust_56 : decode prog_1_method_22_code 56 = .ok (.astore_n 3, 1) := fx_dat dk_J_trust 27 rfl
theorem d_J_trust_57 : decode prog_1_method_22_code 57 = .ok (.aload_n 3, 1) := fx_dat dk_J_trust 28 rfl
theorem d_J_trust_58 : decode prog_1_method_22_code 58 = .ok (.aload_n 2, 1) := fx_dat dk_J_trust 29 rfl
theorem d_J_trust_59 : decode prog_1_method_22_code 59 = .ok (.getfield 137, 3) := fx_dat dk_J_trust 30 rfl
theorem d_J_trust_62 : decode prog_1_method_22_code 62 = .ok (.iconst 0, 1) := fx_dat dk_J_trust 31 rfl
theorem d_J_trust_63 : decode prog_1_method_22_code 63 = .ok (.aload_n 2, 1) := fx_dat dk_J_trust 32 rfl
theorem d_J_trust_64 : decode prog_1_method_22_code 64 = .ok (.getfield 137, 3) := fx_dat dk_J_trust 33 rfl
theorem d_J_trust_67 : decode prog_1_method_22_code 67 = .ok (.arraylength, 1) := fx_dat dk_J_trust 34 rfl
theorem d_J_trust_68 : decode prog_1_method_22_code 68 = .ok (.invokevirtual 138, 3) := fx_dat dk_J_trust 35 rfl
theorem d_J_trust_71 : decode prog_1_method_22_code 71 = .ok (.pop, 1) := fx_dat dk_J_trust 36 rfl
theorem d_J_trust_72 : decode prog_1_method_22_code 72 = .ok (.aload_n 0, 1) := fx_dat dk_J_trust 37 rfl
theorem d_J_trust_73 : decode prog_1_method_22_code 73 = .ok (.getfield 52, 3) := fx_dat dk_J_trust 38 rfl
theorem d_J_trust_76 : decode prog_1_method_22_code 76 = .ok (.getfield 275, 3) := fx_dat dk_J_trust 39 rfl
theorem d_J_trust_79 : decode prog_1_method_22_code 79 = .ok (.aload_n 3, 1) := fx_dat dk_J_trust 40 rfl
theorem d_J_trust_80 : decode prog_1_method_22_code 80 = .ok (.invokevirtual 227, 3) := fx_dat dk_J_trust 41 rfl
theorem d_J_trust_83 : decode prog_1_method_22_code 83 = .ok (.pop, 1) := fx_dat dk_J_trust 42 rfl
theorem d_J_trust_84 : decode prog_1_method_22_code 84 = .ok (.aload_n 0, 1) := fx_dat dk_J_trust 43 rfl
theorem d_J_trust_85 : decode prog_1_method_22_code 85 = .ok (.getfield 52, 3) := fx_dat dk_J_trust 44 rfl
theorem d_J_trust_88 : decode prog_1_method_22_code 88 = .ok (.getfield 275, 3) := fx_dat dk_J_trust 45 rfl
theorem d_J_trust_91 : decode prog_1_method_22_code 91 = .ok (.invokevirtual 125, 3) := fx_dat dk_J_trust 46 rfl
theorem d_J_trust_94 : decode prog_1_method_22_code 94 = .ok (.ireturn, 1) := fx_dat dk_J_trust 47 rfl
def m_J_trust (Q : Int32 → AH → Prop) (E : Nat → AH → Prop) (r0 : Nat) (x1 : Int32) (h : AH) : Prop := hp_k h r0 = 1 ∧ m_J_of (fun q1 h1 => fx_ext h h1 → m_J_reads (fun v1 h2 => fx_ext h1 h2 → zb v1 → (¬ v1 = 0 → ∃ b1, hp_R h2 r0 6 = some b1 ∧ hp_k h2 b1 = 7 ∧ ∃ b2, hp_R h2 b1 2 = some b2 ∧ hp_k h2 b2 = 12 ∧ m_AL_size (fun v2 h3 => fx_ext h2 h3 → (¬ v2 = (16 : Int32) → fx_has h3 29 ∧ ∀ (_ : fx_wf h3) (q2 : Nat), q2 = hp_z h3 → ∀ h4 : AH, h4 = up_N h3 8 0 29 → ∃ b3, hp_R h4 r0 5 = some b3 ∧ m_Cert_init (fun h5 => fx_ext h4 h5 → hp_k h5 q1 = 3 ∧ ∃ b4, hp_R h5 q1 0 = some b4 ∧ bk (hp_k h5 b4) ∧ m_Cert_parse (fun v3 h6 => fx_ext h5 h6 → zb v3 → ∃ b5, hp_R h6 r0 6 = some b5 ∧ hp_k h6 b5 = 7 ∧ ∃ b6, hp_R h6 b5 2 = some b6 ∧ hp_k h6 b6 = 12 ∧ m_AL_add_O (fun v4 h7 => fx_ext h6 h7 → zb v4 → ∃ b7, hp_R h7 r0 6 = some b7 ∧ hp_k h7 b7 = 7 ∧ ∃ b8, hp_R h7 b7 2 = some b8 ∧ hp_k h7 b8 = 12 ∧ m_AL_size (fun v5 h8 => fx_ext h7 h8 → Q v5 h8) b8 h7) b6 q2 h6) q2 b4 (0 : Int32) (nI (hp_n h5 b4)) h5) q2 b3 h4) ∧ (v2 = (16 : Int32) → fx_has h3 6 ∧ ∀ (_ : fx_wf h3) (q3 : Nat), q3 = hp_z h3 → ∀ h9 : AH, h9 = up_N h3 15 0 6 → E q3 h9)) b2 h2) ∧ (v1 = 0 → fx_has h2 6 ∧ ∀ (_ : fx_wf h2) (q4 : Nat), q4 = hp_z h2 → ∀ h10 : AH, h10 = up_N h2 17 0 6 → E q4 h10)) r0 q1 h1) (fun a ht => fx_ext h ht → E a ht) r0 x1 h
theorem b_J_trust_0 {p : Program} {l : Launch} {e : Env} {R : Room} {s : State} {m : MethodId} {args : Array Value} {below : List Frame} {meth : Method} {c : Code} {D : DD} {h0 : AH} {Q : Int32 → AH → Prop} {E : Nat → AH → Prop} (C : fx_CX D y_J_trust prog_1_method_22_code 4 16 248 (Option.some FieldType.int) [] h0 p R s m meth c) (hl : l.flags = flags0) (r0 : Nat) (x1 : Int32) (h : AH) (hw : m_J_trust Q E r0 x1 h) : ∀ (ls : Array Slot) (H : Heap) (locs : List Loc) (cells slots : Nat), lv_has ls 4 [(0, .ref r0), (1, .int x1)] → fx_F D h0 h H locs cells slots → W p l e R s m args below meth c H locs cells slots (fx_Z D below s h0 (fx_oI Q E)) (F0 m 0 ls []) := by
  unfold m_J_trust at hw
  intro ls H locs cells slots hv F
  refine lv_aload_n C.ex C.by d_J_trust_0 rfl (lv_at hv 0 rfl) ?_
  refine lv_iload_n C.ex C.by d_J_trust_1 rfl (lv_at hv 1 rfl) ?_
  obtain ⟨hk1, hw⟩ := hw
  refine fx_callR C F (c_J_of hl hw) hm_J_of hi_J_of hv.1 (by decide) (Nat.le_of_ble_eq_true rfl) (iv_J_of C F lm_J_231 hk1 d_J_trust_2) (fx_out0 _) (fun _ _ hE hx => Or.inr ⟨_, rfl, hE hx⟩) (fun q1 h1 H locs cells slots hw hx1 F => ?_)
  replace hw := hw hx1
  have hk1 := (hx1).k hk1
  refine lv_astore_n (lv' := [(2, .ref q1), (0, .ref r0), (1, .int x1)]) C.ex C.by d_J_trust_5 rfl hv (by decide) rfl (fun ls hv => ?_)
  refine lv_aload_n C.ex C.by d_J_trust_6 rfl (lv_at hv 1 rfl) ?_
  refine lv_aload_n C.ex C.by d_J_trust_7 rfl (lv_at hv 0 rfl) ?_
  refine fx_callZ C F (c_J_reads hl hw) hm_J_reads hi_J_reads hv.1 (by decide) (Nat.le_of_ble_eq_true rfl) (iv_J_reads C F lm_J_162 hk1 d_J_trust_8) (fx_out0 _) fx_eno (fun v1 h2 H locs cells slots hw hx2 hzb F => ?_)
  replace hw := hw hx2 hzb
  have hk1 := (hx2).k hk1
  refine lv_if_ne C.ex C.by d_J_trust_11 rfl (fun hc => ?_) (fun hc => ?_)
  · replace hw := hw.1 hc
    refine lv_aload_n C.ex C.by d_J_trust_22 rfl (lv_at hv 1 rfl) ?_
    obtain ⟨b1, hb1, hw⟩ := hw
    refine fx_getR C F lf_J_52 hk1 rfl hb1 d_J_trust_23 ?_
    obtain ⟨hk2, hw⟩ := hw
    obtain ⟨b2, hb2, hw⟩ := hw
    refine fx_getR C F lf_J_275 hk2 rfl hb2 d_J_trust_26 ?_
    obtain ⟨hk3, hw⟩ := hw
    refine fx_callI C F (c_AL_size hl hw) hm_AL_size hi_AL_size hv.1 (by decide) (Nat.le_of_ble_eq_true rfl) (iv_AL_size C F lm_J_125 hk3 d_J_trust_29) (fx_out0 _) fx_eno (fun v2 h3 H locs cells slots hw hx3 F => ?_)
    replace hw := hw hx3
    have hk2 := (hx3).k hk2
    have hk3 := (hx3).k hk3
    have hk1 := (hx3).k hk1
    refine lv_bipush (v := (16 : Int32)) C.ex C.by d_J_trust_32 (by decide) ?_
    refine lv_icmp_ne C.ex C.by d_J_trust_34 rfl (fun hc => ?_) (fun hc => ?_)
    · replace hw := hw.1 hc
      obtain ⟨hs, hw⟩ := hw
      let q2 : Nat := hp_z h3
      let h4 : AH := up_N h3 8 0 29
      replace hw := hw F.wf q2 rfl h4 rfl
      have hk2 := (F.xN (k := 8) (n := 0) (m := 29)).k hk2
      have hk3 := (F.xN (k := 8) (n := 0) (m := 29)).k hk3
      have hk1 := (F.xN (k := 8) (n := 0) (m := 29)).k hk1
      have hkq2 : hp_k h4 q2 = 8 := fx_nk _ _ _ _
      refine fx_new (ci := 7) (r := ("ChainJudge$Certificate", fx_T7, 29)) C F rfl (fx_m1 (List.mem_of_getElem? (i := 196) rfl)) (fx_m1 (List.mem_of_getElem? (i := 197) rfl)) (fx_m1 (List.mem_of_getElem? (i := 11) rfl)) hs d_J_trust_45 (fun H cells slots (F : fx_F D h0 h4 H locs cells slots) => ?_)
      refine lv_dup C.ex C.by d_J_trust_48 rfl ?_
      refine lv_aload_n C.ex C.by d_J_trust_49 rfl (lv_at hv 1 rfl) ?_
      obtain ⟨b3, hb3, hw⟩ := hw
      refine fx_getR C F lf_J_43 hk1 rfl hb3 d_J_trust_50 ?_
      refine fx_callV C F (c_Cert_init hl hw) hm_Cert_init hi_Cert_init hv.1 (by decide) (Nat.le_of_ble_eq_true rfl) (iv_Cert_init C F lm_J_58 d_J_trust_53) (fx_out0 _) fx_eno (fun h5 H locs cells slots hw hx4 F => ?_)
      replace hw := hw hx4
      have hk2 := (hx4).k hk2
      have hk3 := (hx4).k hk3
      have hkq2 := (hx4).k hkq2
      have hk1 := (hx4).k hk1
      refine lv_astore_n (lv' := [(3, .ref q2), (2, .ref q1), (0, .ref r0), (1, .int x1)]) C.ex C.by d_J_trust_56 rfl hv (by decide) rfl (fun ls hv => ?_)
      refine lv_aload_n C.ex C.by d_J_trust_57 rfl (lv_at hv 0 rfl) ?_
      refine lv_aload_n C.ex C.by d_J_trust_58 rfl (lv_at hv 1 rfl) ?_
      obtain ⟨hk4, hw⟩ := hw
      obtain ⟨b4, hb4, hw⟩ := hw
      refine fx_getR C F lf_J_137 hk4 rfl hb4 d_J_trust_59 ?_
      refine lv_iconst (v := (0 : Int32)) C.ex C.by d_J_trust_62 (by decide) ?_
      refine lv_aload_n C.ex C.by d_J_trust_63 rfl (lv_at hv 1 rfl) ?_
      refine fx_getR C F lf_J_137 hk4 rfl hb4 d_J_trust_64 ?_
      obtain ⟨hk5, hw⟩ := hw
      refine fx_alen C F hk5.gt d_J_trust_67 ?_
      refine fx_callZ C F (c_Cert_parse hl hw) hm_Cert_parse hi_Cert_parse hv.1 (by decide) (Nat.le_of_ble_eq_true rfl) (iv_Cert_parse C F lm_J_138 hkq2 d_J_trust_68) (fx_out0 _) fx_eno (fun v3 h6 H locs cells slots hw hx5 hzb F => ?_)
      replace hw := hw hx5 hzb
      have hk2 := (hx5).k hk2
      have hk3 := (hx5).k hk3
      have hk5 := (hx5).gb hk5
      have hk4 := (hx5).k hk4
      have hkq2 := (hx5).k hkq2
      have hk1 := (hx5).k hk1
      refine lv_pop C.ex C.by d_J_trust_71 rfl ?_
      refine lv_aload_n C.ex C.by d_J_trust_72 rfl (lv_at hv 2 rfl) ?_
      obtain ⟨b5, hb5, hw⟩ := hw
      refine fx_getR C F lf_J_52 hk1 rfl hb5 d_J_trust_73 ?_
      obtain ⟨hk6, hw⟩ := hw
      obtain ⟨b6, hb6, hw⟩ := hw
      refine fx_getR C F lf_J_275 hk6 rfl hb6 d_J_trust_76 ?_
      refine lv_aload_n C.ex C.by d_J_trust_79 rfl (lv_at hv 0 rfl) ?_
      obtain ⟨hk7, hw⟩ := hw
      refine fx_callZ C F (c_AL_add_O hl hw) hm_AL_add_O hi_AL_add_O hv.1 (by decide) (Nat.le_of_ble_eq_true rfl) (iv_AL_add_O C F lm_J_227 hk7 d_J_trust_80) (fx_out0 _) fx_eno (fun v4 h7 H locs cells slots hw hx6 hzb F => ?_)
      replace hw := hw hx6 hzb
      have hk2 := (hx6).k hk2
      have hk3 := (hx6).k hk3
      have hk5 := (hx6).gb hk5
      have hk6 := (hx6).k hk6
      have hk7 := (hx6).k hk7
      have hk4 := (hx6).k hk4
      have hkq2 := (hx6).k hkq2
      have hk1 := (hx6).k hk1
      refine lv_pop C.ex C.by d_J_trust_83 rfl ?_
      refine lv_aload_n C.ex C.by d_J_trust_84 rfl (lv_at hv 2 rfl) ?_
      obtain ⟨b7, hb7, hw⟩ := hw
      refine fx_getR C F lf_J_52 hk1 rfl hb7 d_J_trust_85 ?_
      obtain ⟨hk8, hw⟩ := hw
      obtain ⟨b8, hb8, hw⟩ := hw
      refine fx_getR C F lf_J_275 hk8 rfl hb8 d_J_trust_88 ?_
      obtain ⟨hk9, hw⟩ := hw
      refine fx_callI C F (c_AL_size hl hw) hm_AL_size hi_AL_size hv.1 (by decide) (Nat.le_of_ble_eq_true rfl) (iv_AL_size C F lm_J_125 hk9 d_J_trust_91) (fx_out0 _) fx_eno (fun v5 h8 H locs cells slots hw hx7 F => ?_)
      replace hw := hw hx7
      have hk2 := (hx7).k hk2
      have hk3 := (hx7).k hk3
      have hk5 := (hx7).gb hk5
      have hk6 := (hx7).k hk6
      have hk7 := (hx7).k hk7
      have hk8 := (hx7).k hk8
      have hk9 := (hx7).k hk9
      have hk4 := (hx7).k hk4
      have hkq2 := (hx7).k hkq2
      have hk1 := (hx7).k hk1
      exact fx_iret C F d_J_trust_94 (Or.inl ⟨_, rfl, hw⟩)
    · replace hw := hw.2 hc
      obtain ⟨hs, hw⟩ := hw
      let q3 : Nat := hp_z h3
      let h9 : AH := up_N h3 15 0 6
      replace hw := hw F.wf q3 rfl h9 rfl
      have hk2 := (F.xN (k := 15) (n := 0) (m := 6)).k hk2
      have hk3 := (F.xN (k := 15) (n := 0) (m := 6)).k hk3
      have hk1 := (F.xN (k := 15) (n := 0) (m := 6)).k hk1
      have hkq3 : hp_k h9 q3 = 15 := fx_nk _ _ _ _
      refine fx_exc (r := ("java/lang/IllegalStateException", fx_T14, 0)) (names := fx_rn) C F rfl rfl (fx_m2 (List.mem_of_getElem? (i := 185) rfl)) (fx_m1 (List.mem_of_getElem? (i := 19) rfl)) (by decide +kernel) (by decide +kernel) ex_J_102 hs hv.1 hl d_J_trust_37 d_J_trust_40 d_J_trust_41 (by decide) (Nat.le_of_ble_eq_true rfl) (fun H locs cells slots (F : fx_F D h0 h9 H locs cells slots) => ?_)
      exact fx_athrow C F (fx_out0 _) d_J_trust_44 (Or.inr ⟨_, rfl, hw⟩)
  · replace hw := hw.2 hc
    obtain ⟨hs, hw⟩ := hw
    let q4 : Nat := hp_z h2
    let h10 : AH := up_N h2 17 0 6
    replace hw := hw F.wf q4 rfl h10 rfl
    have hk1 := (F.xN (k := 17) (n := 0) (m := 6)).k hk1
    have hkq4 : hp_k h10 q4 = 17 := fx_nk _ _ _ _
    refine fx_exc (r := ("java/lang/UnsupportedOperationException", fx_T16, 0)) (names := fx_rn) C F rfl rfl (fx_m4 (List.mem_of_getElem? (i := 30) rfl)) (fx_m1 (List.mem_of_getElem? (i := 27) rfl)) (by decide +kernel) (by decide +kernel) ex_J_168 hs hv.1 hl d_J_trust_14 d_J_trust_17 d_J_trust_18 (by decide) (Nat.le_of_ble_eq_true rfl) (fun H locs cells slots (F : fx_F D h0 h10 H locs cells slots) => ?_)
    exact fx_athrow C F (fx_out0 _) d_J_trust_21 (Or.inr ⟨_, rfl, hw⟩)
theorem hm_J_trust : fx_hd y_J_trust prog_1_method_22_code 4 (Option.some FieldType.int) [] ∈ tables_1 := (fx_m5 (List.mem_of_getElem? (i := 118) rfl))
theorem hi_J_trust : Cond.initialized y_J_trust.cls ∈ tables_1 := (fx_m1 (List.mem_of_getElem? (i := 1) rfl))
theorem c_J_trust {l : Launch} (hl : l.flags = flags0) {D : DD} {Q : Int32 → AH → Prop} {E : Nat → AH → Prop} {r0 : Nat} {x1 : Int32} {h : AH} (hw : m_J_trust Q E r0 x1 h) : fx_Mt l D y_J_trust (fx_hd y_J_trust prog_1_method_22_code 4 (Option.some FieldType.int) []) 16 248 [.ref r0, .int x1] h (fx_oI Q E) := by
  refine fx_ofW (plainFor_of_name (by decide)) (fun p e s m below meth c C F => ?_)
  have hv := lv_entry ([.ref r0, .int x1]) (n := 4) (Nat.le_of_ble_eq_true rfl)
  rw [lg_entry_eq]
  generalize (lg_sl ([.ref r0, .int x1]) ++ List.replicate (4 - (lg_sl ([.ref r0, .int x1])).length) Slot.unset).toArray = ls at hv ⊢
  have hv : lv_has ls 4 [(0, .ref r0), (1, .int x1)] := hv
  exact b_J_trust_0 C hl _ _ _ hw _ _ _ _ _ hv F
/-! ChainJudgeLaw.trust(LChainJudge;I[J)I: frames 17, words 265 -/
abbrev y_Law_trust : MethodName := ⟨"ChainJudgeLaw", "trust", "(LChainJudge;I[J)I"⟩
theorem lm_Law_52 : Cond.methodLink "ChainJudgeLaw" 52 y_J_trust ∈ tables_1 ∨ ∃ host, Cond.methodLinkNest "ChainJudgeLaw" 52 y_J_trust host ∈ tables_1 := Or.inl (fx_m5 (List.mem_of_getElem? (i := 115) rfl))
section
variable {p : Program} {l : Launch} {e : Env} {R : Room} {s : State} {m : MethodId} {args : Array Value} {below : List Frame} {meth : Method} {c : Code} {H : Heap} {locs : List Loc} {cells slots : Nat}
variable {D : DD} {y : MethodName} {cc : ByteArray} {nL kf kw : Nat} {ret : Option FieldType} {hh : List (Nat × Nat × Nat × Nat)} {h0 h : AH} {pc : Nat} {ls : Array Slot} {rest : List Value} {b idx : Nat}
theorem iv_J_trust {x1 : Int32} (C : fx_CX D y cc nL kf kw ret hh h0 p R s m meth c) (F : fx_F D h0 h H locs cells slots) (hw1 : Cond.methodLink y.cls idx y_J_trust ∈ tables_1 ∨ ∃ host, Cond.methodLinkNest y.cls idx y_J_trust host ∈ tables_1) (hk : hp_k h b = 1) (hd : decode cc pc = .ok (.invokevirtual idx, 3)) : fx_IV p l e R s m args below meth c H locs cells slots (F0 m pc ls (.int x1 :: .ref b :: rest)) rest y_J_trust [.ref b, .int x1] 3 := fun T hT X => fx_invV (As := [.int x1]) (Cn := "ChainJudge") C X hw1 (fx_m5 (List.mem_of_getElem? (i := 116) rfl)) (fx_selW C (fx_m5 (List.mem_of_getElem? (i := 117) rfl))) hm_J_trust ⟨by decide, by decide⟩ (by rw [hT]; exact fx_clsO (ci := 0) (r := ("ChainJudge", fx_T0, 16)) C F rfl (by decide) hk) rfl (n := 1) (by decide +kernel) rfl rfl hd
end
def dl_Law_trust : List (Nat × Instr × Nat) := [(0, .aload_n 2, 1), (1, .iconst 0, 1), (2, .aload_n 0, 1), (3, .iload_n 1, 1), (4, .invokevirtual 52, 3), (7, .i2l, 1), (8, .lastore, 1), (9, .goto 12, 3), (12, .astore_n 3, 1), (13, .iconst 1, 1), (14, .ireturn, 1), (15, .astore_n 3, 1), (16, .iconst 2, 1), (17, .ireturn, 1), (18, .astore_n 3, 1), (19, .iconst 3, 1), (20, .ireturn, 1), (21, .iconst 0, 1), (22, .ireturn, 1)]
theorem dk_Law_trust : fx_dec method_12_code dl_Law_trust = true := by decide +kernel
theorem d_Law_trust_0 : decode method_12_code 0 = .ok (.aload_n 2, 1) := fx_dat dk_Law_trust 0 rfl
theorem d_Law_trust_1 : decode method_12_code 1 = .ok (.iconst 0, 1) := fx_dat dk_Law_trust 1 rfl
theorem d_Law_trust_2 : decode method_12_code 2 = .ok (.aload_n 0, 1) := fx_dat dk_Law_trust 2 rfl
theorem d_Law_trust_3 : decode method_12_code 3 = .ok (.iload_n 1, 1) := fx_dat dk_Law_trust 3 rfl
theorem d_Law_trust_4 : decode method_12_code 4 = .ok (.invokevirtual 52, 3) := fx_dat dk_Law_trust 4 rfl
theorem d_Law_trust_7 : decode method_12_code 7 = .ok (.i2l, 1) := fx_dat dk_Law_trust 5 rfl
theorem d_Law_trust_8 : decode method_12_code 8 = .ok (.lastore, 1) := fx_dat dk_Law_trust 6 rfl
theorem d_Law_trust_9 : decode method_12_code 9 = .ok (.goto 12, 3) := fx_dat dk_Law_trust 7 rfl
theorem d_Law_trust_12 : decode method_12_code 12 = .ok (.astore_n 3, 1) := fx_dat dk_Law_trust 8 rfl
theorem d_Law_trust_13 : decode method_12_code 13 = .ok (.iconst 1, 1) := fx_dat dk_Law_trust 9 rfl
theorem d_Law_trust_14 : decode method_12_code 14 = .ok (.ireturn, 1) := fx_dat dk_Law_trust 10 rfl
theorem d_Law_trust_15 : decode method_12_code 15 = .ok (.astore_n 3, 1) := fx_dat dk_Law_trust 11 rfl
theorem d_Law_trust_16 : decode method_12_code 16 = .ok (.iconst 2, 1) := fx_dat dk_Law_trust 12 rfl
theorem d_Law_trust_17 : decode method_12_code 17 = .ok (.ireturn, 1) := fx_dat dk_Law_trust 13 rfl
theorem d_Law_trust_18 : decode method_12_code 18 = .ok (.astore_n 3, 1) := fx_dat dk_Law_trust 14 rfl
theorem d_Law_trust_19 : decode method_12_code 19 = .ok (.iconst 3, 1) := fx_dat dk_Law_trust 15 rfl
theorem d_Law_trust_20 : decode method_12_code 20 = .ok (.ireturn, 1) := fx_dat dk_Law_trust 16 rfl
theorem d_Law_trust_21 : decode method_12_code 21 = .ok (.iconst 0, 1) := fx_dat dk_Law_trust 17 rfl
theorem d_Law_trust_22 : decode method_12_code 22 = .ok (.ireturn, 1) := fx_dat dk_Law_trust 18 rfl
def m_Law_trust (Q : Int32 → AH → Prop) (r0 : Nat) (x1 : Int32) (r2 : Nat) (h : AH) : Prop := hp_k h r0 = 1 ∧ m_J_trust (fun v1 h1 => fx_ext h h1 → hp_k h1 r2 = 103 ∧ vp_in (0 : Int32) (hp_n h1 r2) ∧ ∀ h2 : AH, h2 = up_L h1 r2 ((0 : Int32)).toNatClampNeg ((v1).toInt64) → Q (0 : Int32) h2) (fun q1 h3 => fx_ext h h3 → (hp_k h3 q1 = 16 ∧ Q (1 : Int32) h3) ∨ (hp_k h3 q1 = 17 ∧ Q (2 : Int32) h3) ∨ (hp_k h3 q1 = 15 ∧ Q (3 : Int32) h3)) r0 x1 h
theorem b_Law_trust_0 {p : Program} {l : Launch} {e : Env} {R : Room} {s : State} {m : MethodId} {args : Array Value} {below : List Frame} {meth : Method} {c : Code} {D : DD} {h0 : AH} {Q : Int32 → AH → Prop} (C : fx_CX D y_Law_trust method_12_code 4 17 265 (Option.some FieldType.int) [(0, 9, 12, 28), (0, 9, 15, 30), (0, 9, 18, 13)] h0 p R s m meth c) (hl : l.flags = flags0) (r0 : Nat) (x1 : Int32) (r2 : Nat) (h : AH) (hw : m_Law_trust Q r0 x1 r2 h) : ∀ (ls : Array Slot) (H : Heap) (locs : List Loc) (cells slots : Nat), lv_has ls 4 [(0, .ref r0), (1, .int x1), (2, .ref r2)] → fx_F D h0 h H locs cells slots → W p l e R s m args below meth c H locs cells slots (fx_Z D below s h0 (fx_oI Q fx_no)) (F0 m 0 ls []) := by
  unfold m_Law_trust at hw
  intro ls H locs cells slots hv F
  refine lv_aload_n C.ex C.by d_Law_trust_0 rfl (lv_at hv 2 rfl) ?_
  refine lv_iconst (v := (0 : Int32)) C.ex C.by d_Law_trust_1 (by decide) ?_
  refine lv_aload_n C.ex C.by d_Law_trust_2 rfl (lv_at hv 0 rfl) ?_
  refine lv_iload_n C.ex C.by d_Law_trust_3 rfl (lv_at hv 1 rfl) ?_
  obtain ⟨hk1, hw⟩ := hw
  refine fx_callIc C F (c_J_trust hl hw) hm_J_trust hi_J_trust hv.1 (by decide) (Nat.le_of_ble_eq_true rfl) (iv_J_trust C F lm_Law_52 hk1 d_Law_trust_4) (fun v1 h1 H locs cells slots hw hx1 F => ?_) (fun q1 h3 T locs cells slots hw hx1 F X => ?_)
  · replace hw := hw hx1
    have hk1 := (hx1).k hk1
    refine lv_i2l (v := ((v1).toInt64)) C.ex C.by d_Law_trust_7 rfl ?_
    obtain ⟨hk2, hw⟩ := hw
    obtain ⟨hi1, hw⟩ := hw
    let h2 : AH := up_L h1 r2 ((0 : Int32)).toNatClampNeg ((v1).toInt64)
    replace hw := hw h2 rfl
    refine fx_last C F hk2 hi1 d_Law_trust_8 (fun H locs (F : fx_F D h0 h2 H locs _ _) => ?_)
    refine lv_goto C.ex C.by d_Law_trust_9 rfl ?_
    refine lv_iconst (v := (0 : Int32)) C.ex C.by d_Law_trust_21 (by decide) ?_
    exact fx_iret C F d_Law_trust_22 (Or.inl ⟨_, rfl, hw⟩)
  · replace hw := hw hx1
    rcases hw with ⟨hk9, hw⟩ | ⟨hk9, hw⟩ | ⟨hk9, hw⟩
    · have hp0 : ∀ q ∈ ([] : List ((Nat × Nat × Nat × Nat) × String)), fx_passes "ChainJudgeLaw" "java/util/NoSuchElementException" 4 q := by
        intro q hq
        cases hq
      refine fx_caught (ci := 15) (r := ("java/util/NoSuchElementException", fx_T15, 0)) C F X rfl (by decide) hk9 [] (0, 9, 12, 28) [(0, 9, 15, 30), (0, 9, 18, 13)] "java/util/NoSuchElementException" rfl hp0 rfl (by decide) (fx_m3 (List.mem_of_getElem? (i := 65) rfl)) (fx_m3 (List.mem_of_getElem? (i := 73) rfl)) (fun H locs cells slots F => ?_)
      have hk1 := (hx1).k hk1
      refine lv_astore_n (lv' := [(3, .ref q1), (0, .ref r0), (1, .int x1), (2, .ref r2)]) C.ex C.by d_Law_trust_12 rfl hv (by decide) rfl (fun ls hv => ?_)
      refine lv_iconst (v := (1 : Int32)) C.ex C.by d_Law_trust_13 (by decide) ?_
      exact fx_iret C F d_Law_trust_14 (Or.inl ⟨_, rfl, hw⟩)
    · have hp1 : ∀ q ∈ ([((0, 9, 12, 28), "java/util/NoSuchElementException")] : List ((Nat × Nat × Nat × Nat) × String)), fx_passes "ChainJudgeLaw" "java/lang/UnsupportedOperationException" 4 q := by
        intro q hq
        rcases List.mem_cons.mp hq with rfl | hq
        · exact ⟨rfl, by decide, (fx_m3 (List.mem_of_getElem? (i := 65) rfl)), List.mem_of_getElem? (i := 1) rfl⟩
        cases hq
      refine fx_caught (ci := 16) (r := ("java/lang/UnsupportedOperationException", fx_T16, 0)) C F X rfl (by decide) hk9 [((0, 9, 12, 28), "java/util/NoSuchElementException")] (0, 9, 15, 30) [(0, 9, 18, 13)] "java/lang/UnsupportedOperationException" rfl hp1 rfl (by decide) (fx_m3 (List.mem_of_getElem? (i := 66) rfl)) (fx_m4 (List.mem_of_getElem? (i := 32) rfl)) (fun H locs cells slots F => ?_)
      have hk1 := (hx1).k hk1
      refine lv_astore_n (lv' := [(3, .ref q1), (0, .ref r0), (1, .int x1), (2, .ref r2)]) C.ex C.by d_Law_trust_15 rfl hv (by decide) rfl (fun ls hv => ?_)
      refine lv_iconst (v := (2 : Int32)) C.ex C.by d_Law_trust_16 (by decide) ?_
      exact fx_iret C F d_Law_trust_17 (Or.inl ⟨_, rfl, hw⟩)
    · have hp2 : ∀ q ∈ ([((0, 9, 12, 28), "java/util/NoSuchElementException"), ((0, 9, 15, 30), "java/lang/UnsupportedOperationException")] : List ((Nat × Nat × Nat × Nat) × String)), fx_passes "ChainJudgeLaw" "java/lang/IllegalStateException" 4 q := by
        intro q hq
        rcases List.mem_cons.mp hq with rfl | hq
        · exact ⟨rfl, by decide, (fx_m3 (List.mem_of_getElem? (i := 65) rfl)), List.mem_of_getElem? (i := 3) rfl⟩
        rcases List.mem_cons.mp hq with rfl | hq
        · exact ⟨rfl, by decide, (fx_m3 (List.mem_of_getElem? (i := 66) rfl)), List.mem_of_getElem? (i := 5) rfl⟩
        cases hq
      refine fx_caught (ci := 14) (r := ("java/lang/IllegalStateException", fx_T14, 0)) C F X rfl (by decide) hk9 [((0, 9, 12, 28), "java/util/NoSuchElementException"), ((0, 9, 15, 30), "java/lang/UnsupportedOperationException")] (0, 9, 18, 13) [] "java/lang/IllegalStateException" rfl hp2 rfl (by decide) (fx_m2 (List.mem_of_getElem? (i := 179) rfl)) (fx_m2 (List.mem_of_getElem? (i := 187) rfl)) (fun H locs cells slots F => ?_)
      have hk1 := (hx1).k hk1
      refine lv_astore_n (lv' := [(3, .ref q1), (0, .ref r0), (1, .int x1), (2, .ref r2)]) C.ex C.by d_Law_trust_18 rfl hv (by decide) rfl (fun ls hv => ?_)
      refine lv_iconst (v := (3 : Int32)) C.ex C.by d_Law_trust_19 (by decide) ?_
      exact fx_iret C F d_Law_trust_20 (Or.inl ⟨_, rfl, hw⟩)
theorem hm_Law_trust : fx_hd y_Law_trust method_12_code 4 (Option.some FieldType.int) [(0, 9, 12, 28), (0, 9, 15, 30), (0, 9, 18, 13)] ∈ tables_1 := (fx_m5 (List.mem_of_getElem? (i := 114) rfl))
theorem hi_Law_trust : Cond.initialized y_Law_trust.cls ∈ tables_1 := (fx_m1 (List.mem_of_getElem? (i := 0) rfl))
theorem c_Law_trust {l : Launch} (hl : l.flags = flags0) {D : DD} {Q : Int32 → AH → Prop} {r0 : Nat} {x1 : Int32} {r2 : Nat} {h : AH} (hw : m_Law_trust Q r0 x1 r2 h) : fx_Mt l D y_Law_trust (fx_hd y_Law_trust method_12_code 4 (Option.some FieldType.int) [(0, 9, 12, 28), (0, 9, 15, 30), (0, 9, 18, 13)]) 17 265 [.ref r0, .int x1, .ref r2] h (fx_oI Q fx_no) := by
  refine fx_ofW (plainFor_of_name (by decide)) (fun p e s m below meth c C F => ?_)
  have hv := lv_entry ([.ref r0, .int x1, .ref r2]) (n := 4) (Nat.le_of_ble_eq_true rfl)
  rw [lg_entry_eq]
  generalize (lg_sl ([.ref r0, .int x1, .ref r2]) ++ List.replicate (4 - (lg_sl ([.ref r0, .int x1, .ref r2])).length) Slot.unset).toArray = ls at hv ⊢
  have hv : lv_has ls 4 [(0, .ref r0), (1, .int x1), (2, .ref r2)] := hv
  exact b_Law_trust_0 C hl _ _ _ _ hw _ _ _ _ _ hv F
/-! ChainJudge$Row.put([BII)V: frames 2, words 32 -/
abbrev y_Row_put_BII : MethodName := ⟨"ChainJudge$Row", "put", "([BII)V"⟩
def dl_Row_put_BII : List (Nat × Instr × Nat) := [(0, .aload_n 0, 1), (1, .iload_n 3, 1), (2, .invokevirtual 29, 3), (5, .aload_n 1, 1), (6, .iload_n 2, 1), (7, .aload_n 0, 1), (8, .getfield 7, 3), (11, .aload_n 0, 1), (12, .getfield 13, 3), (15, .iload_n 3, 1), (16, .invokestatic 23, 3), (19, .aload_n 0, 1), (20, .dup, 1), (21, .getfield 13, 3), (24, .iload_n 3, 1), (25, .iadd, 1), (26, .putfield 13, 3), (29, .return_, 1)]
theorem dk_Row_put_BII : fx_dec prog_11_method_4_code dl_Row_put_BII = true := by decide +kernel
theorem d_Row_put_BII_0 : decode prog_11_method_4_code 0 = .ok (.aload_n 0, 1) := fx_dat dk_Row_put_BII 0 rfl
theorem d_Row_put_BII_1 : decode prog_11_method_4_code 1 = .ok (.iload_n 3, 1) := fx_dat dk_Row_put_BII 1 rfl
theorem d_Row_put_BII_2 : decode prog_11_method_4_code 2 = .ok (.invokevirtual 29, 3) := fx_dat dk_Row_put_BII 2 rfl
theorem d_Row_put_BII_5 : decode prog_11_method_4_code 5 = .ok (.aload_n 1, 1) := fx_dat dk_Row_put_BII 3 rfl
theorem d_Row_put_BII_6 : decode prog_11_method_4_code 6 = .ok (.iload_n 2, 1) := fx_dat dk_Row_put_BII 4 rfl
theorem d_Row_put_BII_7 : decode prog_11_method_4_code 7 = .ok (.aload_n 0, 1) := fx_dat dk_Row_put_BII 5 rfl
theorem d_Row_put_BII_8 : decode prog_11_method_4_code 8 = .ok (.getfield 7, 3) := fx_dat dk_Row_put_BII 6 rfl
theorem d_Row_put_BII_11 : decode prog_11_method_4_code 11 = .ok (.aload_n 0, 1) := fx_dat dk_Row_put_BII 7 rfl
theorem d_Row_put_BII_12 : decode prog_11_method_4_code 12 = .ok (.getfield 13, 3) := fx_dat dk_Row_put_BII 8 rfl
theorem d_Row_put_BII_15 : decode prog_11_method_4_code 15 = .ok (.iload_n 3, 1) := fx_dat dk_Row_put_BII 9 rfl
theorem d_Row_put_BII_16 : decode prog_11_method_4_code 16 = .ok (.invokestatic 23, 3) := fx_dat dk_Row_put_BII 10 rfl
theorem d_Row_put_BII_19 : decode prog_11_method_4_code 19 = .ok (.aload_n 0, 1) := fx_dat dk_Row_put_BII 11 rfl
theorem d_Row_put_BII_20 : decode prog_11_method_4_code 20 = .ok (.dup, 1) := fx_dat dk_Row_put_BII 12 rfl
theorem d_Row_put_BII_21 : decode prog_11_method_4_code 21 = .ok (.getfield 13, 3) := fx_dat dk_Row_put_BII 13 rfl
theorem d_Row_put_BII_24 : decode prog_11_method_4_code 24 = .ok (.iload_n 3, 1) := fx_dat dk_Row_put_BII 14 rfl
theorem d_Row_put_BII_25 : decode prog_11_method_4_code 25 = .ok (.iadd, 1) := fx_dat dk_Row_put_BII 15 rfl
theorem d_Row_put_BII_26 : decode prog_11_method_4_code 26 = .ok (.putfield 13, 3) := fx_dat dk_Row_put_BII 16 rfl
theorem d_Row_put_BII_29 : decode prog_11_method_4_code 29 = .ok (.return_, 1) := fx_dat dk_Row_put_BII 17 rfl
def m_Row_put_BII (Q : AH → Prop) (r0 : Nat) (r1 : Nat) (x2 : Int32) (x3 : Int32) (h : AH) : Prop := hp_k h r0 = 2 ∧ m_Row_room (fun h1 => fx_ext h h1 → ∃ b1, hp_R h1 r0 0 = some b1 ∧ bk (hp_k h1 r1) ∧ hp_k h1 b1 = 101 ∧ ¬ x2 < 0 ∧ ¬ (hp_I h1 r0 1) < 0 ∧ ¬ x3 < 0 ∧ x2.toNatClampNeg + x3.toNatClampNeg ≤ hp_n h1 r1 ∧ (hp_I h1 r0 1).toNatClampNeg + x3.toNatClampNeg ≤ hp_n h1 b1 ∧ ∀ h2 : AH, h2 = up_CI h1 r1 x2.toNatClampNeg b1 (hp_I h1 r0 1).toNatClampNeg x3.toNatClampNeg → ∀ h3 : AH, h3 = up_I h2 r0 1 ((hp_I h2 r0 1) + x3) → Q h3) r0 x3 h
theorem b_Row_put_BII_0 {p : Program} {l : Launch} {e : Env} {R : Room} {s : State} {m : MethodId} {args : Array Value} {below : List Frame} {meth : Method} {c : Code} {D : DD} {h0 : AH} {Q : AH → Prop} (C : fx_CX D y_Row_put_BII prog_11_method_4_code 4 2 32 (none) [] h0 p R s m meth c) (hl : l.flags = flags0) (r0 : Nat) (r1 : Nat) (x2 : Int32) (x3 : Int32) (h : AH) (hw : m_Row_put_BII Q r0 r1 x2 x3 h) : ∀ (ls : Array Slot) (H : Heap) (locs : List Loc) (cells slots : Nat), lv_has ls 4 [(0, .ref r0), (1, .ref r1), (2, .int x2), (3, .int x3)] → fx_F D h0 h H locs cells slots → W p l e R s m args below meth c H locs cells slots (fx_Z D below s h0 (fx_oV Q fx_no)) (F0 m 0 ls []) := by
  unfold m_Row_put_BII at hw
  intro ls H locs cells slots hv F
  refine lv_aload_n C.ex C.by d_Row_put_BII_0 rfl (lv_at hv 0 rfl) ?_
  refine lv_iload_n C.ex C.by d_Row_put_BII_1 rfl (lv_at hv 3 rfl) ?_
  obtain ⟨hk1, hw⟩ := hw
  refine fx_callV C F (c_Row_room hl hw) hm_Row_room hi_Row_room hv.1 (by decide) (Nat.le_of_ble_eq_true rfl) (iv_Row_room C F lm_Row_29 hk1 d_Row_put_BII_2) (fx_out0 _) fx_eno (fun h1 H locs cells slots hw hx1 F => ?_)
  replace hw := hw hx1
  have hk1 := (hx1).k hk1
  refine lv_aload_n C.ex C.by d_Row_put_BII_5 rfl (lv_at hv 1 rfl) ?_
  refine lv_iload_n C.ex C.by d_Row_put_BII_6 rfl (lv_at hv 2 rfl) ?_
  refine lv_aload_n C.ex C.by d_Row_put_BII_7 rfl (lv_at hv 0 rfl) ?_
  obtain ⟨b1, hb1, hw⟩ := hw
  refine fx_getR C F lf_Row_7 hk1 rfl hb1 d_Row_put_BII_8 ?_
  refine lv_aload_n C.ex C.by d_Row_put_BII_11 rfl (lv_at hv 0 rfl) ?_
  refine fx_getI C F lf_Row_13 hk1 rfl d_Row_put_BII_12 ?_
  refine lv_iload_n C.ex C.by d_Row_put_BII_15 rfl (lv_at hv 3 rfl) ?_
  obtain ⟨hk2, hw⟩ := hw
  obtain ⟨hk3, hw⟩ := hw
  obtain ⟨g1, g2, g3, g4, g5, hw⟩ := hw
  let h2 : AH := up_CI h1 r1 x2.toNatClampNeg b1 (hp_I h1 r0 1).toNatClampNeg x3.toNatClampNeg
  replace hw := hw h2 rfl
  refine fx_copyB C F (fx_m3 (List.mem_of_getElem? (i := 25) rfl)) (fx_m3 (List.mem_of_getElem? (i := 27) rfl)) (fx_m3 (List.mem_of_getElem? (i := 26) rfl)) (fx_m1 (List.mem_of_getElem? (i := 21) rfl)) hv.1 hk2 hk3 g1 g2 g3 g4 g5 (by decide) (Nat.le_of_ble_eq_true rfl) d_Row_put_BII_16 (fun H locs (F : fx_F D h0 h2 H locs _ _) => ?_)
  refine lv_aload_n C.ex C.by d_Row_put_BII_19 rfl (lv_at hv 0 rfl) ?_
  refine lv_dup C.ex C.by d_Row_put_BII_20 rfl ?_
  refine fx_getI C F lf_Row_13 hk1 rfl d_Row_put_BII_21 ?_
  refine lv_iload_n C.ex C.by d_Row_put_BII_24 rfl (lv_at hv 3 rfl) ?_
  refine lv_iadd C.ex C.by d_Row_put_BII_25 ?_
  let h3 : AH := up_I h2 r0 1 ((hp_I h2 r0 1) + x3)
  replace hw := hw h3 rfl
  refine fx_putI C F lf_Row_13 hk1 rfl rfl (fx_mayF.no rfl rfl) d_Row_put_BII_26 (fun H locs (F : fx_F D h0 h3 H locs _ _) => ?_)
  exact fx_vret C F d_Row_put_BII_29 (Or.inl ⟨rfl, hw⟩)
theorem hm_Row_put_BII : fx_hd y_Row_put_BII prog_11_method_4_code 4 (none) [] ∈ tables_1 := (fx_m5 (List.mem_of_getElem? (i := 129) rfl))
theorem hi_Row_put_BII : Cond.initialized y_Row_put_BII.cls ∈ tables_1 := (fx_m1 (List.mem_of_getElem? (i := 2) rfl))
theorem c_Row_put_BII {l : Launch} (hl : l.flags = flags0) {D : DD} {Q : AH → Prop} {r0 : Nat} {r1 : Nat} {x2 : Int32} {x3 : Int32} {h : AH} (hw : m_Row_put_BII Q r0 r1 x2 x3 h) : fx_Mt l D y_Row_put_BII (fx_hd y_Row_put_BII prog_11_method_4_code 4 (none) []) 2 32 [.ref r0, .ref r1, .int x2, .int x3] h (fx_oV Q fx_no) := by
  refine fx_ofW (plainFor_of_name (by decide)) (fun p e s m below meth c C F => ?_)
  have hv := lv_entry ([.ref r0, .ref r1, .int x2, .int x3]) (n := 4) (Nat.le_of_ble_eq_true rfl)
  rw [lg_entry_eq]
  generalize (lg_sl ([.ref r0, .ref r1, .int x2, .int x3]) ++ List.replicate (4 - (lg_sl ([.ref r0, .ref r1, .int x2, .int x3])).length) Slot.unset).toArray = ls at hv ⊢
  have hv : lv_has ls 4 [(0, .ref r0), (1, .ref r1), (2, .int x2), (3, .int x3)] := hv
  exact b_Row_put_BII_0 C hl _ _ _ _ _ hw _ _ _ _ _ hv F
/-! ChainJudge.host()I: frames 6, words 81, throws -/
abbrev y_J_host : MethodName := ⟨"ChainJudge", "host", "()I"⟩
theorem lm_J_278 : Cond.methodLink "ChainJudge" 278 y_Row_put_BII ∈ tables_1 ∨ ∃ host, Cond.methodLinkNest "ChainJudge" 278 y_Row_put_BII host ∈ tables_1 := Or.inl (fx_m5 (List.mem_of_getElem? (i := 126) rfl))
section
variable {p : Program} {l : Launch} {e : Env} {R : Room} {s : State} {m : MethodId} {args : Array Value} {below : List Frame} {meth : Method} {c : Code} {H : Heap} {locs : List Loc} {cells slots : Nat}
variable {D : DD} {y : MethodName} {cc : ByteArray} {nL kf kw : Nat} {ret : Option FieldType} {hh : List (Nat × Nat × Nat × Nat)} {h0 h : AH} {pc : Nat} {ls : Array Slot} {rest : List Value} {b idx : Nat}
theorem iv_Row_put_BII {r1 : Nat} {x2 : Int32} {x3 : Int32} (C : fx_CX D y cc nL kf kw ret hh h0 p R s m meth c) (F : fx_F D h0 h H locs cells slots) (hw1 : Cond.methodLink y.cls idx y_Row_put_BII ∈ tables_1 ∨ ∃ host, Cond.methodLinkNest y.cls idx y_Row_put_BII host ∈ tables_1) (hk : hp_k h b = 2) (hd : decode cc pc = .ok (.invokevirtual idx, 3)) : fx_IV p l e R s m args below meth c H locs cells slots (F0 m pc ls (.int x3 :: .int x2 :: .ref r1 :: .ref b :: rest)) rest y_Row_put_BII [.ref b, .ref r1, .int x2, .int x3] 3 := fun T hT X => fx_invV (As := [.ref r1, .int x2, .int x3]) (Cn := "ChainJudge$Row") C X hw1 (fx_m5 (List.mem_of_getElem? (i := 127) rfl)) (fx_selW C (fx_m5 (List.mem_of_getElem? (i := 128) rfl))) hm_Row_put_BII ⟨by decide, by decide⟩ (by rw [hT]; exact fx_clsO (ci := 1) (r := ("ChainJudge$Row", fx_T1, 2)) C F rfl (by decide) hk) rfl (n := 3) (by decide +kernel) rfl rfl hd
end
def dl_J_host : List (Nat × Instr × Nat) := [(0, .aload_n 0, 1), (1, .getfield 14, 3), (4, .getfield 96, 3), (7, .sipush 255, 3), (10, .if_icmp .le 11, 3), (13, .new 107, 3), (16, .dup, 1), (17, .invokespecial 109, 3), (20, .athrow, 1), (21, .iconst 0, 1), (22, .istore_n 1, 1), (23, .iload_n 1, 1), (24, .aload_n 0, 1), (25, .getfield 14, 3), (28, .getfield 96, 3), (31, .if_icmp .ge 45, 3), (34, .aload_n 0, 1), (35, .getfield 14, 3), (38, .getfield 110, 3), (41, .iload_n 1, 1), (42, .baload, 1), (43, .bipush 33, 2), (45, .if_icmp .lt 17, 3), (48, .aload_n 0, 1), (49, .getfield 14, 3), (52, .getfield 110, 3), (55, .iload_n 1, 1), (56, .baload, 1), (57, .bipush 126, 2), (59, .if_icmp .le 11, 3), (62, .new 107, 3), (65, .dup, 1), (66, .invokespecial 109, 3), (69, .athrow, 1), (70, .iinc 1 1, 3), (73, .goto (-50), 3), (76, .aload_n 0, 1), (77, .getfield 20, 3), (80, .iconst 0, 1), (81, .putfield 96, 3), (84, .aload_n 0, 1), (85, .getfield 20, 3), (88, .aload_n 0, 1), (89, .getfield 14, 3), (92, .getfield 110, 3), (95, .iconst 0, 1), (96, .aload_n 0, 1), (97, .getfield 14, 3), (100, .getfield 96, 3), (103, .invokevirtual 278, 3), (106, .aload_n 0, 1), (107, .getfield 14, 3), (110, .iconst 0, 1), (111, .putfield 96, 3), (114, .aload_n 0, 1), (115, .getfield 20, 3), (118, .getfield 96, 3), (121, .ireturn, 1)]
theorem dk_J_host : fx_dec prog_1_method_23_code dl_J_host = true := by decide +kernel
theorem d_J_host_0 : decode prog_1_method_23_code 0 = .ok (.aload_n 0, 1) := fx_dat dk_J_host 0 rfl
theorem d_J_host_1 : decode prog_1_method_23_code 1 = .ok (.getfield 14, 3) := fx_dat dk_J_host 1 rfl
theorem d_J_host_4 : decode prog_1_method_23_code 4 = .ok (.getfield 96, 3) := fx_dat dk_J_host 2 rfl
theorem d_J_host_7 : decode prog_1_method_23_code 7 = .ok (.sipush 255, 3) := fx_dat dk_J_host 3 rfl
theorem d_J_host_10 : decode prog_1_method_23_code 10 = .ok (.if_icmp .le 11, 3) := fx_dat dk_J_host 4 rfl
theorem d_J_host_13 : decode prog_1_method_23_code 13 = .ok (.new 107, 3) := fx_dat dk_J_host 5 rfl
theorem d_J_host_16 : decode prog_1_method_23_code 16 = .ok (.dup, 1) := fx_dat dk_J_host 6 rfl
theorem d_J_host_17 : decode prog_1_method_23_code 17 = .ok (.invokespecial 109, 3) := fx_dat dk_J_host 7 rfl
theorem d_J_host_20 : decode prog_1_method_23_code 20 = .ok (.athrow, 1) := fx_dat dk_J_host 8 rfl
theorem d_J_host_21 : decode prog_1_method_23_code 21 = .ok (.iconst 0, 1) := fx_dat dk_J_host 9 rfl
theorem d_J_host_22 : decode prog_1_method_23_code 22 = .ok (.istore_n 1, 1) := fx_dat dk_J_host 10 rfl
theorem d_J_host_23 : decode prog_1_method_23_code 23 = .ok (.iload_n 1, 1) := fx_dat dk_J_host 11 rfl
theorem d_J_host_24 : decode prog_1_method_23_code 24 = .ok (.aload_n 0, 1) := fx_dat dk_J_host 12 rfl
theorem d_J_host_25 : decode prog_1_method_23_code 25 = .ok (.getfield 14, 3) := fx_dat dk_J_host 13 rfl
theorem d_J_host_28 : decode prog_1_method_23_code 28 = .ok (.getfield 96, 3) := fx_dat dk_J_host 14 rfl
theorem d_J_host_31 : decode prog_1_method_23_code 31 = .ok (.if_icmp .ge 45, 3) := fx_dat dk_J_host 15 rfl
theorem d_J_host_34 : decode prog_1_method_23_code 34 = .ok (.aload_n 0, 1) := fx_dat dk_J_host 16 rfl
theorem d_J_host_35 : decode prog_1_method_23_code 35 = .ok (.getfield 14, 3) := fx_dat dk_J_host 17 rfl
theorem d_J_host_38 : decode prog_1_method_23_code 38 = .ok (.getfield 110, 3) := fx_dat dk_J_host 18 rfl
theorem d_J_host_41 : decode prog_1_method_23_code 41 = .ok (.iload_n 1, 1) := fx_dat dk_J_host 19 rfl
theorem d_J_host_42 : decode prog_1_method_23_code 42 = .ok (.baload, 1) := fx_dat dk_J_host 20 rfl
theorem d_J_host_43 : decode prog_1_method_23_code 43 = .ok (.bipush 33, 2) := fx_dat dk_J_host 21 rfl
theorem d_J_host_45 : decode prog_1_method_23_code 45 = .ok (.if_icmp .lt 17, 3) := fx_dat dk_J_host 22 rfl
theorem d_J_host_48 : decode prog_1_method_23_code 48 = .ok (.aload_n 0, 1) := fx_dat dk_J_host 23 rfl
theorem d_J_host_49 : decode prog_1_method_23_code 49 = .ok (.getfield 14, 3) := fx_dat dk_J_host 24 rfl
theorem d_J_host_52 : decode prog_1_method_23_code 52 = .ok (.getfield 110, 3) := fx_dat dk_J_host 25 rfl
theorem d_J_host_55 : decode prog_1_method_23_code 55 = .ok (.iload_n 1, 1) := fx_dat dk_J_host 26 rfl
theorem d_J_host_56 : decode prog_1_method_23_code 56 = .ok (.baload, 1) := fx_dat dk_J_host 27 rfl
theorem d_J_host_57 : decode prog_1_method_23_code 57 = .ok (.bipush 126, 2) := fx_dat dk_J_host 28 rfl
theorem d_J_host_59 : decode prog_1_method_23_code 59 = .ok (.if_icmp .le 11, 3) := fx_dat dk_J_host 29 rfl
theorem d_J_host_62 : decode prog_1_method_23_code 62 = .ok (.new 107, 3) := fx_dat dk_J_host 30 rfl
theorem d_J_host_65 : decode prog_1_method_23_code 65 = .ok (.dup, 1) := fx_dat dk_J_host 31 rfl
theorem d_J_host_66 : decode prog_1_method_23_code 66 = .ok (.invokespecial 109, 3) := fx_dat dk_J_host 32 rfl
theorem d_J_host_69 : decode prog_1_method_23_code 69 = .ok (.athrow, 1) := fx_dat dk_J_host 33 rfl
theorem d_J_host_70 : decode prog_1_method_23_code 70 = .ok (.iinc 1 1, 3) := fx_dat dk_J_host 34 rfl
theorem d_J_host_73 : decode prog_1_method_23_code 73 = .ok (.goto (-50), 3) := fx_dat dk_J_host 35 rfl
theorem d_J_host_76 : decode prog_1_method_23_code 76 = .ok (.aload_n 0, 1) := fx_dat dk_J_host 36 rfl
theorem d_J_host_77 : decode prog_1_method_23_code 77 = .ok (.getfield 20, 3) := fx_dat dk_J_host 37 rfl
theorem d_J_host_80 : decode prog_1_method_23_code 80 = .ok (.iconst 0, 1) := fx_dat dk_J_host 38 rfl
theorem d_J_host_81 : decode prog_1_method_23_code 81 = .ok (.putfield 96, 3) := fx_dat dk_J_host 39 rfl
theorem d_J_host_84 : decode prog_1_method_23_code 84 = .ok (.aload_n 0, 1) := fx_dat dk_J_host 40 rfl
theorem d_J_host_85 : decode prog_1_method_23_code 85 = .ok (.getfield 20, 3) := fx_dat dk_J_host 41 rfl
theorem d_J_host_88 : decode prog_1_method_23_code 88 = .ok (.aload_n 0, 1) := fx_dat dk_J_host 42 rfl
theorem d_J_host_89 : decode prog_1_method_23_code 89 = .ok (.getfield 14, 3) := fx_dat dk_J_host 43 rfl
theorem d_J_host_92 : decode prog_1_method_23_code 92 = .ok (.getfield 110, 3) := fx_dat dk_J_host 44 rfl
theorem d_J_host_95 : decode prog_1_method_23_code 95 = .ok (.iconst 0, 1) := fx_dat dk_J_host 45 rfl
theorem d_J_host_96 : decode prog_1_method_23_code 96 = .ok (.aload_n 0, 1) := fx_dat dk_J_host 46 rfl
theorem d_J_host_97 : decode prog_1_method_23_code 97 = .ok (.getfield 14, 3) := fx_dat dk_J_host 47 rfl
theorem d_J_host_100 : decode prog_1_method_23_code 100 = .ok (.getfield 96, 3) := fx_dat dk_J_host 48 rfl
theorem d_J_host_103 : decode prog_1_method_23_code 103 = .ok (.invokevirtual 278, 3) := fx_dat dk_J_host 49 rfl
theorem d_J_host_106 : decode prog_1_method_23_code 106 = .ok (.aload_n 0, 1) := fx_dat dk_J_host 50 rfl
theorem d_J_host_107 : decode prog_1_method_23_code 107 = .ok (.getfield 14, 3) := fx_dat dk_J_host 51 rfl
theorem d_J_host_110 : decode prog_1_method_23_code 110 = .ok (.iconst 0, 1) := fx_dat dk_J_host 52 rfl
theorem d_J_host_111 : decode prog_1_method_23_code 111 = .ok (.putfield 96, 3) := fx_dat dk_J_host 53 rfl
theorem d_J_host_114 : decode prog_1_method_23_code 114 = .ok (.aload_n 0, 1) := fx_dat dk_J_host 54 rfl
theorem d_J_host_115 : decode prog_1_method_23_code 115 = .ok (.getfield 20, 3) := fx_dat dk_J_host 55 rfl
theorem d_J_host_118 : decode prog_1_method_23_code 118 = .ok (.getfield 96, 3) := fx_dat dk_J_host 56 rfl
theorem d_J_host_121 : decode prog_1_method_23_code 121 = .ok (.ireturn, 1) := fx_dat dk_J_host 57 rfl
def m_J_host_62 (Q : Int32 → AH → Prop) (E : Nat → AH → Prop) (h : AH) : Prop := fx_has h 6 ∧ ∀ (_ : fx_wf h) (q1 : Nat), q1 = hp_z h → ∀ h1 : AH, h1 = up_N h 14 0 6 → E q1 h1
def m_J_host_23_b (Q : Int32 → AH → Prop) (E : Nat → AH → Prop) (X23 : Int32 × AH → Prop) (r0 : Nat) (x1 : Int32) (h : AH) : Prop := hp_k h r0 = 1 ∧ ∃ b1, hp_R h r0 0 = some b1 ∧ hp_k h b1 = 2 ∧ ((hp_I h b1 1) ≤ x1 → ∃ b2, hp_R h r0 1 = some b2 ∧ hp_k h b2 = 2 ∧ ∀ h1 : AH, h1 = up_I h b2 1 (0 : Int32) → ∃ b3, hp_R h1 b1 0 = some b3 ∧ m_Row_put_BII (fun h2 => fx_ext h1 h2 → ∃ b4, hp_R h2 r0 0 = some b4 ∧ hp_k h2 b4 = 2 ∧ ∀ h3 : AH, h3 = up_I h2 b4 1 (0 : Int32) → ∃ b5, hp_R h3 r0 1 = some b5 ∧ hp_k h3 b5 = 2 ∧ Q (hp_I h3 b5 1) h3) b2 b3 (0 : Int32) (hp_I h1 b1 1) h1) ∧ (¬ (hp_I h b1 1) ≤ x1 → ∃ b6, hp_R h b1 0 = some b6 ∧ bk (hp_k h b6) ∧ vp_in x1 (hp_n h b6) ∧ (by8 (hp_I h b6 x1.toNatClampNeg) → ((hp_I h b6 x1.toNatClampNeg) < (33 : Int32) → m_J_host_62 Q E h) ∧ (¬ (hp_I h b6 x1.toNatClampNeg) < (33 : Int32) → vp_in x1 (hp_n h b6) ∧ (by8 (hp_I h b6 x1.toNatClampNeg) → ((hp_I h b6 x1.toNatClampNeg) ≤ (126 : Int32) → ∀ v1 : Int32, v1 = (x1 + (1 : Int32)) → X23 (v1, h)) ∧ (¬ (hp_I h b6 x1.toNatClampNeg) ≤ (126 : Int32) → m_J_host_62 Q E h)))))
def m_J_host_23 (Q : Int32 → AH → Prop) (E : Nat → AH → Prop) (r0 : Nat) (x1 : Int32) (h : AH) : Prop := fx_loop (fun (X23 : Int32 × AH → Prop) (st : Int32 × AH) => m_J_host_23_b Q E X23 r0 st.1 st.2) (x1, h)
def m_J_host (Q : Int32 → AH → Prop) (E : Nat → AH → Prop) (r0 : Nat) (h : AH) : Prop := hp_k h r0 = 1 ∧ ∃ b1, hp_R h r0 0 = some b1 ∧ hp_k h b1 = 2 ∧ ((hp_I h b1 1) ≤ (255 : Int32) → m_J_host_23 Q E r0 (0 : Int32) h) ∧ (¬ (hp_I h b1 1) ≤ (255 : Int32) → fx_has h 6 ∧ ∀ (_ : fx_wf h) (q1 : Nat), q1 = hp_z h → ∀ h1 : AH, h1 = up_N h 14 0 6 → E q1 h1)
theorem b_J_host_62 {p : Program} {l : Launch} {e : Env} {R : Room} {s : State} {m : MethodId} {args : Array Value} {below : List Frame} {meth : Method} {c : Code} {D : DD} {h0 : AH} {Q : Int32 → AH → Prop} {E : Nat → AH → Prop} (C : fx_CX D y_J_host prog_1_method_23_code 2 6 81 (Option.some FieldType.int) [] h0 p R s m meth c) (hl : l.flags = flags0) (h : AH) (hw : m_J_host_62 Q E h) : ∀ (ls : Array Slot) (H : Heap) (locs : List Loc) (cells slots : Nat), lv_has ls 2 [] → fx_F D h0 h H locs cells slots → W p l e R s m args below meth c H locs cells slots (fx_Z D below s h0 (fx_oI Q E)) (F0 m 62 ls []) := by
  unfold m_J_host_62 at hw
  intro ls H locs cells slots hv F
  obtain ⟨hs, hw⟩ := hw
  let q1 : Nat := hp_z h
  let h1 : AH := up_N h 14 0 6
  replace hw := hw F.wf q1 rfl h1 rfl
  have hkq1 : hp_k h1 q1 = 14 := fx_nk _ _ _ _
  refine fx_exc (r := ("java/lang/IllegalArgumentException", fx_T13, 0)) (names := fx_rn) C F rfl rfl (fx_m3 (List.mem_of_getElem? (i := 36) rfl)) (fx_m1 (List.mem_of_getElem? (i := 22) rfl)) (by decide +kernel) (by decide +kernel) ex_J_109 hs hv.1 hl d_J_host_62 d_J_host_65 d_J_host_66 (by decide) (Nat.le_of_ble_eq_true rfl) (fun H locs cells slots (F : fx_F D h0 h1 H locs cells slots) => ?_)
  exact fx_athrow C F (fx_out0 _) d_J_host_69 (Or.inr ⟨_, rfl, hw⟩)
theorem b_J_host_23 {p : Program} {l : Launch} {e : Env} {R : Room} {s : State} {m : MethodId} {args : Array Value} {below : List Frame} {meth : Method} {c : Code} {D : DD} {h0 : AH} {Q : Int32 → AH → Prop} {E : Nat → AH → Prop} (C : fx_CX D y_J_host prog_1_method_23_code 2 6 81 (Option.some FieldType.int) [] h0 p R s m meth c) (hl : l.flags = flags0) (r0 : Nat) (x1 : Int32) (h : AH) (hw : m_J_host_23 Q E r0 x1 h) : ∀ (ls : Array Slot) (H : Heap) (locs : List Loc) (cells slots : Nat), lv_has ls 2 [(0, .ref r0), (1, .int x1)] → fx_F D h0 h H locs cells slots → W p l e R s m args below meth c H locs cells slots (fx_Z D below s h0 (fx_oI Q E)) (F0 m 23 ls []) := by
  refine fx_loop.use hw (fun st => ∀ (ls : Array Slot) (H : Heap) (locs : List Loc) (cells slots : Nat), lv_has ls 2 [(0, .ref r0), (1, .int st.1)] → fx_F D h0 st.2 H locs cells slots → W p l e R s m args below meth c H locs cells slots (fx_Z D below s h0 (fx_oI Q E)) (F0 m 23 ls [])) (fun X23 st hX23 hw => ?_)
  obtain ⟨x1, h⟩ := st
  replace hw : m_J_host_23_b Q E X23 r0 x1 h := hw
  unfold m_J_host_23_b at hw
  intro ls H locs cells slots hv F
  refine lv_iload_n C.ex C.by d_J_host_23 rfl (lv_at hv 1 rfl) ?_
  refine lv_aload_n C.ex C.by d_J_host_24 rfl (lv_at hv 0 rfl) ?_
  obtain ⟨hk1, hw⟩ := hw
  obtain ⟨b1, hb1, hw⟩ := hw
  refine fx_getR C F lf_J_14 hk1 rfl hb1 d_J_host_25 ?_
  obtain ⟨hk2, hw⟩ := hw
  refine fx_getI C F lf_J_96 hk2 rfl d_J_host_28 ?_
  refine lv_icmp_ge C.ex C.by d_J_host_31 rfl (fun hc => ?_) (fun hc => ?_)
  · replace hw := hw.1 hc
    refine lv_aload_n C.ex C.by d_J_host_76 rfl (lv_at hv 0 rfl) ?_
    obtain ⟨b2, hb2, hw⟩ := hw
    refine fx_getR C F lf_J_20 hk1 rfl hb2 d_J_host_77 ?_
    refine lv_iconst (v := (0 : Int32)) C.ex C.by d_J_host_80 (by decide) ?_
    obtain ⟨hk3, hw⟩ := hw
    let h1 : AH := up_I h b2 1 (0 : Int32)
    replace hw := hw h1 rfl
    refine fx_putI C F lf_J_96 hk3 rfl rfl (fx_mayF.no rfl rfl) d_J_host_81 (fun H locs (F : fx_F D h0 h1 H locs _ _) => ?_)
    refine lv_aload_n C.ex C.by d_J_host_84 rfl (lv_at hv 0 rfl) ?_
    refine fx_getR C F lf_J_20 hk1 rfl hb2 d_J_host_85 ?_
    refine lv_aload_n C.ex C.by d_J_host_88 rfl (lv_at hv 0 rfl) ?_
    refine fx_getR C F lf_J_14 hk1 rfl hb1 d_J_host_89 ?_
    obtain ⟨b3, hb3, hw⟩ := hw
    refine fx_getR C F lf_J_110 hk2 rfl hb3 d_J_host_92 ?_
    refine lv_iconst (v := (0 : Int32)) C.ex C.by d_J_host_95 (by decide) ?_
    refine lv_aload_n C.ex C.by d_J_host_96 rfl (lv_at hv 0 rfl) ?_
    refine fx_getR C F lf_J_14 hk1 rfl hb1 d_J_host_97 ?_
    refine fx_getI C F lf_J_96 hk2 rfl d_J_host_100 ?_
    refine fx_callV C F (c_Row_put_BII hl hw) hm_Row_put_BII hi_Row_put_BII hv.1 (by decide) (Nat.le_of_ble_eq_true rfl) (iv_Row_put_BII C F lm_J_278 hk3 d_J_host_103) (fx_out0 _) fx_eno (fun h2 H locs cells slots hw hx1 F => ?_)
    replace hw := hw hx1
    have hk2 := (hx1).k hk2
    have hk3 := (hx1).k hk3
    have hk1 := (hx1).k hk1
    refine lv_aload_n C.ex C.by d_J_host_106 rfl (lv_at hv 0 rfl) ?_
    obtain ⟨b4, hb4, hw⟩ := hw
    refine fx_getR C F lf_J_14 hk1 rfl hb4 d_J_host_107 ?_
    refine lv_iconst (v := (0 : Int32)) C.ex C.by d_J_host_110 (by decide) ?_
    obtain ⟨hk4, hw⟩ := hw
    let h3 : AH := up_I h2 b4 1 (0 : Int32)
    replace hw := hw h3 rfl
    refine fx_putI C F lf_J_96 hk4 rfl rfl (fx_mayF.no rfl rfl) d_J_host_111 (fun H locs (F : fx_F D h0 h3 H locs _ _) => ?_)
    refine lv_aload_n C.ex C.by d_J_host_114 rfl (lv_at hv 0 rfl) ?_
    obtain ⟨b5, hb5, hw⟩ := hw
    refine fx_getR C F lf_J_20 hk1 rfl hb5 d_J_host_115 ?_
    obtain ⟨hk5, hw⟩ := hw
    refine fx_getI C F lf_J_96 hk5 rfl d_J_host_118 ?_
    exact fx_iret C F d_J_host_121 (Or.inl ⟨_, rfl, hw⟩)
  · replace hw := hw.2 hc
    refine lv_aload_n C.ex C.by d_J_host_34 rfl (lv_at hv 0 rfl) ?_
    refine fx_getR C F lf_J_14 hk1 rfl hb1 d_J_host_35 ?_
    obtain ⟨b6, hb6, hw⟩ := hw
    refine fx_getR C F lf_J_110 hk2 rfl hb6 d_J_host_38 ?_
    refine lv_iload_n C.ex C.by d_J_host_41 rfl (lv_at hv 1 rfl) ?_
    obtain ⟨hk6, hw⟩ := hw
    obtain ⟨hi1, hw⟩ := hw
    refine fx_bald C F hk6 hi1 d_J_host_42 (fun h8 => ?_)
    replace hw := hw h8
    refine lv_bipush (v := (33 : Int32)) C.ex C.by d_J_host_43 (by decide) ?_
    refine lv_icmp_lt C.ex C.by d_J_host_45 rfl (fun hc => ?_) (fun hc => ?_)
    · replace hw := hw.1 hc
      exact b_J_host_62 C hl _ hw _ _ _ _ _ (lv_sub hv [] rfl) F
    · replace hw := hw.2 hc
      refine lv_aload_n C.ex C.by d_J_host_48 rfl (lv_at hv 0 rfl) ?_
      refine fx_getR C F lf_J_14 hk1 rfl hb1 d_J_host_49 ?_
      refine fx_getR C F lf_J_110 hk2 rfl hb6 d_J_host_52 ?_
      refine lv_iload_n C.ex C.by d_J_host_55 rfl (lv_at hv 1 rfl) ?_
      obtain ⟨hi2, hw⟩ := hw
      refine fx_bald C F hk6 hi2 d_J_host_56 (fun h8 => ?_)
      replace hw := hw h8
      refine lv_bipush (v := (126 : Int32)) C.ex C.by d_J_host_57 (by decide) ?_
      refine lv_icmp_le C.ex C.by d_J_host_59 rfl (fun hc => ?_) (fun hc => ?_)
      · replace hw := hw.1 hc
        let v1 : Int32 := (x1 + (1 : Int32))
        replace hw := hw v1 rfl
        refine lv_iinc (v := v1) (k := 1) (lv' := [(1, .int v1), (0, .ref r0)]) C.ex C.by d_J_host_70 hv rfl (congrArg (fun z => x1 + z) (by decide)) (by decide) rfl (fun ls hv => ?_)
        refine lv_goto C.ex C.by d_J_host_73 rfl ?_
        exact hX23 _ hw _ _ _ _ _ (lv_sub hv [1, 0] rfl) F
      · replace hw := hw.2 hc
        exact b_J_host_62 C hl _ hw _ _ _ _ _ (lv_sub hv [] rfl) F
theorem b_J_host_0 {p : Program} {l : Launch} {e : Env} {R : Room} {s : State} {m : MethodId} {args : Array Value} {below : List Frame} {meth : Method} {c : Code} {D : DD} {h0 : AH} {Q : Int32 → AH → Prop} {E : Nat → AH → Prop} (C : fx_CX D y_J_host prog_1_method_23_code 2 6 81 (Option.some FieldType.int) [] h0 p R s m meth c) (hl : l.flags = flags0) (r0 : Nat) (h : AH) (hw : m_J_host Q E r0 h) : ∀ (ls : Array Slot) (H : Heap) (locs : List Loc) (cells slots : Nat), lv_has ls 2 [(0, .ref r0)] → fx_F D h0 h H locs cells slots → W p l e R s m args below meth c H locs cells slots (fx_Z D below s h0 (fx_oI Q E)) (F0 m 0 ls []) := by
  unfold m_J_host at hw
  intro ls H locs cells slots hv F
  refine lv_aload_n C.ex C.by d_J_host_0 rfl (lv_at hv 0 rfl) ?_
  obtain ⟨hk1, hw⟩ := hw
  obtain ⟨b1, hb1, hw⟩ := hw
  refine fx_getR C F lf_J_14 hk1 rfl hb1 d_J_host_1 ?_
  obtain ⟨hk2, hw⟩ := hw
  refine fx_getI C F lf_J_96 hk2 rfl d_J_host_4 ?_
  refine lv_sipush (v := (255 : Int32)) C.ex C.by d_J_host_7 (by decide) ?_
  refine lv_icmp_le C.ex C.by d_J_host_10 rfl (fun hc => ?_) (fun hc => ?_)
  · replace hw := hw.1 hc
    refine lv_iconst (v := (0 : Int32)) C.ex C.by d_J_host_21 (by decide) ?_
    refine lv_istore_n (lv' := [(1, .int (0 : Int32)), (0, .ref r0)]) C.ex C.by d_J_host_22 rfl hv (by decide) rfl (fun ls hv => ?_)
    exact b_J_host_23 C hl _ _ _ hw _ _ _ _ _ (lv_sub hv [1, 0] rfl) F
  · replace hw := hw.2 hc
    obtain ⟨hs, hw⟩ := hw
    let q1 : Nat := hp_z h
    let h1 : AH := up_N h 14 0 6
    replace hw := hw F.wf q1 rfl h1 rfl
    have hk2 := (F.xN (k := 14) (n := 0) (m := 6)).k hk2
    have hk1 := (F.xN (k := 14) (n := 0) (m := 6)).k hk1
    have hkq1 : hp_k h1 q1 = 14 := fx_nk _ _ _ _
    refine fx_exc (r := ("java/lang/IllegalArgumentException", fx_T13, 0)) (names := fx_rn) C F rfl rfl (fx_m3 (List.mem_of_getElem? (i := 36) rfl)) (fx_m1 (List.mem_of_getElem? (i := 22) rfl)) (by decide +kernel) (by decide +kernel) ex_J_109 hs hv.1 hl d_J_host_13 d_J_host_16 d_J_host_17 (by decide) (Nat.le_of_ble_eq_true rfl) (fun H locs cells slots (F : fx_F D h0 h1 H locs cells slots) => ?_)
    exact fx_athrow C F (fx_out0 _) d_J_host_20 (Or.inr ⟨_, rfl, hw⟩)
theorem hm_J_host : fx_hd y_J_host prog_1_method_23_code 2 (Option.some FieldType.int) [] ∈ tables_1 := (fx_m5 (List.mem_of_getElem? (i := 125) rfl))
theorem hi_J_host : Cond.initialized y_J_host.cls ∈ tables_1 := (fx_m1 (List.mem_of_getElem? (i := 1) rfl))
theorem c_J_host {l : Launch} (hl : l.flags = flags0) {D : DD} {Q : Int32 → AH → Prop} {E : Nat → AH → Prop} {r0 : Nat} {h : AH} (hw : m_J_host Q E r0 h) : fx_Mt l D y_J_host (fx_hd y_J_host prog_1_method_23_code 2 (Option.some FieldType.int) []) 6 81 [.ref r0] h (fx_oI Q E) := by
  refine fx_ofW (plainFor_of_name (by decide)) (fun p e s m below meth c C F => ?_)
  have hv := lv_entry ([.ref r0]) (n := 2) (Nat.le_of_ble_eq_true rfl)
  rw [lg_entry_eq]
  generalize (lg_sl ([.ref r0]) ++ List.replicate (2 - (lg_sl ([.ref r0])).length) Slot.unset).toArray = ls at hv ⊢
  have hv : lv_has ls 2 [(0, .ref r0)] := hv
  exact b_J_host_0 C hl _ _ hw _ _ _ _ _ hv F
/-! ChainJudgeLaw.host(LChainJudge;[J)I: frames 7, words 96 -/
abbrev y_Law_host : MethodName := ⟨"ChainJudgeLaw", "host", "(LChainJudge;[J)I"⟩
theorem lm_Law_55 : Cond.methodLink "ChainJudgeLaw" 55 y_J_host ∈ tables_1 ∨ ∃ host, Cond.methodLinkNest "ChainJudgeLaw" 55 y_J_host host ∈ tables_1 := Or.inl (fx_m5 (List.mem_of_getElem? (i := 122) rfl))
section
variable {p : Program} {l : Launch} {e : Env} {R : Room} {s : State} {m : MethodId} {args : Array Value} {below : List Frame} {meth : Method} {c : Code} {H : Heap} {locs : List Loc} {cells slots : Nat}
variable {D : DD} {y : MethodName} {cc : ByteArray} {nL kf kw : Nat} {ret : Option FieldType} {hh : List (Nat × Nat × Nat × Nat)} {h0 h : AH} {pc : Nat} {ls : Array Slot} {rest : List Value} {b idx : Nat}
theorem iv_J_host (C : fx_CX D y cc nL kf kw ret hh h0 p R s m meth c) (F : fx_F D h0 h H locs cells slots) (hw1 : Cond.methodLink y.cls idx y_J_host ∈ tables_1 ∨ ∃ host, Cond.methodLinkNest y.cls idx y_J_host host ∈ tables_1) (hk : hp_k h b = 1) (hd : decode cc pc = .ok (.invokevirtual idx, 3)) : fx_IV p l e R s m args below meth c H locs cells slots (F0 m pc ls (.ref b :: rest)) rest y_J_host [.ref b] 3 := fun T hT X => fx_invV (As := []) (Cn := "ChainJudge") C X hw1 (fx_m5 (List.mem_of_getElem? (i := 123) rfl)) (fx_selW C (fx_m5 (List.mem_of_getElem? (i := 124) rfl))) hm_J_host ⟨by decide, by decide⟩ (by rw [hT]; exact fx_clsO (ci := 0) (r := ("ChainJudge", fx_T0, 16)) C F rfl (by decide) hk) rfl (n := 0) (by decide +kernel) rfl rfl hd
end
def dl_Law_host : List (Nat × Instr × Nat) := [(0, .aload_n 1, 1), (1, .iconst 0, 1), (2, .aload_n 0, 1), (3, .invokevirtual 55, 3), (6, .i2l, 1), (7, .lastore, 1), (8, .goto 6, 3), (11, .astore_n 2, 1), (12, .iconst 1, 1), (13, .ireturn, 1), (14, .iconst 0, 1), (15, .ireturn, 1)]
theorem dk_Law_host : fx_dec method_13_code dl_Law_host = true := by decide +kernel
theorem d_Law_host_0 : decode method_13_code 0 = .ok (.aload_n 1, 1) := fx_dat dk_Law_host 0 rfl
theorem d_Law_host_1 : decode method_13_code 1 = .ok (.iconst 0, 1) := fx_dat dk_Law_host 1 rfl
theorem d_Law_host_2 : decode method_13_code 2 = .ok (.aload_n 0, 1) := fx_dat dk_Law_host 2 rfl
theorem d_Law_host_3 : decode method_13_code 3 = .ok (.invokevirtual 55, 3) := fx_dat dk_Law_host 3 rfl
theorem d_Law_host_6 : decode method_13_code 6 = .ok (.i2l, 1) := fx_dat dk_Law_host 4 rfl
theorem d_Law_host_7 : decode method_13_code 7 = .ok (.lastore, 1) := fx_dat dk_Law_host 5 rfl
theorem d_Law_host_8 : decode method_13_code 8 = .ok (.goto 6, 3) := fx_dat dk_Law_host 6 rfl
theorem d_Law_host_11 : decode method_13_code 11 = .ok (.astore_n 2, 1) := fx_dat dk_Law_host 7 rfl
theorem d_Law_host_12 : decode method_13_code 12 = .ok (.iconst 1, 1) := fx_dat dk_Law_host 8 rfl
theorem d_Law_host_13 : decode method_13_code 13 = .ok (.ireturn, 1) := fx_dat dk_Law_host 9 rfl
theorem d_Law_host_14 : decode method_13_code 14 = .ok (.iconst 0, 1) := fx_dat dk_Law_host 10 rfl
theorem d_Law_host_15 : decode method_13_code 15 = .ok (.ireturn, 1) := fx_dat dk_Law_host 11 rfl
def m_Law_host (Q : Int32 → AH → Prop) (r0 : Nat) (r1 : Nat) (h : AH) : Prop := hp_k h r0 = 1 ∧ m_J_host (fun v1 h1 => fx_ext h h1 → hp_k h1 r1 = 103 ∧ vp_in (0 : Int32) (hp_n h1 r1) ∧ ∀ h2 : AH, h2 = up_L h1 r1 ((0 : Int32)).toNatClampNeg ((v1).toInt64) → Q (0 : Int32) h2) (fun q1 h3 => fx_ext h h3 → (hp_k h3 q1 = 14 ∧ Q (1 : Int32) h3)) r0 h
theorem b_Law_host_0 {p : Program} {l : Launch} {e : Env} {R : Room} {s : State} {m : MethodId} {args : Array Value} {below : List Frame} {meth : Method} {c : Code} {D : DD} {h0 : AH} {Q : Int32 → AH → Prop} (C : fx_CX D y_Law_host method_13_code 3 7 96 (Option.some FieldType.int) [(0, 8, 11, 19)] h0 p R s m meth c) (hl : l.flags = flags0) (r0 : Nat) (r1 : Nat) (h : AH) (hw : m_Law_host Q r0 r1 h) : ∀ (ls : Array Slot) (H : Heap) (locs : List Loc) (cells slots : Nat), lv_has ls 3 [(0, .ref r0), (1, .ref r1)] → fx_F D h0 h H locs cells slots → W p l e R s m args below meth c H locs cells slots (fx_Z D below s h0 (fx_oI Q fx_no)) (F0 m 0 ls []) := by
  unfold m_Law_host at hw
  intro ls H locs cells slots hv F
  refine lv_aload_n C.ex C.by d_Law_host_0 rfl (lv_at hv 1 rfl) ?_
  refine lv_iconst (v := (0 : Int32)) C.ex C.by d_Law_host_1 (by decide) ?_
  refine lv_aload_n C.ex C.by d_Law_host_2 rfl (lv_at hv 0 rfl) ?_
  obtain ⟨hk1, hw⟩ := hw
  refine fx_callIc C F (c_J_host hl hw) hm_J_host hi_J_host hv.1 (by decide) (Nat.le_of_ble_eq_true rfl) (iv_J_host C F lm_Law_55 hk1 d_Law_host_3) (fun v1 h1 H locs cells slots hw hx1 F => ?_) (fun q1 h3 T locs cells slots hw hx1 F X => ?_)
  · replace hw := hw hx1
    have hk1 := (hx1).k hk1
    refine lv_i2l (v := ((v1).toInt64)) C.ex C.by d_Law_host_6 rfl ?_
    obtain ⟨hk2, hw⟩ := hw
    obtain ⟨hi1, hw⟩ := hw
    let h2 : AH := up_L h1 r1 ((0 : Int32)).toNatClampNeg ((v1).toInt64)
    replace hw := hw h2 rfl
    refine fx_last C F hk2 hi1 d_Law_host_7 (fun H locs (F : fx_F D h0 h2 H locs _ _) => ?_)
    refine lv_goto C.ex C.by d_Law_host_8 rfl ?_
    refine lv_iconst (v := (0 : Int32)) C.ex C.by d_Law_host_14 (by decide) ?_
    exact fx_iret C F d_Law_host_15 (Or.inl ⟨_, rfl, hw⟩)
  · replace hw := hw hx1
    rcases hw with ⟨hk9, hw⟩
    · have hp0 : ∀ q ∈ ([] : List ((Nat × Nat × Nat × Nat) × String)), fx_passes "ChainJudgeLaw" "java/lang/IllegalArgumentException" 3 q := by
        intro q hq
        cases hq
      refine fx_caught (ci := 13) (r := ("java/lang/IllegalArgumentException", fx_T13, 0)) C F X rfl (by decide) hk9 [] (0, 8, 11, 19) [] "java/lang/IllegalArgumentException" rfl hp0 rfl (by decide) (fx_m3 (List.mem_of_getElem? (i := 31) rfl)) (fx_m3 (List.mem_of_getElem? (i := 38) rfl)) (fun H locs cells slots F => ?_)
      have hk1 := (hx1).k hk1
      refine lv_astore_n (lv' := [(2, .ref q1), (0, .ref r0), (1, .ref r1)]) C.ex C.by d_Law_host_11 rfl hv (by decide) rfl (fun ls hv => ?_)
      refine lv_iconst (v := (1 : Int32)) C.ex C.by d_Law_host_12 (by decide) ?_
      exact fx_iret C F d_Law_host_13 (Or.inl ⟨_, rfl, hw⟩)
theorem hm_Law_host : fx_hd y_Law_host method_13_code 3 (Option.some FieldType.int) [(0, 8, 11, 19)] ∈ tables_1 := (fx_m5 (List.mem_of_getElem? (i := 121) rfl))
theorem hi_Law_host : Cond.initialized y_Law_host.cls ∈ tables_1 := (fx_m1 (List.mem_of_getElem? (i := 0) rfl))
theorem c_Law_host {l : Launch} (hl : l.flags = flags0) {D : DD} {Q : Int32 → AH → Prop} {r0 : Nat} {r1 : Nat} {h : AH} (hw : m_Law_host Q r0 r1 h) : fx_Mt l D y_Law_host (fx_hd y_Law_host method_13_code 3 (Option.some FieldType.int) [(0, 8, 11, 19)]) 7 96 [.ref r0, .ref r1] h (fx_oI Q fx_no) := by
  refine fx_ofW (plainFor_of_name (by decide)) (fun p e s m below meth c C F => ?_)
  have hv := lv_entry ([.ref r0, .ref r1]) (n := 3) (Nat.le_of_ble_eq_true rfl)
  rw [lg_entry_eq]
  generalize (lg_sl ([.ref r0, .ref r1]) ++ List.replicate (3 - (lg_sl ([.ref r0, .ref r1])).length) Slot.unset).toArray = ls at hv ⊢
  have hv : lv_has ls 3 [(0, .ref r0), (1, .ref r1)] := hv
  exact b_Law_host_0 C hl _ _ _ hw _ _ _ _ _ hv F
/-! ChainJudge$Paths.begin()V: frames 0, words 0 -/
abbrev y_Paths_begin : MethodName := ⟨"ChainJudge$Paths", "begin", "()V"⟩
def dl_Paths_begin : List (Nat × Instr × Nat) := [(0, .aload_n 0, 1), (1, .iconst 0, 1), (2, .putfield 19, 3), (5, .aload_n 0, 1), (6, .iconst 0, 1), (7, .putfield 31, 3), (10, .aload_n 0, 1), (11, .iconst 0, 1), (12, .putfield 23, 3), (15, .aload_n 0, 1), (16, .aconst_null, 1), (17, .putfield 34, 3), (20, .return_, 1)]
theorem dk_Paths_begin : fx_dec prog_9_method_2_code dl_Paths_begin = true := by decide +kernel
theorem d_Paths_begin_0 : decode prog_9_method_2_code 0 = .ok (.aload_n 0, 1) := fx_dat dk_Paths_begin 0 rfl
theorem d_Paths_begin_1 : decode prog_9_method_2_code 1 = .ok (.iconst 0, 1) := fx_dat dk_Paths_begin 1 rfl
theorem d_Paths_begin_2 : decode prog_9_method_2_code 2 = .ok (.putfield 19, 3) := fx_dat dk_Paths_begin 2 rfl
theorem d_Paths_begin_5 : decode prog_9_method_2_code 5 = .ok (.aload_n 0, 1) := fx_dat dk_Paths_begin 3 rfl
theorem d_Paths_begin_6 : decode prog_9_method_2_code 6 = .ok (.iconst 0, 1) := fx_dat dk_Paths_begin 4 rfl
theorem d_Paths_begin_7 : decode prog_9_method_2_code 7 = .ok (.putfield 31, 3) := fx_dat dk_Paths_begin 5 rfl
theorem d_Paths_begin_10 : decode prog_9_method_2_code 10 = .ok (.aload_n 0, 1) := fx_dat dk_Paths_begin 6 rfl
theorem d_Paths_begin_11 : decode prog_9_method_2_code 11 = .ok (.iconst 0, 1) := fx_dat dk_Paths_begin 7 rfl
theorem d_Paths_begin_12 : decode prog_9_method_2_code 12 = .ok (.putfield 23, 3) := fx_dat dk_Paths_begin 8 rfl
theorem d_Paths_begin_15 : decode prog_9_method_2_code 15 = .ok (.aload_n 0, 1) := fx_dat dk_Paths_begin 9 rfl
theorem d_Paths_begin_16 : decode prog_9_method_2_code 16 = .ok (.aconst_null, 1) := fx_dat dk_Paths_begin 10 rfl
theorem d_Paths_begin_17 : decode prog_9_method_2_code 17 = .ok (.putfield 34, 3) := fx_dat dk_Paths_begin 11 rfl
theorem d_Paths_begin_20 : decode prog_9_method_2_code 20 = .ok (.return_, 1) := fx_dat dk_Paths_begin 12 rfl
def m_Paths_begin (Q : AH → Prop) (r0 : Nat) (h : AH) : Prop := hp_k h r0 = 7 ∧ ∀ h1 : AH, h1 = up_I h r0 3 (0 : Int32) → ∀ h2 : AH, h2 = up_I h1 r0 6 (0 : Int32) → ∀ h3 : AH, h3 = up_I h2 r0 4 (0 : Int32) → ∀ h4 : AH, h4 = up_R h3 r0 7 none → Q h4
theorem b_Paths_begin_0 {p : Program} {l : Launch} {e : Env} {R : Room} {s : State} {m : MethodId} {args : Array Value} {below : List Frame} {meth : Method} {c : Code} {D : DD} {h0 : AH} {Q : AH → Prop} (C : fx_CX D y_Paths_begin prog_9_method_2_code 1 0 0 (none) [] h0 p R s m meth c) (hl : l.flags = flags0) (r0 : Nat) (h : AH) (hw : m_Paths_begin Q r0 h) : ∀ (ls : Array Slot) (H : Heap) (locs : List Loc) (cells slots : Nat), lv_has ls 1 [(0, .ref r0)] → fx_F D h0 h H locs cells slots → W p l e R s m args below meth c H locs cells slots (fx_Z D below s h0 (fx_oV Q fx_no)) (F0 m 0 ls []) := by
  unfold m_Paths_begin at hw
  intro ls H locs cells slots hv F
  refine lv_aload_n C.ex C.by d_Paths_begin_0 rfl (lv_at hv 0 rfl) ?_
  refine lv_iconst (v := (0 : Int32)) C.ex C.by d_Paths_begin_1 (by decide) ?_
  obtain ⟨hk1, hw⟩ := hw
  let h1 : AH := up_I h r0 3 (0 : Int32)
  replace hw := hw h1 rfl
  refine fx_putI C F lf_Paths_19 hk1 rfl rfl (fx_mayF.no rfl rfl) d_Paths_begin_2 (fun H locs (F : fx_F D h0 h1 H locs _ _) => ?_)
  refine lv_aload_n C.ex C.by d_Paths_begin_5 rfl (lv_at hv 0 rfl) ?_
  refine lv_iconst (v := (0 : Int32)) C.ex C.by d_Paths_begin_6 (by decide) ?_
  let h2 : AH := up_I h1 r0 6 (0 : Int32)
  replace hw := hw h2 rfl
  refine fx_putI C F lf_Paths_31 hk1 rfl rfl (fx_mayF.no rfl rfl) d_Paths_begin_7 (fun H locs (F : fx_F D h0 h2 H locs _ _) => ?_)
  refine lv_aload_n C.ex C.by d_Paths_begin_10 rfl (lv_at hv 0 rfl) ?_
  refine lv_iconst (v := (0 : Int32)) C.ex C.by d_Paths_begin_11 (by decide) ?_
  let h3 : AH := up_I h2 r0 4 (0 : Int32)
  replace hw := hw h3 rfl
  refine fx_putZ C F lf_Paths_23 hk1 rfl rfl (Or.inl rfl) (fx_mayF.no rfl rfl) d_Paths_begin_12 (fun H locs (F : fx_F D h0 h3 H locs _ _) => ?_)
  refine lv_aload_n C.ex C.by d_Paths_begin_15 rfl (lv_at hv 0 rfl) ?_
  refine lv_null C.ex C.by d_Paths_begin_16 ?_
  let h4 : AH := up_R h3 r0 7 none
  replace hw := hw h4 rfl
  refine fx_putN C F lf_Paths_34 hk1 rfl rfl (fx_mayF.no rfl rfl) d_Paths_begin_17 (fun H locs (F : fx_F D h0 h4 H locs _ _) => ?_)
  exact fx_vret C F d_Paths_begin_20 (Or.inl ⟨rfl, hw⟩)
theorem hm_Paths_begin : fx_hd y_Paths_begin prog_9_method_2_code 1 (none) [] ∈ tables_1 := (fx_m5 (List.mem_of_getElem? (i := 140) rfl))
theorem hi_Paths_begin : Cond.initialized y_Paths_begin.cls ∈ tables_1 := (fx_m1 (List.mem_of_getElem? (i := 10) rfl))
theorem c_Paths_begin {l : Launch} (hl : l.flags = flags0) {D : DD} {Q : AH → Prop} {r0 : Nat} {h : AH} (hw : m_Paths_begin Q r0 h) : fx_Mt l D y_Paths_begin (fx_hd y_Paths_begin prog_9_method_2_code 1 (none) []) 0 0 [.ref r0] h (fx_oV Q fx_no) := by
  refine fx_ofW (plainFor_of_name (by decide)) (fun p e s m below meth c C F => ?_)
  have hv := lv_entry ([.ref r0]) (n := 1) (Nat.le_of_ble_eq_true rfl)
  rw [lg_entry_eq]
  generalize (lg_sl ([.ref r0]) ++ List.replicate (1 - (lg_sl ([.ref r0])).length) Slot.unset).toArray = ls at hv ⊢
  have hv : lv_has ls 1 [(0, .ref r0)] := hv
  exact b_Paths_begin_0 C hl _ _ hw _ _ _ _ _ hv F
/-! ChainJudge$Paths.add([BII)V: frames 15, words 235 -/
abbrev y_Paths_add : MethodName := ⟨"ChainJudge$Paths", "add", "([BII)V"⟩
theorem lm_Paths_42 : Cond.methodLink "ChainJudge$Paths" 42 y_AL_size ∈ tables_1 ∨ ∃ host, Cond.methodLinkNest "ChainJudge$Paths" 42 y_AL_size host ∈ tables_1 := Or.inl (fx_m5 (List.mem_of_getElem? (i := 145) rfl))
theorem lm_Paths_47 : Cond.methodLink "ChainJudge$Paths" 47 y_Cert_init ∈ tables_1 ∨ ∃ host, Cond.methodLinkNest "ChainJudge$Paths" 47 y_Cert_init host ∈ tables_1 := Or.inl (fx_m5 (List.mem_of_getElem? (i := 147) rfl))
theorem lm_Paths_50 : Cond.methodLink "ChainJudge$Paths" 50 y_AL_add_O ∈ tables_1 ∨ ∃ host, Cond.methodLinkNest "ChainJudge$Paths" 50 y_AL_add_O host ∈ tables_1 := Or.inl (fx_m5 (List.mem_of_getElem? (i := 148) rfl))
theorem lm_Paths_54 : Cond.methodLink "ChainJudge$Paths" 54 y_AL_get ∈ tables_1 ∨ ∃ host, Cond.methodLinkNest "ChainJudge$Paths" 54 y_AL_get host ∈ tables_1 := Or.inl (fx_m5 (List.mem_of_getElem? (i := 149) rfl))
theorem lm_Paths_58 : Cond.methodLink "ChainJudge$Paths" 58 y_Cert_parse ∈ tables_1 ∨ ∃ host, Cond.methodLinkNest "ChainJudge$Paths" 58 y_Cert_parse host ∈ tables_1 := Or.inl (fx_m5 (List.mem_of_getElem? (i := 150) rfl))
def dl_Paths_add : List (Nat × Instr × Nat) := [(0, .aload_n 0, 1), (1, .getfield 19, 3), (4, .aload_n 0, 1), (5, .getfield 10, 3), (8, .invokevirtual 42, 3), (11, .if_icmp .ne 22, 3), (14, .aload_n 0, 1), (15, .getfield 10, 3), (18, .new 45, 3), (21, .dup, 1), (22, .aload_n 0, 1), (23, .getfield 38, 3), (26, .invokespecial 47, 3), (29, .invokevirtual 50, 3), (32, .pop, 1), (33, .aload_n 0, 1), (34, .getfield 10, 3), (37, .aload_n 0, 1), (38, .getfield 19, 3), (41, .invokevirtual 54, 3), (44, .checkcast 45, 3), (47, .aload_n 1, 1), (48, .iload_n 2, 1), (49, .iload_n 3, 1), (50, .invokevirtual 58, 3), (53, .ifCond .ne 8, 3), (56, .aload_n 0, 1), (57, .iconst 1, 1), (58, .putfield 23, 3), (61, .aload_n 0, 1), (62, .dup, 1), (63, .getfield 19, 3), (66, .iconst 1, 1), (67, .iadd, 1), (68, .putfield 19, 3), (71, .return_, 1)]
theorem dk_Paths_add : fx_dec prog_9_method_3_code dl_Paths_add = true := by decide +kernel
theorem d_Paths_add_0 : decode prog_9_method_3_code 0 = .ok (.aload_n 0, 1) := fx_dat dk_Paths_add 0 rfl
theorem d_Paths_add_1 : decode prog_9_method_3_code 1 = .ok (.getfield 19, 3) := fx_dat dk_Paths_add 1 rfl
theorem d_Paths_add_4 : decode prog_9_method_3_code 4 = .ok (.aload_n 0, 1) := fx_dat dk_Paths_add 2 rfl
theorem d_Paths_add_5 : decode prog_9_method_3_code 5 = .ok (.getfield 10, 3) := fx_dat dk_Paths_add 3 rfl
theorem d_Paths_add_8 : decode prog_9_method_3_code 8 = .ok (.invokevirtual 42, 3) := fx_dat dk_Paths_add 4 rfl
theorem d_Paths_add_11 : decode prog_9_method_3_code 11 = .ok (.if_icmp .ne 22, 3) := fx_dat dk_Paths_add 5 rfl
theorem d_Paths_add_14 : decode prog_9_method_3_code 14 = .ok (.aload_n 0, 1) := fx_dat dk_Paths_add 6 rfl
theorem d_Paths_add_15 : decode prog_9_method_3_code 15 = .ok (.getfield 10, 3) := fx_dat dk_Paths_add 7 rfl
theorem d_Paths_add_18 : decode prog_9_method_3_code 18 = .ok (.new 45, 3) := fx_dat dk_Paths_add 8 rfl
theorem d_Paths_add_21 : decode prog_9_method_3_code 21 = .ok (.dup, 1) := fx_dat dk_Paths_add 9 rfl
theorem d_Paths_add_22 : decode prog_9_method_3_code 22 = .ok (.aload_n 0, 1) := fx_dat dk_Paths_add 10 rfl
theorem d_Paths_add_23 : decode prog_9_method_3_code 23 = .ok (.getfield 38, 3) := fx_dat dk_Paths_add 11 rfl
theorem d_Paths_add_26 : decode prog_9_method_3_code 26 = .ok (.invokespecial 47, 3) := fx_dat dk_Paths_add 12 rfl
theorem d_Paths_add_29 : decode prog_9_method_3_code 29 = .ok (.invokevirtual 50, 3) := fx_dat dk_Paths_add 13 rfl
theorem d_Paths_add_32 : decode prog_9_method_3_code 32 = .ok (.pop, 1) := fx_dat dk_Paths_add 14 rfl
theorem d_Paths_add_33 : decode prog_9_method_3_code 33 = .ok (.aload_n 0, 1) := fx_dat dk_Paths_add 15 rfl
theorem d_Paths_add_34 : decode prog_9_method_3_code 34 = .ok (.getfield 10, 3) := fx_dat dk_Paths_add 16 rfl
theorem d_Paths_add_37 : decode prog_9_method_3_code 37 = .ok (.aload_n 0, 1) := fx_dat dk_Paths_add 17 rfl
theorem d_Paths_add_38 : decode prog_9_method_3_code 38 = .ok (.getfield 19, 3) := fx_dat dk_Paths_add 18 rfl
theorem d_Paths_add_41 : decode prog_9_method_3_code 41 = .ok (.invokevirtual 54, 3) := fx_dat dk_Paths_add 19 rfl
theorem d_Paths_add_44 : decode prog_9_method_3_code 44 = .ok (.checkcast 45, 3) := fx_dat dk_Paths_add 20 rfl
theorem d_Paths_add_47 : decode prog_9_method_3_code 47 = .ok (.aload_n 1, 1) := fx_dat dk_Paths_add 21 rfl
theorem d_Paths_add_48 : decode prog_9_method_3_code 48 = .ok (.iload_n 2, 1) := fx_dat dk_Paths_add 22 rfl
theorem d_Paths_add_49 : decode prog_9_method_3_code 49 = .ok (.iload_n 3, 1) := fx_dat dk_Paths_add 23 rfl
theorem d_Paths_add_50 : decode prog_9_method_3_code 50 = .ok (.invokevirtual 58, 3) := fx_dat dk_Paths_add 24 rfl
theorem d_Paths_add_53 : decode prog_9_method_3_code 53 = .ok (.ifCond .ne 8, 3) := fx_dat dk_Paths_add 25 rfl
theorem d_Paths_add_56 : decode prog_9_method_3_code 56 = .ok (.aload_n 0, 1) := fx_dat dk_Paths_add 26 rfl
theorem d_Paths_add_57 : decode prog_9_method_3_code 57 = .ok (.iconst 1, 1) := fx_dat dk_Paths_add 27 rfl
theorem d_Paths_add_58 : decode prog_9_method_3_code 58 = .ok (.putfield 23, 3) := fx_dat dk_Paths_add 28 rfl
theorem d_Paths_add_61 : decode prog_9_method_3_code 61 = .ok (.aload_n 0, 1) := fx_dat dk_Paths_add 29 rfl
theorem d_Paths_add_62 : decode prog_9_method_3_code 62 = .ok (.dup, 1) := fx_dat dk_Paths_add 30 rfl
theorem d_Paths_add_63 : decode prog_9_method_3_code 63 = .ok (.getfield 19, 3) := fx_dat dk_Paths_add 31 rfl
theorem d_Paths_add_66 : decode prog_9_method_3_code 66 = .ok (.iconst 1, 1) := fx_dat dk_Paths_add 32 rfl
theorem d_Paths_add_67 : decode prog_9_method_3_code 67 = .ok (.iadd, 1) := fx_dat dk_Paths_add 33 rfl
theorem d_Paths_add_68 : decode prog_9_method_3_code 68 = .ok (.putfield 19, 3) := fx_dat dk_Paths_add 34 rfl
theorem d_Paths_add_71 : decode prog_9_method_3_code 71 = .ok (.return_, 1) := fx_dat dk_Paths_add 35 rfl
def m_Paths_add_61 (Q : AH → Prop) (r0 : Nat) (h : AH) : Prop := hp_k h r0 = 7 ∧ ∀ h1 : AH, h1 = up_I h r0 3 ((hp_I h r0 3) + (1 : Int32)) → Q h1
def m_Paths_add_33 (Q : AH → Prop) (r0 : Nat) (r1 : Nat) (x2 : Int32) (x3 : Int32) (h : AH) : Prop := hp_k h r0 = 7 ∧ ∃ b1, hp_R h r0 1 = some b1 ∧ hp_k h b1 = 12 ∧ m_AL_get (fun q1 h1 => fx_ext h h1 → hp_k h1 q1 = 8 ∧ m_Cert_parse (fun v1 h2 => fx_ext h1 h2 → zb v1 → (¬ v1 = 0 → m_Paths_add_61 Q r0 h2) ∧ (v1 = 0 → ∀ h3 : AH, h3 = up_I h2 r0 4 (1 : Int32) → m_Paths_add_61 Q r0 h3)) q1 r1 x2 x3 h1) b1 (hp_I h r0 3) h
def m_Paths_add (Q : AH → Prop) (r0 : Nat) (r1 : Nat) (x2 : Int32) (x3 : Int32) (h : AH) : Prop := hp_k h r0 = 7 ∧ ∃ b1, hp_R h r0 1 = some b1 ∧ hp_k h b1 = 12 ∧ m_AL_size (fun v1 h1 => fx_ext h h1 → (¬ (hp_I h r0 3) = v1 → m_Paths_add_33 Q r0 r1 x2 x3 h1) ∧ ((hp_I h r0 3) = v1 → ∃ b2, hp_R h1 r0 1 = some b2 ∧ fx_has h1 29 ∧ ∀ (_ : fx_wf h1) (q1 : Nat), q1 = hp_z h1 → ∀ h2 : AH, h2 = up_N h1 8 0 29 → ∃ b3, hp_R h2 r0 0 = some b3 ∧ m_Cert_init (fun h3 => fx_ext h2 h3 → hp_k h3 b2 = 12 ∧ m_AL_add_O (fun v2 h4 => fx_ext h3 h4 → zb v2 → m_Paths_add_33 Q r0 r1 x2 x3 h4) b2 q1 h3) q1 b3 h2)) b1 h
theorem b_Paths_add_61 {p : Program} {l : Launch} {e : Env} {R : Room} {s : State} {m : MethodId} {args : Array Value} {below : List Frame} {meth : Method} {c : Code} {D : DD} {h0 : AH} {Q : AH → Prop} (C : fx_CX D y_Paths_add prog_9_method_3_code 4 15 235 (none) [] h0 p R s m meth c) (hl : l.flags = flags0) (r0 : Nat) (h : AH) (hw : m_Paths_add_61 Q r0 h) : ∀ (ls : Array Slot) (H : Heap) (locs : List Loc) (cells slots : Nat), lv_has ls 4 [(0, .ref r0)] → fx_F D h0 h H locs cells slots → W p l e R s m args below meth c H locs cells slots (fx_Z D below s h0 (fx_oV Q fx_no)) (F0 m 61 ls []) := by
  unfold m_Paths_add_61 at hw
  intro ls H locs cells slots hv F
  refine lv_aload_n C.ex C.by d_Paths_add_61 rfl (lv_at hv 0 rfl) ?_
  refine lv_dup C.ex C.by d_Paths_add_62 rfl ?_
  obtain ⟨hk1, hw⟩ := hw
  refine fx_getI C F lf_Paths_19 hk1 rfl d_Paths_add_63 ?_
  refine lv_iconst (v := (1 : Int32)) C.ex C.by d_Paths_add_66 (by decide) ?_
  refine lv_iadd C.ex C.by d_Paths_add_67 ?_
  let h1 : AH := up_I h r0 3 ((hp_I h r0 3) + (1 : Int32))
  replace hw := hw h1 rfl
  refine fx_putI C F lf_Paths_19 hk1 rfl rfl (fx_mayF.no rfl rfl) d_Paths_add_68 (fun H locs (F : fx_F D h0 h1 H locs _ _) => ?_)
  exact fx_vret C F d_Paths_add_71 (Or.inl ⟨rfl, hw⟩)
theorem b_Paths_add_33 {p : Program} {l : Launch} {e : Env} {R : Room} {s : State} {m : MethodId} {args : Array Value} {below : List Frame} {meth : Method} {c : Code} {D : DD} {h0 : AH} {Q : AH → Prop} (C : fx_CX D y_Paths_add prog_9_method_3_code 4 15 235 (none) [] h0 p R s m meth c) (hl : l.flags = flags0) (r0 : Nat) (r1 : Nat) (x2 : Int32) (x3 : Int32) (h : AH) (hw : m_Paths_add_33 Q r0 r1 x2 x3 h) : ∀ (ls : Array Slot) (H : Heap) (locs : List Loc) (cells slots : Nat), lv_has ls 4 [(0, .ref r0), (1, .ref r1), (2, .int x2), (3, .int x3)] → fx_F D h0 h H locs cells slots → W p l e R s m args below meth c H locs cells slots (fx_Z D below s h0 (fx_oV Q fx_no)) (F0 m 33 ls []) := by
  unfold m_Paths_add_33 at hw
  intro ls H locs cells slots hv F
  refine lv_aload_n C.ex C.by d_Paths_add_33 rfl (lv_at hv 0 rfl) ?_
  obtain ⟨hk1, hw⟩ := hw
  obtain ⟨b1, hb1, hw⟩ := hw
  refine fx_getR C F lf_Paths_10 hk1 rfl hb1 d_Paths_add_34 ?_
  refine lv_aload_n C.ex C.by d_Paths_add_37 rfl (lv_at hv 0 rfl) ?_
  refine fx_getI C F lf_Paths_19 hk1 rfl d_Paths_add_38 ?_
  obtain ⟨hk2, hw⟩ := hw
  refine fx_callR C F (c_AL_get hl hw) hm_AL_get hi_AL_get hv.1 (by decide) (Nat.le_of_ble_eq_true rfl) (iv_AL_get C F lm_Paths_54 hk2 d_Paths_add_41) (fx_out0 _) fx_eno (fun q1 h1 H locs cells slots hw hx1 F => ?_)
  replace hw := hw hx1
  have hk2 := (hx1).k hk2
  have hk1 := (hx1).k hk1
  obtain ⟨hk3, hw⟩ := hw
  refine fx_cast (ci := 7) (r := ("ChainJudge$Certificate", fx_T7, 29)) (nm := "ChainJudge$Certificate") C F rfl (by decide) hk3 (fx_m5 (List.mem_of_getElem? (i := 146) rfl)) (fx_m8 (List.mem_of_getElem? (i := 8) rfl)) d_Paths_add_44 ?_
  refine lv_aload_n C.ex C.by d_Paths_add_47 rfl (lv_at hv 1 rfl) ?_
  refine lv_iload_n C.ex C.by d_Paths_add_48 rfl (lv_at hv 2 rfl) ?_
  refine lv_iload_n C.ex C.by d_Paths_add_49 rfl (lv_at hv 3 rfl) ?_
  refine fx_callZ C F (c_Cert_parse hl hw) hm_Cert_parse hi_Cert_parse hv.1 (by decide) (Nat.le_of_ble_eq_true rfl) (iv_Cert_parse C F lm_Paths_58 hk3 d_Paths_add_50) (fx_out0 _) fx_eno (fun v1 h2 H locs cells slots hw hx2 hzb F => ?_)
  replace hw := hw hx2 hzb
  have hk2 := (hx2).k hk2
  have hk3 := (hx2).k hk3
  have hk1 := (hx2).k hk1
  refine lv_if_ne C.ex C.by d_Paths_add_53 rfl (fun hc => ?_) (fun hc => ?_)
  · replace hw := hw.1 hc
    exact b_Paths_add_61 C hl _ _ hw _ _ _ _ _ (lv_sub hv [0] rfl) F
  · replace hw := hw.2 hc
    refine lv_aload_n C.ex C.by d_Paths_add_56 rfl (lv_at hv 0 rfl) ?_
    refine lv_iconst (v := (1 : Int32)) C.ex C.by d_Paths_add_57 (by decide) ?_
    let h3 : AH := up_I h2 r0 4 (1 : Int32)
    replace hw := hw h3 rfl
    refine fx_putZ C F lf_Paths_23 hk1 rfl rfl (Or.inr rfl) (fx_mayF.no rfl rfl) d_Paths_add_58 (fun H locs (F : fx_F D h0 h3 H locs _ _) => ?_)
    exact b_Paths_add_61 C hl _ _ hw _ _ _ _ _ (lv_sub hv [0] rfl) F
theorem b_Paths_add_0 {p : Program} {l : Launch} {e : Env} {R : Room} {s : State} {m : MethodId} {args : Array Value} {below : List Frame} {meth : Method} {c : Code} {D : DD} {h0 : AH} {Q : AH → Prop} (C : fx_CX D y_Paths_add prog_9_method_3_code 4 15 235 (none) [] h0 p R s m meth c) (hl : l.flags = flags0) (r0 : Nat) (r1 : Nat) (x2 : Int32) (x3 : Int32) (h : AH) (hw : m_Paths_add Q r0 r1 x2 x3 h) : ∀ (ls : Array Slot) (H : Heap) (locs : List Loc) (cells slots : Nat), lv_has ls 4 [(0, .ref r0), (1, .ref r1), (2, .int x2), (3, .int x3)] → fx_F D h0 h H locs cells slots → W p l e R s m args below meth c H locs cells slots (fx_Z D below s h0 (fx_oV Q fx_no)) (F0 m 0 ls []) := by
  unfold m_Paths_add at hw
  intro ls H locs cells slots hv F
  refine lv_aload_n C.ex C.by d_Paths_add_0 rfl (lv_at hv 0 rfl) ?_
  obtain ⟨hk1, hw⟩ := hw
  refine fx_getI C F lf_Paths_19 hk1 rfl d_Paths_add_1 ?_
  refine lv_aload_n C.ex C.by d_Paths_add_4 rfl (lv_at hv 0 rfl) ?_
  obtain ⟨b1, hb1, hw⟩ := hw
  refine fx_getR C F lf_Paths_10 hk1 rfl hb1 d_Paths_add_5 ?_
  obtain ⟨hk2, hw⟩ := hw
  refine fx_callI C F (c_AL_size hl hw) hm_AL_size hi_AL_size hv.1 (by decide) (Nat.le_of_ble_eq_true rfl) (iv_AL_size C F lm_Paths_42 hk2 d_Paths_add_8) (fx_out0 _) fx_eno (fun v1 h1 H locs cells slots hw hx1 F => ?_)
  replace hw := hw hx1
  have hk2 := (hx1).k hk2
  have hk1 := (hx1).k hk1
  refine lv_icmp_ne C.ex C.by d_Paths_add_11 rfl (fun hc => ?_) (fun hc => ?_)
  · replace hw := hw.1 hc
    exact b_Paths_add_33 C hl _ _ _ _ _ hw _ _ _ _ _ hv F
  · replace hw := hw.2 hc
    refine lv_aload_n C.ex C.by d_Paths_add_14 rfl (lv_at hv 0 rfl) ?_
    obtain ⟨b2, hb2, hw⟩ := hw
    refine fx_getR C F lf_Paths_10 hk1 rfl hb2 d_Paths_add_15 ?_
    obtain ⟨hs, hw⟩ := hw
    let q1 : Nat := hp_z h1
    let h2 : AH := up_N h1 8 0 29
    replace hw := hw F.wf q1 rfl h2 rfl
    have hk2 := (F.xN (k := 8) (n := 0) (m := 29)).k hk2
    have hk1 := (F.xN (k := 8) (n := 0) (m := 29)).k hk1
    have hkq1 : hp_k h2 q1 = 8 := fx_nk _ _ _ _
    refine fx_new (ci := 7) (r := ("ChainJudge$Certificate", fx_T7, 29)) C F rfl (fx_m5 (List.mem_of_getElem? (i := 146) rfl)) (fx_m1 (List.mem_of_getElem? (i := 197) rfl)) (fx_m1 (List.mem_of_getElem? (i := 11) rfl)) hs d_Paths_add_18 (fun H cells slots (F : fx_F D h0 h2 H locs cells slots) => ?_)
    refine lv_dup C.ex C.by d_Paths_add_21 rfl ?_
    refine lv_aload_n C.ex C.by d_Paths_add_22 rfl (lv_at hv 0 rfl) ?_
    obtain ⟨b3, hb3, hw⟩ := hw
    refine fx_getR C F lf_Paths_38 hk1 rfl hb3 d_Paths_add_23 ?_
    refine fx_callV C F (c_Cert_init hl hw) hm_Cert_init hi_Cert_init hv.1 (by decide) (Nat.le_of_ble_eq_true rfl) (iv_Cert_init C F lm_Paths_47 d_Paths_add_26) (fx_out0 _) fx_eno (fun h3 H locs cells slots hw hx2 F => ?_)
    replace hw := hw hx2
    have hk2 := (hx2).k hk2
    have hkq1 := (hx2).k hkq1
    have hk1 := (hx2).k hk1
    obtain ⟨hk3, hw⟩ := hw
    refine fx_callZ C F (c_AL_add_O hl hw) hm_AL_add_O hi_AL_add_O hv.1 (by decide) (Nat.le_of_ble_eq_true rfl) (iv_AL_add_O C F lm_Paths_50 hk3 d_Paths_add_29) (fx_out0 _) fx_eno (fun v2 h4 H locs cells slots hw hx3 hzb F => ?_)
    replace hw := hw hx3 hzb
    have hk2 := (hx3).k hk2
    have hk3 := (hx3).k hk3
    have hkq1 := (hx3).k hkq1
    have hk1 := (hx3).k hk1
    refine lv_pop C.ex C.by d_Paths_add_32 rfl ?_
    exact b_Paths_add_33 C hl _ _ _ _ _ hw _ _ _ _ _ hv F
theorem hm_Paths_add : fx_hd y_Paths_add prog_9_method_3_code 4 (none) [] ∈ tables_1 := (fx_m5 (List.mem_of_getElem? (i := 144) rfl))
theorem hi_Paths_add : Cond.initialized y_Paths_add.cls ∈ tables_1 := (fx_m1 (List.mem_of_getElem? (i := 10) rfl))
theorem c_Paths_add {l : Launch} (hl : l.flags = flags0) {D : DD} {Q : AH → Prop} {r0 : Nat} {r1 : Nat} {x2 : Int32} {x3 : Int32} {h : AH} (hw : m_Paths_add Q r0 r1 x2 x3 h) : fx_Mt l D y_Paths_add (fx_hd y_Paths_add prog_9_method_3_code 4 (none) []) 15 235 [.ref r0, .ref r1, .int x2, .int x3] h (fx_oV Q fx_no) := by
  refine fx_ofW (plainFor_of_name (by decide)) (fun p e s m below meth c C F => ?_)
  have hv := lv_entry ([.ref r0, .ref r1, .int x2, .int x3]) (n := 4) (Nat.le_of_ble_eq_true rfl)
  rw [lg_entry_eq]
  generalize (lg_sl ([.ref r0, .ref r1, .int x2, .int x3]) ++ List.replicate (4 - (lg_sl ([.ref r0, .ref r1, .int x2, .int x3])).length) Slot.unset).toArray = ls at hv ⊢
  have hv : lv_has ls 4 [(0, .ref r0), (1, .ref r1), (2, .int x2), (3, .int x3)] := hv
  exact b_Paths_add_0 C hl _ _ _ _ _ hw _ _ _ _ _ hv F
/-! ChainJudge$Certificate.issuedBy(LChainJudge$Certificate;)Z: frames 0, words 0 -/
abbrev y_Cert_issuedBy : MethodName := ⟨"ChainJudge$Certificate", "issuedBy", "(LChainJudge$Certificate;)Z"⟩
def dl_Cert_issuedBy : List (Nat × Instr × Nat) := [(0, .aload_n 0, 1), (1, .getfield 30, 3), (4, .aload_n 0, 1), (5, .getfield 27, 3), (8, .isub, 1), (9, .istore_n 2, 1), (10, .iload_n 2, 1), (11, .aload_n 1, 1), (12, .getfield 36, 3), (15, .aload_n 1, 1), (16, .getfield 33, 3), (19, .isub, 1), (20, .if_icmp .eq 5, 3), (23, .iconst 0, 1), (24, .ireturn, 1), (25, .iconst 0, 1), (26, .istore_n 3, 1), (27, .iload_n 3, 1), (28, .iload_n 2, 1), (29, .if_icmp .ge 36, 3), (32, .aload_n 0, 1), (33, .getfield 16, 3), (36, .aload_n 0, 1), (37, .getfield 27, 3), (40, .iload_n 3, 1), (41, .iadd, 1), (42, .baload, 1), (43, .aload_n 1, 1), (44, .getfield 16, 3), (47, .aload_n 1, 1), (48, .getfield 33, 3), (51, .iload_n 3, 1), (52, .iadd, 1), (53, .baload, 1), (54, .if_icmp .eq 5, 3), (57, .iconst 0, 1), (58, .ireturn, 1), (59, .iinc 3 1, 3), (62, .goto (-35), 3), (65, .iconst 1, 1), (66, .ireturn, 1)]
theorem dk_Cert_issuedBy : fx_dec prog_2_method_17_code dl_Cert_issuedBy = true := by decide +kernel
theorem d_Cert_issuedBy_0 : decode prog_2_method_17_code 0 = .ok (.aload_n 0, 1) := fx_dat dk_Cert_issuedBy 0 rfl
theorem d_Cert_issuedBy_1 : decode prog_2_method_17_code 1 = .ok (.getfield 30, 3) := fx_dat dk_Cert_issuedBy 1 rfl
theorem d_Cert_issuedBy_4 : decode prog_2_method_17_code 4 = .ok (.aload_n 0, 1) := fx_dat dk_Cert_issuedBy 2 rfl
theorem d_Cert_issuedBy_5 : decode prog_2_method_17_code 5 = .ok (.getfield 27, 3) := fx_dat dk_Cert_issuedBy 3 rfl
theorem d_Cert_issuedBy_8 : decode prog_2_method_17_code 8 = .ok (.isub, 1) := fx_dat dk_Cert_issuedBy 4 rfl
theorem d_Cert_issuedBy_9 : decode prog_2_method_17_code 9 = .ok (.istore_n 2, 1) := fx_dat dk_Cert_issuedBy 5 rfl
theorem d_Cert_issuedBy_10 : decode prog_2_method_17_code 10 = .ok (.iload_n 2, 1) := fx_dat dk_Cert_issuedBy 6 rfl
theorem d_Cert_issuedBy_11 : decode prog_2_method_17_code 11 = .ok (.aload_n 1, 1) := fx_dat dk_Cert_issuedBy 7 rfl
theorem d_Cert_issuedBy_12 : decode prog_2_method_17_code 12 = .ok (.getfield 36, 3) := fx_dat dk_Cert_issuedBy 8 rfl
theorem d_Cert_issuedBy_15 : decode prog_2_method_17_code 15 = .ok (.aload_n 1, 1) := fx_dat dk_Cert_issuedBy 9 rfl
theorem d_Cert_issuedBy_16 : decode prog_2_method_17_code 16 = .ok (.getfield 33, 3) := fx_dat dk_Cert_issuedBy 10 rfl
theorem d_Cert_issuedBy_19 : decode prog_2_method_17_code 19 = .ok (.isub, 1) := fx_dat dk_Cert_issuedBy 11 rfl
theorem d_Cert_issuedBy_20 : decode prog_2_method_17_code 20 = .ok (.if_icmp .eq 5, 3) := fx_dat dk_Cert_issuedBy 12 rfl
theorem d_Cert_issuedBy_23 : decode prog_2_method_17_code 23 = .ok (.iconst 0, 1) := fx_dat dk_Cert_issuedBy 13 rfl
theorem d_Cert_issuedBy_24 : decode prog_2_method_17_code 24 = .ok (.ireturn, 1) := fx_dat dk_Cert_issuedBy 14 rfl
theorem d_Cert_issuedBy_25 : decode prog_2_method_17_code 25 = .ok (.iconst 0, 1) := fx_dat dk_Cert_issuedBy 15 rfl
theorem d_Cert_issuedBy_26 : decode prog_2_method_17_code 26 = .ok (.istore_n 3, 1) := fx_dat dk_Cert_issuedBy 16 rfl
theorem d_Cert_issuedBy_27 : decode prog_2_method_17_code 27 = .ok (.iload_n 3, 1) := fx_dat dk_Cert_issuedBy 17 rfl
theorem d_Cert_issuedBy_28 : decode prog_2_method_17_code 28 = .ok (.iload_n 2, 1) := fx_dat dk_Cert_issuedBy 18 rfl
theorem d_Cert_issuedBy_29 : decode prog_2_method_17_code 29 = .ok (.if_icmp .ge 36, 3) := fx_dat dk_Cert_issuedBy 19 rfl
theorem d_Cert_issuedBy_32 : decode prog_2_method_17_code 32 = .ok (.aload_n 0, 1) := fx_dat dk_Cert_issuedBy 20 rfl
theorem d_Cert_issuedBy_33 : decode prog_2_method_17_code 33 = .ok (.getfield 16, 3) := fx_dat dk_Cert_issuedBy 21 rfl
theorem d_Cert_issuedBy_36 : decode prog_2_method_17_code 36 = .ok (.aload_n 0, 1) := fx_dat dk_Cert_issuedBy 22 rfl
theorem d_Cert_issuedBy_37 : decode prog_2_method_17_code 37 = .ok (.getfield 27, 3) := fx_dat dk_Cert_issuedBy 23 rfl
theorem d_Cert_issuedBy_40 : decode prog_2_method_17_code 40 = .ok (.iload_n 3, 1) := fx_dat dk_Cert_issuedBy 24 rfl
theorem d_Cert_issuedBy_41 : decode prog_2_method_17_code 41 = .ok (.iadd, 1) := fx_dat dk_Cert_issuedBy 25 rfl
theorem d_Cert_issuedBy_42 : decode prog_2_method_17_code 42 = .ok (.baload, 1) := fx_dat dk_Cert_issuedBy 26 rfl
theorem d_Cert_issuedBy_43 : decode prog_2_method_17_code 43 = .ok (.aload_n 1, 1) := fx_dat dk_Cert_issuedBy 27 rfl
theorem d_Cert_issuedBy_44 : decode prog_2_method_17_code 44 = .ok (.getfield 16, 3) := fx_dat dk_Cert_issuedBy 28 rfl
theorem d_Cert_issuedBy_47 : decode prog_2_method_17_code 47 = .ok (.aload_n 1, 1) := fx_dat dk_Cert_issuedBy 29 rfl
theorem d_Cert_issuedBy_48 : decode prog_2_method_17_code 48 = .ok (.getfield 33, 3) := fx_dat dk_Cert_issuedBy 30 rfl
theorem d_Cert_issuedBy_51 : decode prog_2_method_17_code 51 = .ok (.iload_n 3, 1) := fx_dat dk_Cert_issuedBy 31 rfl
theorem d_Cert_issuedBy_52 : decode prog_2_method_17_code 52 = .ok (.iadd, 1) := fx_dat dk_Cert_issuedBy 32 rfl
theorem d_Cert_issuedBy_53 : decode prog_2_method_17_code 53 = .ok (.baload, 1) := fx_dat dk_Cert_issuedBy 33 rfl
theorem d_Cert_issuedBy_54 : decode prog_2_method_17_code 54 = .ok (.if_icmp .eq 5, 3) := fx_dat dk_Cert_issuedBy 34 rfl
theorem d_Cert_issuedBy_57 : decode prog_2_method_17_code 57 = .ok (.iconst 0, 1) := fx_dat dk_Cert_issuedBy 35 rfl
theorem d_Cert_issuedBy_58 : decode prog_2_method_17_code 58 = .ok (.ireturn, 1) := fx_dat dk_Cert_issuedBy 36 rfl
theorem d_Cert_issuedBy_59 : decode prog_2_method_17_code 59 = .ok (.iinc 3 1, 3) := fx_dat dk_Cert_issuedBy 37 rfl
theorem d_Cert_issuedBy_62 : decode prog_2_method_17_code 62 = .ok (.goto (-35), 3) := fx_dat dk_Cert_issuedBy 38 rfl
theorem d_Cert_issuedBy_65 : decode prog_2_method_17_code 65 = .ok (.iconst 1, 1) := fx_dat dk_Cert_issuedBy 39 rfl
theorem d_Cert_issuedBy_66 : decode prog_2_method_17_code 66 = .ok (.ireturn, 1) := fx_dat dk_Cert_issuedBy 40 rfl
def m_Cert_issuedBy_27_b (Q : Int32 → AH → Prop) (X27 : Int32 × AH → Prop) (r0 : Nat) (r1 : Nat) (x2 : Int32) (x3 : Int32) (h : AH) : Prop := (x2 ≤ x3 → Q (1 : Int32) h) ∧ (¬ x2 ≤ x3 → hp_k h r0 = 8 ∧ ∃ b1, hp_R h r0 2 = some b1 ∧ bk (hp_k h b1) ∧ vp_in ((hp_I h r0 5) + x3) (hp_n h b1) ∧ (by8 (hp_I h b1 (((hp_I h r0 5) + x3)).toNatClampNeg) → hp_k h r1 = 8 ∧ ∃ b2, hp_R h r1 2 = some b2 ∧ bk (hp_k h b2) ∧ vp_in ((hp_I h r1 7) + x3) (hp_n h b2) ∧ (by8 (hp_I h b2 (((hp_I h r1 7) + x3)).toNatClampNeg) → ((hp_I h b1 (((hp_I h r0 5) + x3)).toNatClampNeg) = (hp_I h b2 (((hp_I h r1 7) + x3)).toNatClampNeg) → ∀ v1 : Int32, v1 = (x3 + (1 : Int32)) → X27 (v1, h)) ∧ (¬ (hp_I h b1 (((hp_I h r0 5) + x3)).toNatClampNeg) = (hp_I h b2 (((hp_I h r1 7) + x3)).toNatClampNeg) → Q (0 : Int32) h))))
def m_Cert_issuedBy_27 (Q : Int32 → AH → Prop) (r0 : Nat) (r1 : Nat) (x2 : Int32) (x3 : Int32) (h : AH) : Prop := fx_loop (fun (X27 : Int32 × AH → Prop) (st : Int32 × AH) => m_Cert_issuedBy_27_b Q X27 r0 r1 x2 st.1 st.2) (x3, h)
def m_Cert_issuedBy (Q : Int32 → AH → Prop) (r0 : Nat) (r1 : Nat) (h : AH) : Prop := hp_k h r0 = 8 ∧ ∀ v1 : Int32, v1 = ((hp_I h r0 6) - (hp_I h r0 5)) → hp_k h r1 = 8 ∧ (v1 = ((hp_I h r1 8) - (hp_I h r1 7)) → m_Cert_issuedBy_27 Q r0 r1 v1 (0 : Int32) h) ∧ (¬ v1 = ((hp_I h r1 8) - (hp_I h r1 7)) → Q (0 : Int32) h)
theorem b_Cert_issuedBy_27 {p : Program} {l : Launch} {e : Env} {R : Room} {s : State} {m : MethodId} {args : Array Value} {below : List Frame} {meth : Method} {c : Code} {D : DD} {h0 : AH} {Q : Int32 → AH → Prop} (C : fx_CX D y_Cert_issuedBy prog_2_method_17_code 4 0 0 (Option.some FieldType.boolean) [] h0 p R s m meth c) (hl : l.flags = flags0) (r0 : Nat) (r1 : Nat) (x2 : Int32) (x3 : Int32) (h : AH) (hw : m_Cert_issuedBy_27 Q r0 r1 x2 x3 h) : ∀ (ls : Array Slot) (H : Heap) (locs : List Loc) (cells slots : Nat), lv_has ls 4 [(0, .ref r0), (1, .ref r1), (2, .int x2), (3, .int x3)] → fx_F D h0 h H locs cells slots → W p l e R s m args below meth c H locs cells slots (fx_Z D below s h0 (fx_oZ Q fx_no)) (F0 m 27 ls []) := by
  refine fx_loop.use hw (fun st => ∀ (ls : Array Slot) (H : Heap) (locs : List Loc) (cells slots : Nat), lv_has ls 4 [(0, .ref r0), (1, .ref r1), (2, .int x2), (3, .int st.1)] → fx_F D h0 st.2 H locs cells slots → W p l e R s m args below meth c H locs cells slots (fx_Z D below s h0 (fx_oZ Q fx_no)) (F0 m 27 ls [])) (fun X27 st hX27 hw => ?_)
  obtain ⟨x3, h⟩ := st
  replace hw : m_Cert_issuedBy_27_b Q X27 r0 r1 x2 x3 h := hw
  unfold m_Cert_issuedBy_27_b at hw
  intro ls H locs cells slots hv F
  refine lv_iload_n C.ex C.by d_Cert_issuedBy_27 rfl (lv_at hv 3 rfl) ?_
  refine lv_iload_n C.ex C.by d_Cert_issuedBy_28 rfl (lv_at hv 2 rfl) ?_
  refine lv_icmp_ge C.ex C.by d_Cert_issuedBy_29 rfl (fun hc => ?_) (fun hc => ?_)
  · replace hw := hw.1 hc
    refine lv_iconst (v := (1 : Int32)) C.ex C.by d_Cert_issuedBy_65 (by decide) ?_
    exact fx_zret C F d_Cert_issuedBy_66 (Or.inr rfl) (Or.inl ⟨_, rfl, Or.inr rfl, hw⟩)
  · replace hw := hw.2 hc
    refine lv_aload_n C.ex C.by d_Cert_issuedBy_32 rfl (lv_at hv 0 rfl) ?_
    obtain ⟨hk1, hw⟩ := hw
    obtain ⟨b1, hb1, hw⟩ := hw
    refine fx_getR C F lf_Cert_16 hk1 rfl hb1 d_Cert_issuedBy_33 ?_
    refine lv_aload_n C.ex C.by d_Cert_issuedBy_36 rfl (lv_at hv 0 rfl) ?_
    refine fx_getI C F lf_Cert_27 hk1 rfl d_Cert_issuedBy_37 ?_
    refine lv_iload_n C.ex C.by d_Cert_issuedBy_40 rfl (lv_at hv 3 rfl) ?_
    refine lv_iadd C.ex C.by d_Cert_issuedBy_41 ?_
    obtain ⟨hk2, hw⟩ := hw
    obtain ⟨hi1, hw⟩ := hw
    refine fx_bald C F hk2 hi1 d_Cert_issuedBy_42 (fun h8 => ?_)
    replace hw := hw h8
    refine lv_aload_n C.ex C.by d_Cert_issuedBy_43 rfl (lv_at hv 1 rfl) ?_
    obtain ⟨hk3, hw⟩ := hw
    obtain ⟨b2, hb2, hw⟩ := hw
    refine fx_getR C F lf_Cert_16 hk3 rfl hb2 d_Cert_issuedBy_44 ?_
    refine lv_aload_n C.ex C.by d_Cert_issuedBy_47 rfl (lv_at hv 1 rfl) ?_
    refine fx_getI C F lf_Cert_33 hk3 rfl d_Cert_issuedBy_48 ?_
    refine lv_iload_n C.ex C.by d_Cert_issuedBy_51 rfl (lv_at hv 3 rfl) ?_
    refine lv_iadd C.ex C.by d_Cert_issuedBy_52 ?_
    obtain ⟨hk4, hw⟩ := hw
    obtain ⟨hi2, hw⟩ := hw
    refine fx_bald C F hk4 hi2 d_Cert_issuedBy_53 (fun h8 => ?_)
    replace hw := hw h8
    refine lv_icmp_eq C.ex C.by d_Cert_issuedBy_54 rfl (fun hc => ?_) (fun hc => ?_)
    · replace hw := hw.1 hc
      let v1 : Int32 := (x3 + (1 : Int32))
      replace hw := hw v1 rfl
      refine lv_iinc (v := v1) (k := 3) (lv' := [(3, .int v1), (0, .ref r0), (1, .ref r1), (2, .int x2)]) C.ex C.by d_Cert_issuedBy_59 hv rfl (congrArg (fun z => x3 + z) (by decide)) (by decide) rfl (fun ls hv => ?_)
      refine lv_goto C.ex C.by d_Cert_issuedBy_62 rfl ?_
      exact hX27 _ hw _ _ _ _ _ (lv_sub hv [1, 2, 3, 0] rfl) F
    · replace hw := hw.2 hc
      refine lv_iconst (v := (0 : Int32)) C.ex C.by d_Cert_issuedBy_57 (by decide) ?_
      exact fx_zret C F d_Cert_issuedBy_58 (Or.inl rfl) (Or.inl ⟨_, rfl, Or.inl rfl, hw⟩)
theorem b_Cert_issuedBy_0 {p : Program} {l : Launch} {e : Env} {R : Room} {s : State} {m : MethodId} {args : Array Value} {below : List Frame} {meth : Method} {c : Code} {D : DD} {h0 : AH} {Q : Int32 → AH → Prop} (C : fx_CX D y_Cert_issuedBy prog_2_method_17_code 4 0 0 (Option.some FieldType.boolean) [] h0 p R s m meth c) (hl : l.flags = flags0) (r0 : Nat) (r1 : Nat) (h : AH) (hw : m_Cert_issuedBy Q r0 r1 h) : ∀ (ls : Array Slot) (H : Heap) (locs : List Loc) (cells slots : Nat), lv_has ls 4 [(0, .ref r0), (1, .ref r1)] → fx_F D h0 h H locs cells slots → W p l e R s m args below meth c H locs cells slots (fx_Z D below s h0 (fx_oZ Q fx_no)) (F0 m 0 ls []) := by
  unfold m_Cert_issuedBy at hw
  intro ls H locs cells slots hv F
  refine lv_aload_n C.ex C.by d_Cert_issuedBy_0 rfl (lv_at hv 0 rfl) ?_
  obtain ⟨hk1, hw⟩ := hw
  refine fx_getI C F lf_Cert_30 hk1 rfl d_Cert_issuedBy_1 ?_
  refine lv_aload_n C.ex C.by d_Cert_issuedBy_4 rfl (lv_at hv 0 rfl) ?_
  refine fx_getI C F lf_Cert_27 hk1 rfl d_Cert_issuedBy_5 ?_
  refine lv_isub C.ex C.by d_Cert_issuedBy_8 ?_
  let v1 : Int32 := ((hp_I h r0 6) - (hp_I h r0 5))
  replace hw := hw v1 rfl
  refine lv_istore_n (lv' := [(2, .int v1), (0, .ref r0), (1, .ref r1)]) C.ex C.by d_Cert_issuedBy_9 rfl hv (by decide) rfl (fun ls hv => ?_)
  refine lv_iload_n C.ex C.by d_Cert_issuedBy_10 rfl (lv_at hv 0 rfl) ?_
  refine lv_aload_n C.ex C.by d_Cert_issuedBy_11 rfl (lv_at hv 2 rfl) ?_
  obtain ⟨hk2, hw⟩ := hw
  refine fx_getI C F lf_Cert_36 hk2 rfl d_Cert_issuedBy_12 ?_
  refine lv_aload_n C.ex C.by d_Cert_issuedBy_15 rfl (lv_at hv 2 rfl) ?_
  refine fx_getI C F lf_Cert_33 hk2 rfl d_Cert_issuedBy_16 ?_
  refine lv_isub C.ex C.by d_Cert_issuedBy_19 ?_
  refine lv_icmp_eq C.ex C.by d_Cert_issuedBy_20 rfl (fun hc => ?_) (fun hc => ?_)
  · replace hw := hw.1 hc
    refine lv_iconst (v := (0 : Int32)) C.ex C.by d_Cert_issuedBy_25 (by decide) ?_
    refine lv_istore_n (lv' := [(3, .int (0 : Int32)), (2, .int v1), (0, .ref r0), (1, .ref r1)]) C.ex C.by d_Cert_issuedBy_26 rfl hv (by decide) rfl (fun ls hv => ?_)
    exact b_Cert_issuedBy_27 C hl _ _ _ _ _ hw _ _ _ _ _ (lv_sub hv [2, 3, 1, 0] rfl) F
  · replace hw := hw.2 hc
    refine lv_iconst (v := (0 : Int32)) C.ex C.by d_Cert_issuedBy_23 (by decide) ?_
    exact fx_zret C F d_Cert_issuedBy_24 (Or.inl rfl) (Or.inl ⟨_, rfl, Or.inl rfl, hw⟩)
theorem hm_Cert_issuedBy : fx_hd y_Cert_issuedBy prog_2_method_17_code 4 (Option.some FieldType.boolean) [] ∈ tables_1 := (fx_m5 (List.mem_of_getElem? (i := 163) rfl))
theorem hi_Cert_issuedBy : Cond.initialized y_Cert_issuedBy.cls ∈ tables_1 := (fx_m1 (List.mem_of_getElem? (i := 11) rfl))
theorem c_Cert_issuedBy {l : Launch} (hl : l.flags = flags0) {D : DD} {Q : Int32 → AH → Prop} {r0 : Nat} {r1 : Nat} {h : AH} (hw : m_Cert_issuedBy Q r0 r1 h) : fx_Mt l D y_Cert_issuedBy (fx_hd y_Cert_issuedBy prog_2_method_17_code 4 (Option.some FieldType.boolean) []) 0 0 [.ref r0, .ref r1] h (fx_oZ Q fx_no) := by
  refine fx_ofW (plainFor_of_name (by decide)) (fun p e s m below meth c C F => ?_)
  have hv := lv_entry ([.ref r0, .ref r1]) (n := 4) (Nat.le_of_ble_eq_true rfl)
  rw [lg_entry_eq]
  generalize (lg_sl ([.ref r0, .ref r1]) ++ List.replicate (4 - (lg_sl ([.ref r0, .ref r1])).length) Slot.unset).toArray = ls at hv ⊢
  have hv : lv_has ls 4 [(0, .ref r0), (1, .ref r1)] := hv
  exact b_Cert_issuedBy_0 C hl _ _ _ hw _ _ _ _ _ hv F
