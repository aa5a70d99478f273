set_option maxRecDepth 10000
/-! ChainJudgeModel.judge(II)I: frames 10, words 163 -/
abbrev y_M_judge : MethodName := ⟨"ChainJudgeModel", "judge", "(II)I"⟩
theorem lf_M_437 : fx_Lk "ChainJudgeModel" 437 12 18 := fx_Lk.mk (C := "ChainJudgeModel") (T := fx_T12) (N := 57) rfl (by decide) (by decide) (fx_m6 (List.mem_of_getElem? (i := 24) rfl))
theorem lf_M_440 : fx_Lk "ChainJudgeModel" 440 12 19 := fx_Lk.mk (C := "ChainJudgeModel") (T := fx_T12) (N := 57) rfl (by decide) (by decide) (fx_m6 (List.mem_of_getElem? (i := 25) rfl))
theorem lm_M_434 : Cond.methodLink "ChainJudgeModel" 434 y_M_verdict ∈ tables_1 ∨ ∃ host, Cond.methodLinkNest "ChainJudgeModel" 434 y_M_verdict host ∈ tables_1 := Or.inl (fx_m7 (List.mem_of_getElem? (i := 202) rfl))
section
variable {p : Program} {l : Launch} {e : Env} {R : Room} {s : State} {m : MethodId} {args : Array Value} {below : List Frame} {meth : Method} {c : Code} {H : Heap} {locs : List Loc} {cells slots : Nat}
variable {D : DD} {y : MethodName} {cc : ByteArray} {nL kf kw : Nat} {ret : Option FieldType} {hh : List (Nat × Nat × Nat × Nat)} {h0 h : AH} {pc : Nat} {ls : Array Slot} {rest : List Value} {b idx : Nat}
theorem iv_M_verdict {x1 : Int32} {x2 : Int32} (C : fx_CX D y cc nL kf kw ret hh h0 p R s m meth c) (F : fx_F D h0 h H locs cells slots) (hw1 : Cond.methodLink y.cls idx y_M_verdict ∈ tables_1 ∨ ∃ host, Cond.methodLinkNest y.cls idx y_M_verdict host ∈ tables_1) (hk : hp_k h b = 13) (hd : decode cc pc = .ok (.invokevirtual idx, 3)) : fx_IV p l e R s m args below meth c H locs cells slots (F0 m pc ls (.int x2 :: .int x1 :: .ref b :: rest)) rest y_M_verdict [.ref b, .int x1, .int x2] 3 := fun T hT X => fx_invV (As := [.int x1, .int x2]) (Cn := "ChainJudgeModel") C X hw1 (fx_m7 (List.mem_of_getElem? (i := 204) rfl)) (fx_selP C ⟨by decide, by decide⟩ (fx_m5 (List.mem_of_getElem? (i := 217) rfl)) (fx_m7 (List.mem_of_getElem? (i := 203) rfl)) (fx_m7 (List.mem_of_getElem? (i := 204) rfl))) hm_M_verdict ⟨by decide, by decide⟩ (by rw [hT]; exact fx_clsO (ci := 12) (r := ("ChainJudgeModel", fx_T12, 57)) C F rfl (by decide) hk) rfl (n := 2) (by decide +kernel) rfl rfl hd
end
def dl_M_judge : List (Nat × Instr × Nat) := [(0, .aload_n 0, 1), (1, .iconst 0, 1), (2, .putfield 83, 3), (5, .iload_n 1, 1), (6, .ifCond .lt 12, 3), (9, .iload_n 1, 1), (10, .iconst 1, 1), (11, .if_icmp .gt 7, 3), (14, .iload_n 2, 1), (15, .ifCond .ge 9, 3), (18, .aload_n 0, 1), (19, .iconst 1, 1), (20, .invokevirtual 362, 3), (23, .ireturn, 1), (24, .aload_n 0, 1), (25, .getfield 396, 3), (28, .ifCond .ne 9, 3), (31, .aload_n 0, 1), (32, .iconst 2, 1), (33, .invokevirtual 362, 3), (36, .ireturn, 1), (37, .aload_n 0, 1), (38, .iload_n 1, 1), (39, .iload_n 2, 1), (40, .invokevirtual 434, 3), (43, .istore_n 3, 1), (44, .aload_n 0, 1), (45, .dup, 1), (46, .getfield 437, 3), (49, .iconst 1, 1), (50, .iadd, 1), (51, .putfield 437, 3), (54, .iload_n 3, 1), (55, .ifCond .ne 13, 3), (58, .aload_n 0, 1), (59, .dup, 1), (60, .getfield 440, 3), (63, .iconst 1, 1), (64, .iadd, 1), (65, .putfield 440, 3), (68, .iload_n 3, 1), (69, .ireturn, 1)]
theorem dk_M_judge : fx_dec prog_15_method_75_code dl_M_judge = true := by decide +kernel
theorem d_M_judge_0 : decode prog_15_method_75_code 0 = .ok (.aload_n 0, 1) := fx_dat dk_M_judge 0 rfl
theorem d_M_judge_1 : decode prog_15_method_75_code 1 = .ok (.iconst 0, 1) := fx_dat dk_M_judge 1 rfl
theorem d_M_judge_2 : decode prog_15_method_75_code 2 = .ok (.putfield 83, 3) := fx_dat dk_M_judge 2 rfl
theorem d_M_judge_5 : decode prog_15_method_75_code 5 = .ok (.iload_n 1, 1) := fx_dat dk_M_judge 3 rfl
theorem d_M_judge_6 : decode prog_15_method_75_code 6 = .ok (.ifCond .lt 12, 3) := fx_dat dk_M_judge 4 rfl
theorem d_M_judge_9 : decode prog_15_method_75_code 9 = .ok (.iload_n 1, 1) := fx_dat dk_M_judge 5 rfl
theorem d_M_judge_10 : decode prog_15_method_75_code 10 = .ok (.iconst 1, 1) := fx_dat dk_M_judge 6 rfl
theorem d_M_judge_11 : decode prog_15_method_75_code 11 = .ok (.if_icmp .gt 7, 3) := fx_dat dk_M_judge 7 rfl
theorem d_M_judge_14 : decode prog_15_method_75_code 14 = .ok (.iload_n 2, 1) := fx_dat dk_M_judge 8 rfl
theorem d_M_judge_15 : decode prog_15_method_75_code 15 = .ok (.ifCond .ge 9, 3) := fx_dat dk_M_judge 9 rfl
theorem d_M_judge_18 : decode prog_15_method_75_code 18 = .ok (.aload_n 0, 1) := fx_dat dk_M_judge 10 rfl
theorem d_M_judge_19 : decode prog_15_method_75_code 19 = .ok (.iconst 1, 1) := fx_dat dk_M_judge 11 rfl
theorem d_M_judge_20 : decode prog_15_method_75_code 20 = .ok (.invokevirtual 362, 3) := fx_dat dk_M_judge 12 rfl
theorem d_M_judge_23 : decode prog_15_method_75_code 23 = .ok (.ireturn, 1) := fx_dat dk_M_judge 13 rfl
theorem d_M_judge_24 : decode prog_15_method_75_code 24 = .ok (.aload_n 0, 1) := fx_dat dk_M_judge 14 rfl
theorem d_M_judge_25 : decode prog_15_method_75_code 25 = .ok (.getfield 396, 3) := fx_dat dk_M_judge 15 rfl
theorem d_M_judge_28 : decode prog_15_method_75_code 28 = .ok (.ifCond .ne 9, 3) := fx_dat dk_M_judge 16 rfl
theorem d_M_judge_31 : decode prog_15_method_75_code 31 = .ok (.aload_n 0, 1) := fx_dat dk_M_judge 17 rfl
theorem d_M_judge_32 : decode prog_15_method_75_code 32 = .ok (.iconst 2, 1) := fx_dat dk_M_judge 18 rfl
theorem d_M_judge_33 : decode prog_15_method_75_code 33 = .ok (.invokevirtual 362, 3) := fx_dat dk_M_judge 19 rfl
theorem d_M_judge_36 : decode prog_15_method_75_code 36 = .ok (.ireturn, 1) := fx_dat dk_M_judge 20 rfl
theorem d_M_judge_37 : decode prog_15_method_75_code 37 = .ok (.aload_n 0, 1) := fx_dat dk_M_judge 21 rfl
theorem d_M_judge_38 : decode prog_15_method_75_code 38 = .ok (.iload_n 1, 1) := fx_dat dk_M_judge 22 rfl
theorem d_M_judge_39 : decode prog_15_method_75_code 39 = .ok (.iload_n 2, 1) := fx_dat dk_M_judge 23 rfl
theorem d_M_judge_40 : decode prog_15_method_75_code 40 = .ok (.invokevirtual 434, 3) := fx_dat dk_M_judge 24 rfl
theorem d_M_judge_43 : decode prog_15_method_75_code 43 = .ok (.istore_n 3, 1) := fx_dat dk_M_judge 25 rfl
theorem d_M_judge_44 : decode prog_15_method_75_code 44 = .ok (.aload_n 0, 1) := fx_dat dk_M_judge 26 rfl
theorem d_M_judge_45 : decode prog_15_method_75_code 45 = .ok (.dup, 1) := fx_dat dk_M_judge 27 rfl
theorem d_M_judge_46 : decode prog_15_method_75_code 46 = .ok (.getfield 437, 3) := fx_dat dk_M_judge 28 rfl
theorem d_M_judge_49 : decode prog_15_method_75_code 49 = .ok (.iconst 1, 1) := fx_dat dk_M_judge 29 rfl
theorem d_M_judge_50 : decode prog_15_method_75_code 50 = .ok (.iadd, 1) := fx_dat dk_M_judge 30 rfl
theorem d_M_judge_51 : decode prog_15_method_75_code 51 = .ok (.putfield 437, 3) := fx_dat dk_M_judge 31 rfl
theorem d_M_judge_54 : decode prog_15_method_75_code 54 = .ok (.iload_n 3, 1) := fx_dat dk_M_judge 32 rfl
theorem d_M_judge_55 : decode prog_15_method_75_code 55 = .ok (.ifCond .ne 13, 3) := fx_dat dk_M_judge 33 rfl
theorem d_M_judge_58 : decode prog_15_method_75_code 58 = .ok (.aload_n 0, 1) := fx_dat dk_M_judge 34 rfl
theorem d_M_judge_59 : decode prog_15_method_75_code 59 = .ok (.dup, 1) := fx_dat dk_M_judge 35 rfl
theorem d_M_judge_60 : decode prog_15_method_75_code 60 = .ok (.getfield 440, 3) := fx_dat dk_M_judge 36 rfl
theorem d_M_judge_63 : decode prog_15_method_75_code 63 = .ok (.iconst 1, 1) := fx_dat dk_M_judge 37 rfl
theorem d_M_judge_64 : decode prog_15_method_75_code 64 = .ok (.iadd, 1) := fx_dat dk_M_judge 38 rfl
theorem d_M_judge_65 : decode prog_15_method_75_code 65 = .ok (.putfield 440, 3) := fx_dat dk_M_judge 39 rfl
theorem d_M_judge_68 : decode prog_15_method_75_code 68 = .ok (.iload_n 3, 1) := fx_dat dk_M_judge 40 rfl
theorem d_M_judge_69 : decode prog_15_method_75_code 69 = .ok (.ireturn, 1) := fx_dat dk_M_judge 41 rfl
def m_M_judge_18 (Q : Int32 → AH → Prop) (r0 : Nat) (h : AH) : Prop := hp_k h r0 = 13 ∧ m_M_fail (fun v1 h1 => fx_ext h h1 → Q v1 h1) r0 (1 : Int32) h
def m_M_judge_68 (Q : Int32 → AH → Prop) (x3 : Int32) (h : AH) : Prop := Q x3 h
def m_M_judge (Q : Int32 → AH → Prop) (r0 : Nat) (x1 : Int32) (x2 : Int32) (h : AH) : Prop := hp_k h r0 = 13 ∧ ∀ h1 : AH, h1 = up_I h r0 0 (0 : Int32) → (x1 < 0 → m_M_judge_18 Q r0 h1) ∧ (¬ x1 < 0 → ((1 : Int32) < x1 → m_M_judge_18 Q r0 h1) ∧ (¬ (1 : Int32) < x1 → (0 ≤ x2 → (¬ (hp_I h1 r0 14) = 0 → m_M_verdict (fun v1 h2 => fx_ext h1 h2 → ∀ h3 : AH, h3 = up_I h2 r0 18 ((hp_I h2 r0 18) + (1 : Int32)) → (¬ v1 = 0 → m_M_judge_68 Q v1 h3) ∧ (v1 = 0 → ∀ h4 : AH, h4 = up_I h3 r0 19 ((hp_I h3 r0 19) + (1 : Int32)) → m_M_judge_68 Q v1 h4)) r0 x1 x2 h1) ∧ ((hp_I h1 r0 14) = 0 → m_M_fail (fun v2 h5 => fx_ext h1 h5 → Q v2 h5) r0 (2 : Int32) h1)) ∧ (¬ 0 ≤ x2 → m_M_judge_18 Q r0 h1)))
theorem b_M_judge_18 {p : Program} {l : Launch} {e : Env} {R : Room} {s : State} {m : MethodId} {args : Array Value} {below : List Frame} {meth : Method} {c : Code} {D : DD} {h0 : AH} {Q : Int32 → AH → Prop} (C : fx_CX D y_M_judge prog_15_method_75_code 4 10 163 (Option.some FieldType.int) [] h0 p R s m meth c) (hl : l.flags = flags0) (r0 : Nat) (h : AH) (hw : m_M_judge_18 Q r0 h) : ∀ (ls : Array Slot) (H : Heap) (locs : List Loc) (cells slots : Nat), lv_has ls 4 [(0, .ref r0)] → fx_F D h0 h H locs cells slots → W p l e R s m args below meth c H locs cells slots (fx_Z D below s h0 (fx_oI Q fx_no)) (F0 m 18 ls []) := by
  unfold m_M_judge_18 at hw
  intro ls H locs cells slots hv F
  refine lv_aload_n C.ex C.by d_M_judge_18 rfl (lv_at hv 0 rfl) ?_
  refine lv_iconst (v := (1 : Int32)) C.ex C.by d_M_judge_19 (by decide) ?_
  obtain ⟨hk1, hw⟩ := hw
  refine fx_callI C F (c_M_fail hl hw) hm_M_fail hi_M_fail hv.1 (by decide) (Nat.le_of_ble_eq_true rfl) (iv_M_fail C F lm_M_362 hk1 d_M_judge_20) (fx_out0 _) fx_eno (fun v1 h1 H locs cells slots hw hx1 F => ?_)
  replace hw := hw hx1
  have hk1 := (hx1).k hk1
  exact fx_iret C F d_M_judge_23 (Or.inl ⟨_, rfl, hw⟩)
theorem b_M_judge_68 {p : Program} {l : Launch} {e : Env} {R : Room} {s : State} {m : MethodId} {args : Array Value} {below : List Frame} {meth : Method} {c : Code} {D : DD} {h0 : AH} {Q : Int32 → AH → Prop} (C : fx_CX D y_M_judge prog_15_method_75_code 4 10 163 (Option.some FieldType.int) [] h0 p R s m meth c) (hl : l.flags = flags0) (x3 : Int32) (h : AH) (hw : m_M_judge_68 Q x3 h) : ∀ (ls : Array Slot) (H : Heap) (locs : List Loc) (cells slots : Nat), lv_has ls 4 [(3, .int x3)] → fx_F D h0 h H locs cells slots → W p l e R s m args below meth c H locs cells slots (fx_Z D below s h0 (fx_oI Q fx_no)) (F0 m 68 ls []) := by
  unfold m_M_judge_68 at hw
  intro ls H locs cells slots hv F
  refine lv_iload_n C.ex C.by d_M_judge_68 rfl (lv_at hv 0 rfl) ?_
  exact fx_iret C F d_M_judge_69 (Or.inl ⟨_, rfl, hw⟩)
theorem b_M_judge_0 {p : Program} {l : Launch} {e : Env} {R : Room} {s : State} {m : MethodId} {args : Array Value} {below : List Frame} {meth : Method} {c : Code} {D : DD} {h0 : AH} {Q : Int32 → AH → Prop} (C : fx_CX D y_M_judge prog_15_method_75_code 4 10 163 (Option.some FieldType.int) [] h0 p R s m meth c) (hl : l.flags = flags0) (r0 : Nat) (x1 : Int32) (x2 : Int32) (h : AH) (hw : m_M_judge Q r0 x1 x2 h) : ∀ (ls : Array Slot) (H : Heap) (locs : List Loc) (cells slots : Nat), lv_has ls 4 [(0, .ref r0), (1, .int x1), (2, .int x2)] → fx_F D h0 h H locs cells slots → W p l e R s m args below meth c H locs cells slots (fx_Z D below s h0 (fx_oI Q fx_no)) (F0 m 0 ls []) := by
  unfold m_M_judge at hw
  intro ls H locs cells slots hv F
  refine lv_aload_n C.ex C.by d_M_judge_0 rfl (lv_at hv 0 rfl) ?_
  refine lv_iconst (v := (0 : Int32)) C.ex C.by d_M_judge_1 (by decide) ?_
  obtain ⟨hk1, hw⟩ := hw
  let h1 : AH := up_I h r0 0 (0 : Int32)
  replace hw := hw h1 rfl
  refine fx_putI C F lf_M_83 hk1 rfl rfl (fx_mayF.no rfl rfl) d_M_judge_2 (fun H locs (F : fx_F D h0 h1 H locs _ _) => ?_)
  refine lv_iload_n C.ex C.by d_M_judge_5 rfl (lv_at hv 1 rfl) ?_
  refine lv_if_lt C.ex C.by d_M_judge_6 rfl (fun hc => ?_) (fun hc => ?_)
  · replace hw := hw.1 hc
    exact b_M_judge_18 C hl _ _ hw _ _ _ _ _ (lv_sub hv [0] rfl) F
  · replace hw := hw.2 hc
    refine lv_iload_n C.ex C.by d_M_judge_9 rfl (lv_at hv 1 rfl) ?_
    refine lv_iconst (v := (1 : Int32)) C.ex C.by d_M_judge_10 (by decide) ?_
    refine lv_icmp_gt C.ex C.by d_M_judge_11 rfl (fun hc => ?_) (fun hc => ?_)
    · replace hw := hw.1 hc
      exact b_M_judge_18 C hl _ _ hw _ _ _ _ _ (lv_sub hv [0] rfl) F
    · replace hw := hw.2 hc
      refine lv_iload_n C.ex C.by d_M_judge_14 rfl (lv_at hv 2 rfl) ?_
      refine lv_if_ge C.ex C.by d_M_judge_15 rfl (fun hc => ?_) (fun hc => ?_)
      · replace hw := hw.1 hc
        refine lv_aload_n C.ex C.by d_M_judge_24 rfl (lv_at hv 0 rfl) ?_
        refine fx_getI C F lf_M_396 hk1 rfl d_M_judge_25 ?_
        refine lv_if_ne C.ex C.by d_M_judge_28 rfl (fun hc => ?_) (fun hc => ?_)
        · replace hw := hw.1 hc
          refine lv_aload_n C.ex C.by d_M_judge_37 rfl (lv_at hv 0 rfl) ?_
          refine lv_iload_n C.ex C.by d_M_judge_38 rfl (lv_at hv 1 rfl) ?_
          refine lv_iload_n C.ex C.by d_M_judge_39 rfl (lv_at hv 2 rfl) ?_
          refine fx_callI C F (c_M_verdict hl hw) hm_M_verdict hi_M_verdict hv.1 (by decide) (Nat.le_of_ble_eq_true rfl) (iv_M_verdict C F lm_M_434 hk1 d_M_judge_40) (fx_out0 _) fx_eno (fun v1 h2 H locs cells slots hw hx1 F => ?_)
          replace hw := hw hx1
          have hk1 := (hx1).k hk1
          refine lv_istore_n (lv' := [(3, .int v1), (0, .ref r0), (1, .int x1), (2, .int x2)]) C.ex C.by d_M_judge_43 rfl hv (by decide) rfl (fun ls hv => ?_)
          refine lv_aload_n C.ex C.by d_M_judge_44 rfl (lv_at hv 1 rfl) ?_
          refine lv_dup C.ex C.by d_M_judge_45 rfl ?_
          refine fx_getI C F lf_M_437 hk1 rfl d_M_judge_46 ?_
          refine lv_iconst (v := (1 : Int32)) C.ex C.by d_M_judge_49 (by decide) ?_
          refine lv_iadd C.ex C.by d_M_judge_50 ?_
          let h3 : AH := up_I h2 r0 18 ((hp_I h2 r0 18) + (1 : Int32))
          replace hw := hw h3 rfl
          refine fx_putI C F lf_M_437 hk1 rfl rfl (fx_mayF.no rfl rfl) d_M_judge_51 (fun H locs (F : fx_F D h0 h3 H locs _ _) => ?_)
          refine lv_iload_n C.ex C.by d_M_judge_54 rfl (lv_at hv 0 rfl) ?_
          refine lv_if_ne C.ex C.by d_M_judge_55 rfl (fun hc => ?_) (fun hc => ?_)
          · replace hw := hw.1 hc
            exact b_M_judge_68 C hl _ _ hw _ _ _ _ _ (lv_sub hv [0] rfl) F
          · replace hw := hw.2 hc
            refine lv_aload_n C.ex C.by d_M_judge_58 rfl (lv_at hv 1 rfl) ?_
            refine lv_dup C.ex C.by d_M_judge_59 rfl ?_
            refine fx_getI C F lf_M_440 hk1 rfl d_M_judge_60 ?_
            refine lv_iconst (v := (1 : Int32)) C.ex C.by d_M_judge_63 (by decide) ?_
            refine lv_iadd C.ex C.by d_M_judge_64 ?_
            let h4 : AH := up_I h3 r0 19 ((hp_I h3 r0 19) + (1 : Int32))
            replace hw := hw h4 rfl
            refine fx_putI C F lf_M_440 hk1 rfl rfl (fx_mayF.no rfl rfl) d_M_judge_65 (fun H locs (F : fx_F D h0 h4 H locs _ _) => ?_)
            exact b_M_judge_68 C hl _ _ hw _ _ _ _ _ (lv_sub hv [0] rfl) F
        · replace hw := hw.2 hc
          refine lv_aload_n C.ex C.by d_M_judge_31 rfl (lv_at hv 0 rfl) ?_
          refine lv_iconst (v := (2 : Int32)) C.ex C.by d_M_judge_32 (by decide) ?_
          refine fx_callI C F (c_M_fail hl hw) hm_M_fail hi_M_fail hv.1 (by decide) (Nat.le_of_ble_eq_true rfl) (iv_M_fail C F lm_M_362 hk1 d_M_judge_33) (fx_out0 _) fx_eno (fun v2 h5 H locs cells slots hw hx2 F => ?_)
          replace hw := hw hx2
          have hk1 := (hx2).k hk1
          exact fx_iret C F d_M_judge_36 (Or.inl ⟨_, rfl, hw⟩)
      · replace hw := hw.2 hc
        exact b_M_judge_18 C hl _ _ hw _ _ _ _ _ (lv_sub hv [0] rfl) F
theorem hm_M_judge : fx_hd y_M_judge prog_15_method_75_code 4 (Option.some FieldType.int) [] ∈ tables_1 := (fx_m7 (List.mem_of_getElem? (i := 201) rfl))
theorem hi_M_judge : Cond.initialized y_M_judge.cls ∈ tables_1 := (fx_m1 (List.mem_of_getElem? (i := 15) rfl))
theorem c_M_judge {l : Launch} (hl : l.flags = flags0) {D : DD} {Q : Int32 → AH → Prop} {r0 : Nat} {x1 : Int32} {x2 : Int32} {h : AH} (hw : m_M_judge Q r0 x1 x2 h) : fx_Mt l D y_M_judge (fx_hd y_M_judge prog_15_method_75_code 4 (Option.some FieldType.int) []) 10 163 [.ref r0, .int x1, .int x2] h (fx_oI Q fx_no) := by
  refine fx_ofW (plainFor_of_name (by decide)) (fun p e s m below meth c C F => ?_)
  have hv := lv_entry ([.ref r0, .int x1, .int x2]) (n := 4) (Nat.le_of_ble_eq_true rfl)
  rw [lg_entry_eq]
  generalize (lg_sl ([.ref r0, .int x1, .int x2]) ++ List.replicate (4 - (lg_sl ([.ref r0, .int x1, .int x2])).length) Slot.unset).toArray = ls at hv ⊢
  have hv : lv_has ls 4 [(0, .ref r0), (1, .int x1), (2, .int x2)] := hv
  exact b_M_judge_0 C hl _ _ _ _ hw _ _ _ _ _ hv F
/-! ChainJudgeModel.path(I)I: frames 1, words 13 -/
abbrev y_M_path : MethodName := ⟨"ChainJudgeModel", "path", "(I)I"⟩
def dl_M_path : List (Nat × Instr × Nat) := [(0, .aload_n 0, 1), (1, .iconst 0, 1), (2, .putfield 83, 3), (5, .iload_n 1, 1), (6, .ifCond .lt 11, 3), (9, .iload_n 1, 1), (10, .aload_n 0, 1), (11, .getfield 405, 3), (14, .if_icmp .le 9, 3), (17, .aload_n 0, 1), (18, .iconst 1, 1), (19, .invokevirtual 362, 3), (22, .ireturn, 1), (23, .iload_n 1, 1), (24, .aload_n 0, 1), (25, .getfield 405, 3), (28, .if_icmp .ge 12, 3), (31, .aload_n 0, 1), (32, .getfield 37, 3), (35, .iload_n 1, 1), (36, .iaload, 1), (37, .goto 7, 3), (40, .aload_n 0, 1), (41, .getfield 40, 3), (44, .ireturn, 1)]
theorem dk_M_path : fx_dec prog_15_method_76_code dl_M_path = true := by decide +kernel
theorem d_M_path_0 : decode prog_15_method_76_code 0 = .ok (.aload_n 0, 1) := fx_dat dk_M_path 0 rfl
theorem d_M_path_1 : decode prog_15_method_76_code 1 = .ok (.iconst 0, 1) := fx_dat dk_M_path 1 rfl
theorem d_M_path_2 : decode prog_15_method_76_code 2 = .ok (.putfield 83, 3) := fx_dat dk_M_path 2 rfl
theorem d_M_path_5 : decode prog_15_method_76_code 5 = .ok (.iload_n 1, 1) := fx_dat dk_M_path 3 rfl
theorem d_M_path_6 : decode prog_15_method_76_code 6 = .ok (.ifCond .lt 11, 3) := fx_dat dk_M_path 4 rfl
theorem d_M_path_9 : decode prog_15_method_76_code 9 = .ok (.iload_n 1, 1) := fx_dat dk_M_path 5 rfl
theorem d_M_path_10 : decode prog_15_method_76_code 10 = .ok (.aload_n 0, 1) := fx_dat dk_M_path 6 rfl
theorem d_M_path_11 : decode prog_15_method_76_code 11 = .ok (.getfield 405, 3) := fx_dat dk_M_path 7 rfl
theorem d_M_path_14 : decode prog_15_method_76_code 14 = .ok (.if_icmp .le 9, 3) := fx_dat dk_M_path 8 rfl
theorem d_M_path_17 : decode prog_15_method_76_code 17 = .ok (.aload_n 0, 1) := fx_dat dk_M_path 9 rfl
theorem d_M_path_18 : decode prog_15_method_76_code 18 = .ok (.iconst 1, 1) := fx_dat dk_M_path 10 rfl
theorem d_M_path_19 : decode prog_15_method_76_code 19 = .ok (.invokevirtual 362, 3) := fx_dat dk_M_path 11 rfl
theorem d_M_path_22 : decode prog_15_method_76_code 22 = .ok (.ireturn, 1) := fx_dat dk_M_path 12 rfl
theorem d_M_path_23 : decode prog_15_method_76_code 23 = .ok (.iload_n 1, 1) := fx_dat dk_M_path 13 rfl
theorem d_M_path_24 : decode prog_15_method_76_code 24 = .ok (.aload_n 0, 1) := fx_dat dk_M_path 14 rfl
theorem d_M_path_25 : decode prog_15_method_76_code 25 = .ok (.getfield 405, 3) := fx_dat dk_M_path 15 rfl
theorem d_M_path_28 : decode prog_15_method_76_code 28 = .ok (.if_icmp .ge 12, 3) := fx_dat dk_M_path 16 rfl
theorem d_M_path_31 : decode prog_15_method_76_code 31 = .ok (.aload_n 0, 1) := fx_dat dk_M_path 17 rfl
theorem d_M_path_32 : decode prog_15_method_76_code 32 = .ok (.getfield 37, 3) := fx_dat dk_M_path 18 rfl
theorem d_M_path_35 : decode prog_15_method_76_code 35 = .ok (.iload_n 1, 1) := fx_dat dk_M_path 19 rfl
theorem d_M_path_36 : decode prog_15_method_76_code 36 = .ok (.iaload, 1) := fx_dat dk_M_path 20 rfl
theorem d_M_path_37 : decode prog_15_method_76_code 37 = .ok (.goto 7, 3) := fx_dat dk_M_path 21 rfl
theorem d_M_path_40 : decode prog_15_method_76_code 40 = .ok (.aload_n 0, 1) := fx_dat dk_M_path 22 rfl
theorem d_M_path_41 : decode prog_15_method_76_code 41 = .ok (.getfield 40, 3) := fx_dat dk_M_path 23 rfl
theorem d_M_path_44 : decode prog_15_method_76_code 44 = .ok (.ireturn, 1) := fx_dat dk_M_path 24 rfl
def m_M_path_17 (Q : Int32 → AH → Prop) (r0 : Nat) (h : AH) : Prop := hp_k h r0 = 13 ∧ m_M_fail (fun v1 h1 => fx_ext h h1 → Q v1 h1) r0 (1 : Int32) h
def m_M_path_44 (Q : Int32 → AH → Prop) (sx0 : Int32) (h : AH) : Prop := Q sx0 h
def m_M_path (Q : Int32 → AH → Prop) (r0 : Nat) (x1 : Int32) (h : AH) : Prop := hp_k h r0 = 13 ∧ ∀ h1 : AH, h1 = up_I h r0 0 (0 : Int32) → (x1 < 0 → m_M_path_17 Q r0 h1) ∧ (¬ x1 < 0 → (x1 ≤ (hp_I h1 r0 16) → ((hp_I h1 r0 16) ≤ x1 → m_M_path_44 Q (hp_I h1 r0 17) h1) ∧ (¬ (hp_I h1 r0 16) ≤ x1 → ∃ b1, hp_R h1 r0 13 = some b1 ∧ ik (hp_k h1 b1) ∧ vp_in x1 (hp_n h1 b1) ∧ m_M_path_44 Q (hp_I h1 b1 x1.toNatClampNeg) h1)) ∧ (¬ x1 ≤ (hp_I h1 r0 16) → m_M_path_17 Q r0 h1))
theorem b_M_path_17 {p : Program} {l : Launch} {e : Env} {R : Room} {s : State} {m : MethodId} {args : Array Value} {below : List Frame} {meth : Method} {c : Code} {D : DD} {h0 : AH} {Q : Int32 → AH → Prop} (C : fx_CX D y_M_path prog_15_method_76_code 2 1 13 (Option.some FieldType.int) [] h0 p R s m meth c) (hl : l.flags = flags0) (r0 : Nat) (h : AH) (hw : m_M_path_17 Q r0 h) : ∀ (ls : Array Slot) (H : Heap) (locs : List Loc) (cells slots : Nat), lv_has ls 2 [(0, .ref r0)] → fx_F D h0 h H locs cells slots → W p l e R s m args below meth c H locs cells slots (fx_Z D below s h0 (fx_oI Q fx_no)) (F0 m 17 ls []) := by
  unfold m_M_path_17 at hw
  intro ls H locs cells slots hv F
  refine lv_aload_n C.ex C.by d_M_path_17 rfl (lv_at hv 0 rfl) ?_
  refine lv_iconst (v := (1 : Int32)) C.ex C.by d_M_path_18 (by decide) ?_
  obtain ⟨hk1, hw⟩ := hw
  refine fx_callI C F (c_M_fail hl hw) hm_M_fail hi_M_fail hv.1 (by decide) (Nat.le_of_ble_eq_true rfl) (iv_M_fail C F lm_M_362 hk1 d_M_path_19) (fx_out0 _) fx_eno (fun v1 h1 H locs cells slots hw hx1 F => ?_)
  replace hw := hw hx1
  have hk1 := (hx1).k hk1
  exact fx_iret C F d_M_path_22 (Or.inl ⟨_, rfl, hw⟩)
theorem b_M_path_44 {p : Program} {l : Launch} {e : Env} {R : Room} {s : State} {m : MethodId} {args : Array Value} {below : List Frame} {meth : Method} {c : Code} {D : DD} {h0 : AH} {Q : Int32 → AH → Prop} (C : fx_CX D y_M_path prog_15_method_76_code 2 1 13 (Option.some FieldType.int) [] h0 p R s m meth c) (hl : l.flags = flags0) (sx0 : Int32) (h : AH) (hw : m_M_path_44 Q sx0 h) : ∀ (ls : Array Slot) (H : Heap) (locs : List Loc) (cells slots : Nat), lv_has ls 2 [] → fx_F D h0 h H locs cells slots → W p l e R s m args below meth c H locs cells slots (fx_Z D below s h0 (fx_oI Q fx_no)) (F0 m 44 ls [.int sx0]) := by
  unfold m_M_path_44 at hw
  intro ls H locs cells slots hv F
  exact fx_iret C F d_M_path_44 (Or.inl ⟨_, rfl, hw⟩)
theorem b_M_path_0 {p : Program} {l : Launch} {e : Env} {R : Room} {s : State} {m : MethodId} {args : Array Value} {below : List Frame} {meth : Method} {c : Code} {D : DD} {h0 : AH} {Q : Int32 → AH → Prop} (C : fx_CX D y_M_path prog_15_method_76_code 2 1 13 (Option.some FieldType.int) [] h0 p R s m meth c) (hl : l.flags = flags0) (r0 : Nat) (x1 : Int32) (h : AH) (hw : m_M_path Q r0 x1 h) : ∀ (ls : Array Slot) (H : Heap) (locs : List Loc) (cells slots : Nat), lv_has ls 2 [(0, .ref r0), (1, .int x1)] → fx_F D h0 h H locs cells slots → W p l e R s m args below meth c H locs cells slots (fx_Z D below s h0 (fx_oI Q fx_no)) (F0 m 0 ls []) := by
  unfold m_M_path at hw
  intro ls H locs cells slots hv F
  refine lv_aload_n C.ex C.by d_M_path_0 rfl (lv_at hv 0 rfl) ?_
  refine lv_iconst (v := (0 : Int32)) C.ex C.by d_M_path_1 (by decide) ?_
  obtain ⟨hk1, hw⟩ := hw
  let h1 : AH := up_I h r0 0 (0 : Int32)
  replace hw := hw h1 rfl
  refine fx_putI C F lf_M_83 hk1 rfl rfl (fx_mayF.no rfl rfl) d_M_path_2 (fun H locs (F : fx_F D h0 h1 H locs _ _) => ?_)
  refine lv_iload_n C.ex C.by d_M_path_5 rfl (lv_at hv 1 rfl) ?_
  refine lv_if_lt C.ex C.by d_M_path_6 rfl (fun hc => ?_) (fun hc => ?_)
  · replace hw := hw.1 hc
    exact b_M_path_17 C hl _ _ hw _ _ _ _ _ (lv_sub hv [0] rfl) F
  · replace hw := hw.2 hc
    refine lv_iload_n C.ex C.by d_M_path_9 rfl (lv_at hv 1 rfl) ?_
    refine lv_aload_n C.ex C.by d_M_path_10 rfl (lv_at hv 0 rfl) ?_
    refine fx_getI C F lf_M_405 hk1 rfl d_M_path_11 ?_
    refine lv_icmp_le C.ex C.by d_M_path_14 rfl (fun hc => ?_) (fun hc => ?_)
    · replace hw := hw.1 hc
      refine lv_iload_n C.ex C.by d_M_path_23 rfl (lv_at hv 1 rfl) ?_
      refine lv_aload_n C.ex C.by d_M_path_24 rfl (lv_at hv 0 rfl) ?_
      refine fx_getI C F lf_M_405 hk1 rfl d_M_path_25 ?_
      refine lv_icmp_ge C.ex C.by d_M_path_28 rfl (fun hc => ?_) (fun hc => ?_)
      · replace hw := hw.1 hc
        refine lv_aload_n C.ex C.by d_M_path_40 rfl (lv_at hv 0 rfl) ?_
        refine fx_getI C F lf_M_40 hk1 rfl d_M_path_41 ?_
        exact b_M_path_44 C hl _ _ hw _ _ _ _ _ (lv_sub hv [] rfl) F
      · replace hw := hw.2 hc
        refine lv_aload_n C.ex C.by d_M_path_31 rfl (lv_at hv 0 rfl) ?_
        obtain ⟨b1, hb1, hw⟩ := hw
        refine fx_getR C F lf_M_37 hk1 rfl hb1 d_M_path_32 ?_
        refine lv_iload_n C.ex C.by d_M_path_35 rfl (lv_at hv 1 rfl) ?_
        obtain ⟨hk2, hw⟩ := hw
        obtain ⟨hi1, hw⟩ := hw
        refine fx_iald C F hk2 hi1 d_M_path_36 ?_
        refine lv_goto C.ex C.by d_M_path_37 rfl ?_
        exact b_M_path_44 C hl _ _ hw _ _ _ _ _ (lv_sub hv [] rfl) F
    · replace hw := hw.2 hc
      exact b_M_path_17 C hl _ _ hw _ _ _ _ _ (lv_sub hv [0] rfl) F
theorem hm_M_path : fx_hd y_M_path prog_15_method_76_code 2 (Option.some FieldType.int) [] ∈ tables_1 := (fx_m8 (List.mem_of_getElem? (i := 0) rfl))
theorem hi_M_path : Cond.initialized y_M_path.cls ∈ tables_1 := (fx_m1 (List.mem_of_getElem? (i := 15) rfl))
theorem c_M_path {l : Launch} (hl : l.flags = flags0) {D : DD} {Q : Int32 → AH → Prop} {r0 : Nat} {x1 : Int32} {h : AH} (hw : m_M_path Q r0 x1 h) : fx_Mt l D y_M_path (fx_hd y_M_path prog_15_method_76_code 2 (Option.some FieldType.int) []) 1 13 [.ref r0, .int x1] h (fx_oI Q fx_no) := by
  refine fx_ofW (plainFor_of_name (by decide)) (fun p e s m below meth c C F => ?_)
  have hv := lv_entry ([.ref r0, .int x1]) (n := 2) (Nat.le_of_ble_eq_true rfl)
  rw [lg_entry_eq]
  generalize (lg_sl ([.ref r0, .int x1]) ++ List.replicate (2 - (lg_sl ([.ref r0, .int x1])).length) Slot.unset).toArray = ls at hv ⊢
  have hv : lv_has ls 2 [(0, .ref r0), (1, .int x1)] := hv
  exact b_M_path_0 C hl _ _ _ hw _ _ _ _ _ hv F
/-! ChainJudgeModel.count(I)I: frames 0, words 0 -/
abbrev y_M_count : MethodName := ⟨"ChainJudgeModel", "count", "(I)I"⟩
def dl_M_count : List (Nat × Instr × Nat) := [(0, .aload_n 0, 1), (1, .iconst 0, 1), (2, .putfield 83, 3), (5, .iload_n 1, 1), (6, .tableswitch 95 0 8 #[50, 55, 60, 65, 70, 75, 80, 85, 90], 50), (56, .aload_n 0, 1), (57, .getfield 328, 3), (60, .ireturn, 1), (61, .aload_n 0, 1), (62, .getfield 353, 3), (65, .ireturn, 1), (66, .aload_n 0, 1), (67, .getfield 350, 3), (70, .ireturn, 1), (71, .aload_n 0, 1), (72, .getfield 396, 3), (75, .ireturn, 1), (76, .aload_n 0, 1), (77, .getfield 399, 3), (80, .ireturn, 1), (81, .aload_n 0, 1), (82, .getfield 402, 3), (85, .ireturn, 1), (86, .aload_n 0, 1), (87, .getfield 437, 3), (90, .ireturn, 1), (91, .aload_n 0, 1), (92, .getfield 440, 3), (95, .ireturn, 1), (96, .aload_n 0, 1), (97, .getfield 405, 3), (100, .ireturn, 1), (101, .iconst (-1), 1), (102, .ireturn, 1)]
theorem dk_M_count : fx_dec prog_15_method_77_code dl_M_count = true := by decide +kernel
theorem d_M_count_0 : decode prog_15_method_77_code 0 = .ok (.aload_n 0, 1) := fx_dat dk_M_count 0 rfl
theorem d_M_count_1 : decode prog_15_method_77_code 1 = .ok (.iconst 0, 1) := fx_dat dk_M_count 1 rfl
theorem d_M_count_2 : decode prog_15_method_77_code 2 = .ok (.putfield 83, 3) := fx_dat dk_M_count 2 rfl
theorem d_M_count_5 : decode prog_15_method_77_code 5 = .ok (.iload_n 1, 1) := fx_dat dk_M_count 3 rfl
theorem d_M_count_6 : decode prog_15_method_77_code 6 = .ok (.tableswitch 95 0 8 #[50, 55, 60, 65, 70, 75, 80, 85, 90], 50) := fx_dat dk_M_count 4 rfl
theorem d_M_count_56 : decode prog_15_method_77_code 56 = .ok (.aload_n 0, 1) := fx_dat dk_M_count 5 rfl
theorem d_M_count_57 : decode prog_15_method_77_code 57 = .ok (.getfield 328, 3) := fx_dat dk_M_count 6 rfl
theorem d_M_count_60 : decode prog_15_method_77_code 60 = .ok (.ireturn, 1) := fx_dat dk_M_count 7 rfl
theorem d_M_count_61 : decode prog_15_method_77_code 61 = .ok (.aload_n 0, 1) := fx_dat dk_M_count 8 rfl
theorem d_M_count_62 : decode prog_15_method_77_code 62 = .ok (.getfield 353, 3) := fx_dat dk_M_count 9 rfl
theorem d_M_count_65 : decode prog_15_method_77_code 65 = .ok (.ireturn, 1) := fx_dat dk_M_count 10 rfl
theorem d_M_count_66 : decode prog_15_method_77_code 66 = .ok (.aload_n 0, 1) := fx_dat dk_M_count 11 rfl
theorem d_M_count_67 : decode prog_15_method_77_code 67 = .ok (.getfield 350, 3) := fx_dat dk_M_count 12 rfl
theorem d_M_count_70 : decode prog_15_method_77_code 70 = .ok (.ireturn, 1) := fx_dat dk_M_count 13 rfl
theorem d_M_count_71 : decode prog_15_method_77_code 71 = .ok (.aload_n 0, 1) := fx_dat dk_M_count 14 rfl
theorem d_M_count_72 : decode prog_15_method_77_code 72 = .ok (.getfield 396, 3) := fx_dat dk_M_count 15 rfl
theorem d_M_count_75 : decode prog_15_method_77_code 75 = .ok (.ireturn, 1) := fx_dat dk_M_count 16 rfl
theorem d_M_count_76 : decode prog_15_method_77_code 76 = .ok (.aload_n 0, 1) := fx_dat dk_M_count 17 rfl
theorem d_M_count_77 : decode prog_15_method_77_code 77 = .ok (.getfield 399, 3) := fx_dat dk_M_count 18 rfl
theorem d_M_count_80 : decode prog_15_method_77_code 80 = .ok (.ireturn, 1) := fx_dat dk_M_count 19 rfl
theorem d_M_count_81 : decode prog_15_method_77_code 81 = .ok (.aload_n 0, 1) := fx_dat dk_M_count 20 rfl
theorem d_M_count_82 : decode prog_15_method_77_code 82 = .ok (.getfield 402, 3) := fx_dat dk_M_count 21 rfl
theorem d_M_count_85 : decode prog_15_method_77_code 85 = .ok (.ireturn, 1) := fx_dat dk_M_count 22 rfl
theorem d_M_count_86 : decode prog_15_method_77_code 86 = .ok (.aload_n 0, 1) := fx_dat dk_M_count 23 rfl
theorem d_M_count_87 : decode prog_15_method_77_code 87 = .ok (.getfield 437, 3) := fx_dat dk_M_count 24 rfl
theorem d_M_count_90 : decode prog_15_method_77_code 90 = .ok (.ireturn, 1) := fx_dat dk_M_count 25 rfl
theorem d_M_count_91 : decode prog_15_method_77_code 91 = .ok (.aload_n 0, 1) := fx_dat dk_M_count 26 rfl
theorem d_M_count_92 : decode prog_15_method_77_code 92 = .ok (.getfield 440, 3) := fx_dat dk_M_count 27 rfl
theorem d_M_count_95 : decode prog_15_method_77_code 95 = .ok (.ireturn, 1) := fx_dat dk_M_count 28 rfl
theorem d_M_count_96 : decode prog_15_method_77_code 96 = .ok (.aload_n 0, 1) := fx_dat dk_M_count 29 rfl
theorem d_M_count_97 : decode prog_15_method_77_code 97 = .ok (.getfield 405, 3) := fx_dat dk_M_count 30 rfl
theorem d_M_count_100 : decode prog_15_method_77_code 100 = .ok (.ireturn, 1) := fx_dat dk_M_count 31 rfl
theorem d_M_count_101 : decode prog_15_method_77_code 101 = .ok (.iconst (-1), 1) := fx_dat dk_M_count 32 rfl
theorem d_M_count_102 : decode prog_15_method_77_code 102 = .ok (.ireturn, 1) := fx_dat dk_M_count 33 rfl
def m_M_count_56 (Q : Int32 → AH → Prop) (r0 : Nat) (h : AH) : Prop := hp_k h r0 = 13 ∧ Q (hp_I h r0 4) h
def m_M_count_61 (Q : Int32 → AH → Prop) (r0 : Nat) (h : AH) : Prop := hp_k h r0 = 13 ∧ Q (hp_I h r0 5) h
def m_M_count_66 (Q : Int32 → AH → Prop) (r0 : Nat) (h : AH) : Prop := hp_k h r0 = 13 ∧ Q (hp_I h r0 10) h
def m_M_count_71 (Q : Int32 → AH → Prop) (r0 : Nat) (h : AH) : Prop := hp_k h r0 = 13 ∧ Q (hp_I h r0 14) h
def m_M_count_76 (Q : Int32 → AH → Prop) (r0 : Nat) (h : AH) : Prop := hp_k h r0 = 13 ∧ Q (hp_I h r0 15) h
def m_M_count_81 (Q : Int32 → AH → Prop) (r0 : Nat) (h : AH) : Prop := hp_k h r0 = 13 ∧ Q (hp_I h r0 6) h
def m_M_count_86 (Q : Int32 → AH → Prop) (r0 : Nat) (h : AH) : Prop := hp_k h r0 = 13 ∧ Q (hp_I h r0 18) h
def m_M_count_91 (Q : Int32 → AH → Prop) (r0 : Nat) (h : AH) : Prop := hp_k h r0 = 13 ∧ Q (hp_I h r0 19) h
def m_M_count_96 (Q : Int32 → AH → Prop) (r0 : Nat) (h : AH) : Prop := hp_k h r0 = 13 ∧ Q (hp_I h r0 16) h
def m_M_count_101 (Q : Int32 → AH → Prop) (h : AH) : Prop := Q (-1 : Int32) h
def m_M_count (Q : Int32 → AH → Prop) (r0 : Nat) (x1 : Int32) (h : AH) : Prop := hp_k h r0 = 13 ∧ ∀ h1 : AH, h1 = up_I h r0 0 (0 : Int32) → (x1 = (0 : Int32) → m_M_count_56 Q r0 h1) ∧ (x1 = (1 : Int32) → m_M_count_61 Q r0 h1) ∧ (x1 = (2 : Int32) → m_M_count_66 Q r0 h1) ∧ (x1 = (3 : Int32) → m_M_count_71 Q r0 h1) ∧ (x1 = (4 : Int32) → m_M_count_76 Q r0 h1) ∧ (x1 = (5 : Int32) → m_M_count_81 Q r0 h1) ∧ (x1 = (6 : Int32) → m_M_count_86 Q r0 h1) ∧ (x1 = (7 : Int32) → m_M_count_91 Q r0 h1) ∧ (x1 = (8 : Int32) → m_M_count_96 Q r0 h1) ∧ ((∀ k ∈ ([(0 : Int32), (1 : Int32), (2 : Int32), (3 : Int32), (4 : Int32), (5 : Int32), (6 : Int32), (7 : Int32), (8 : Int32)] : List Int32), ¬ x1 = k) → m_M_count_101 Q h1)
theorem b_M_count_56 {p : Program} {l : Launch} {e : Env} {R : Room} {s : State} {m : MethodId} {args : Array Value} {below : List Frame} {meth : Method} {c : Code} {D : DD} {h0 : AH} {Q : Int32 → AH → Prop} (C : fx_CX D y_M_count prog_15_method_77_code 2 0 0 (Option.some FieldType.int) [] h0 p R s m meth c) (hl : l.flags = flags0) (r0 : Nat) (h : AH) (hw : m_M_count_56 Q r0 h) : ∀ (ls : Array Slot) (H : Heap) (locs : List Loc) (cells slots : Nat), lv_has ls 2 [(0, .ref r0)] → fx_F D h0 h H locs cells slots → W p l e R s m args below meth c H locs cells slots (fx_Z D below s h0 (fx_oI Q fx_no)) (F0 m 56 ls []) := by
  unfold m_M_count_56 at hw
  intro ls H locs cells slots hv F
  refine lv_aload_n C.ex C.by d_M_count_56 rfl (lv_at hv 0 rfl) ?_
  obtain ⟨hk1, hw⟩ := hw
  refine fx_getI C F lf_M_328 hk1 rfl d_M_count_57 ?_
  exact fx_iret C F d_M_count_60 (Or.inl ⟨_, rfl, hw⟩)
theorem b_M_count_61 {p : Program} {l : Launch} {e : Env} {R : Room} {s : State} {m : MethodId} {args : Array Value} {below : List Frame} {meth : Method} {c : Code} {D : DD} {h0 : AH} {Q : Int32 → AH → Prop} (C : fx_CX D y_M_count prog_15_method_77_code 2 0 0 (Option.some FieldType.int) [] h0 p R s m meth c) (hl : l.flags = flags0) (r0 : Nat) (h : AH) (hw : m_M_count_61 Q r0 h) : ∀ (ls : Array Slot) (H : Heap) (locs : List Loc) (cells slots : Nat), lv_has ls 2 [(0, .ref r0)] → fx_F D h0 h H locs cells slots → W p l e R s m args below meth c H locs cells slots (fx_Z D below s h0 (fx_oI Q fx_no)) (F0 m 61 ls []) := by
  unfold m_M_count_61 at hw
  intro ls H locs cells slots hv F
  refine lv_aload_n C.ex C.by d_M_count_61 rfl (lv_at hv 0 rfl) ?_
  obtain ⟨hk1, hw⟩ := hw
  refine fx_getI C F lf_M_353 hk1 rfl d_M_count_62 ?_
  exact fx_iret C F d_M_count_65 (Or.inl ⟨_, rfl, hw⟩)
theorem b_M_count_66 {p : Program} {l : Launch} {e : Env} {R : Room} {s : State} {m : MethodId} {args : Array Value} {below : List Frame} {meth : Method} {c : Code} {D : DD} {h0 : AH} {Q : Int32 → AH → Prop} (C : fx_CX D y_M_count prog_15_method_77_code 2 0 0 (Option.some FieldType.int) [] h0 p R s m meth c) (hl : l.flags = flags0) (r0 : Nat) (h : AH) (hw : m_M_count_66 Q r0 h) : ∀ (ls : Array Slot) (H : Heap) (locs : List Loc) (cells slots : Nat), lv_has ls 2 [(0, .ref r0)] → fx_F D h0 h H locs cells slots → W p l e R s m args below meth c H locs cells slots (fx_Z D below s h0 (fx_oI Q fx_no)) (F0 m 66 ls []) := by
  unfold m_M_count_66 at hw
  intro ls H locs cells slots hv F
  refine lv_aload_n C.ex C.by d_M_count_66 rfl (lv_at hv 0 rfl) ?_
  obtain ⟨hk1, hw⟩ := hw
  refine fx_getI C F lf_M_350 hk1 rfl d_M_count_67 ?_
  exact fx_iret C F d_M_count_70 (Or.inl ⟨_, rfl, hw⟩)
theorem b_M_count_71 {p : Program} {l : Launch} {e : Env} {R : Room} {s : State} {m : MethodId} {args : Array Value} {below : List Frame} {meth : Method} {c : Code} {D : DD} {h0 : AH} {Q : Int32 → AH → Prop} (C : fx_CX D y_M_count prog_15_method_77_code 2 0 0 (Option.some FieldType.int) [] h0 p R s m meth c) (hl : l.flags = flags0) (r0 : Nat) (h : AH) (hw : m_M_count_71 Q r0 h) : ∀ (ls : Array Slot) (H : Heap) (locs : List Loc) (cells slots : Nat), lv_has ls 2 [(0, .ref r0)] → fx_F D h0 h H locs cells slots → W p l e R s m args below meth c H locs cells slots (fx_Z D below s h0 (fx_oI Q fx_no)) (F0 m 71 ls []) := by
  unfold m_M_count_71 at hw
  intro ls H locs cells slots hv F
  refine lv_aload_n C.ex C.by d_M_count_71 rfl (lv_at hv 0 rfl) ?_
  obtain ⟨hk1, hw⟩ := hw
  refine fx_getI C F lf_M_396 hk1 rfl d_M_count_72 ?_
  exact fx_iret C F d_M_count_75 (Or.inl ⟨_, rfl, hw⟩)
theorem b_M_count_76 {p : Program} {l : Launch} {e : Env} {R : Room} {s : State} {m : MethodId} {args : Array Value} {below : List Frame} {meth : Method} {c : Code} {D : DD} {h0 : AH} {Q : Int32 → AH → Prop} (C : fx_CX D y_M_count prog_15_method_77_code 2 0 0 (Option.some FieldType.int) [] h0 p R s m meth c) (hl : l.flags = flags0) (r0 : Nat) (h : AH) (hw : m_M_count_76 Q r0 h) : ∀ (ls : Array Slot) (H : Heap) (locs : List Loc) (cells slots : Nat), lv_has ls 2 [(0, .ref r0)] → fx_F D h0 h H locs cells slots → W p l e R s m args below meth c H locs cells slots (fx_Z D below s h0 (fx_oI Q fx_no)) (F0 m 76 ls []) := by
  unfold m_M_count_76 at hw
  intro ls H locs cells slots hv F
  refine lv_aload_n C.ex C.by d_M_count_76 rfl (lv_at hv 0 rfl) ?_
  obtain ⟨hk1, hw⟩ := hw
  refine fx_getI C F lf_M_399 hk1 rfl d_M_count_77 ?_
  exact fx_iret C F d_M_count_80 (Or.inl ⟨_, rfl, hw⟩)
theorem b_M_count_81 {p : Program} {l : Launch} {e : Env} {R : Room} {s : State} {m : MethodId} {args : Array Value} {below : List Frame} {meth : Method} {c : Code} {D : DD} {h0 : AH} {Q : Int32 → AH → Prop} (C : fx_CX D y_M_count prog_15_method_77_code 2 0 0 (Option.some FieldType.int) [] h0 p R s m meth c) (hl : l.flags = flags0) (r0 : Nat) (h : AH) (hw : m_M_count_81 Q r0 h) : ∀ (ls : Array Slot) (H : Heap) (locs : List Loc) (cells slots : Nat), lv_has ls 2 [(0, .ref r0)] → fx_F D h0 h H locs cells slots → W p l e R s m args below meth c H locs cells slots (fx_Z D below s h0 (fx_oI Q fx_no)) (F0 m 81 ls []) := by
  unfold m_M_count_81 at hw
  intro ls H locs cells slots hv F
  refine lv_aload_n C.ex C.by d_M_count_81 rfl (lv_at hv 0 rfl) ?_
  obtain ⟨hk1, hw⟩ := hw
  refine fx_getI C F lf_M_402 hk1 rfl d_M_count_82 ?_
  exact fx_iret C F d_M_count_85 (Or.inl ⟨_, rfl, hw⟩)
theorem b_M_count_86 {p : Program} {l : Launch} {e : Env} {R : Room} {s : State} {m : MethodId} {args : Array Value} {below : List Frame} {meth : Method} {c : Code} {D : DD} {h0 : AH} {Q : Int32 → AH → Prop} (C : fx_CX D y_M_count prog_15_method_77_code 2 0 0 (Option.some FieldType.int) [] h0 p R s m meth c) (hl : l.flags = flags0) (r0 : Nat) (h : AH) (hw : m_M_count_86 Q r0 h) : ∀ (ls : Array Slot) (H : Heap) (locs : List Loc) (cells slots : Nat), lv_has ls 2 [(0, .ref r0)] → fx_F D h0 h H locs cells slots → W p l e R s m args below meth c H locs cells slots (fx_Z D below s h0 (fx_oI Q fx_no)) (F0 m 86 ls []) := by
  unfold m_M_count_86 at hw
  intro ls H locs cells slots hv F
  refine lv_aload_n C.ex C.by d_M_count_86 rfl (lv_at hv 0 rfl) ?_
  obtain ⟨hk1, hw⟩ := hw
  refine fx_getI C F lf_M_437 hk1 rfl d_M_count_87 ?_
  exact fx_iret C F d_M_count_90 (Or.inl ⟨_, rfl, hw⟩)
theorem b_M_count_91 {p : Program} {l : Launch} {e : Env} {R : Room} {s : State} {m : MethodId} {args : Array Value} {below : List Frame} {meth : Method} {c : Code} {D : DD} {h0 : AH} {Q : Int32 → AH → Prop} (C : fx_CX D y_M_count prog_15_method_77_code 2 0 0 (Option.some FieldType.int) [] h0 p R s m meth c) (hl : l.flags = flags0) (r0 : Nat) (h : AH) (hw : m_M_count_91 Q r0 h) : ∀ (ls : Array Slot) (H : Heap) (locs : List Loc) (cells slots : Nat), lv_has ls 2 [(0, .ref r0)] → fx_F D h0 h H locs cells slots → W p l e R s m args below meth c H locs cells slots (fx_Z D below s h0 (fx_oI Q fx_no)) (F0 m 91 ls []) := by
  unfold m_M_count_91 at hw
  intro ls H locs cells slots hv F
  refine lv_aload_n C.ex C.by d_M_count_91 rfl (lv_at hv 0 rfl) ?_
  obtain ⟨hk1, hw⟩ := hw
  refine fx_getI C F lf_M_440 hk1 rfl d_M_count_92 ?_
  exact fx_iret C F d_M_count_95 (Or.inl ⟨_, rfl, hw⟩)
theorem b_M_count_96 {p : Program} {l : Launch} {e : Env} {R : Room} {s : State} {m : MethodId} {args : Array Value} {below : List Frame} {meth : Method} {c : Code} {D : DD} {h0 : AH} {Q : Int32 → AH → Prop} (C : fx_CX D y_M_count prog_15_method_77_code 2 0 0 (Option.some FieldType.int) [] h0 p R s m meth c) (hl : l.flags = flags0) (r0 : Nat) (h : AH) (hw : m_M_count_96 Q r0 h) : ∀ (ls : Array Slot) (H : Heap) (locs : List Loc) (cells slots : Nat), lv_has ls 2 [(0, .ref r0)] → fx_F D h0 h H locs cells slots → W p l e R s m args below meth c H locs cells slots (fx_Z D below s h0 (fx_oI Q fx_no)) (F0 m 96 ls []) := by
  unfold m_M_count_96 at hw
  intro ls H locs cells slots hv F
  refine lv_aload_n C.ex C.by d_M_count_96 rfl (lv_at hv 0 rfl) ?_
  obtain ⟨hk1, hw⟩ := hw
  refine fx_getI C F lf_M_405 hk1 rfl d_M_count_97 ?_
  exact fx_iret C F d_M_count_100 (Or.inl ⟨_, rfl, hw⟩)
theorem b_M_count_101 {p : Program} {l : Launch} {e : Env} {R : Room} {s : State} {m : MethodId} {args : Array Value} {below : List Frame} {meth : Method} {c : Code} {D : DD} {h0 : AH} {Q : Int32 → AH → Prop} (C : fx_CX D y_M_count prog_15_method_77_code 2 0 0 (Option.some FieldType.int) [] h0 p R s m meth c) (hl : l.flags = flags0) (h : AH) (hw : m_M_count_101 Q h) : ∀ (ls : Array Slot) (H : Heap) (locs : List Loc) (cells slots : Nat), lv_has ls 2 [] → fx_F D h0 h H locs cells slots → W p l e R s m args below meth c H locs cells slots (fx_Z D below s h0 (fx_oI Q fx_no)) (F0 m 101 ls []) := by
  unfold m_M_count_101 at hw
  intro ls H locs cells slots hv F
  refine lv_iconst (v := (-1 : Int32)) C.ex C.by d_M_count_101 (by decide) ?_
  exact fx_iret C F d_M_count_102 (Or.inl ⟨_, rfl, hw⟩)
theorem b_M_count_0 {p : Program} {l : Launch} {e : Env} {R : Room} {s : State} {m : MethodId} {args : Array Value} {below : List Frame} {meth : Method} {c : Code} {D : DD} {h0 : AH} {Q : Int32 → AH → Prop} (C : fx_CX D y_M_count prog_15_method_77_code 2 0 0 (Option.some FieldType.int) [] h0 p R s m meth c) (hl : l.flags = flags0) (r0 : Nat) (x1 : Int32) (h : AH) (hw : m_M_count Q r0 x1 h) : ∀ (ls : Array Slot) (H : Heap) (locs : List Loc) (cells slots : Nat), lv_has ls 2 [(0, .ref r0), (1, .int x1)] → fx_F D h0 h H locs cells slots → W p l e R s m args below meth c H locs cells slots (fx_Z D below s h0 (fx_oI Q fx_no)) (F0 m 0 ls []) := by
  unfold m_M_count at hw
  intro ls H locs cells slots hv F
  refine lv_aload_n C.ex C.by d_M_count_0 rfl (lv_at hv 0 rfl) ?_
  refine lv_iconst (v := (0 : Int32)) C.ex C.by d_M_count_1 (by decide) ?_
  obtain ⟨hk1, hw⟩ := hw
  let h1 : AH := up_I h r0 0 (0 : Int32)
  replace hw := hw h1 rfl
  refine fx_putI C F lf_M_83 hk1 rfl rfl (fx_mayF.no rfl rfl) d_M_count_2 (fun H locs (F : fx_F D h0 h1 H locs _ _) => ?_)
  refine lv_iload_n C.ex C.by d_M_count_5 rfl (lv_at hv 1 rfl) ?_
  by_cases hs0 : x1 = (0 : Int32)
  · replace hw := hw.1 hs0
    refine lv_tableIn (off := 50) (tgt := 56) C.ex C.by d_M_count_6 (by rw [hs0]; decide) (by rw [hs0]; decide) (by rw [hs0]; rfl) rfl ?_
    exact b_M_count_56 C hl _ _ hw _ _ _ _ _ (lv_sub hv [0] rfl) F
  by_cases hs1 : x1 = (1 : Int32)
  · replace hw := hw.2.1 hs1
    refine lv_tableIn (off := 55) (tgt := 61) C.ex C.by d_M_count_6 (by rw [hs1]; decide) (by rw [hs1]; decide) (by rw [hs1]; rfl) rfl ?_
    exact b_M_count_61 C hl _ _ hw _ _ _ _ _ (lv_sub hv [0] rfl) F
  by_cases hs2 : x1 = (2 : Int32)
  · replace hw := hw.2.2.1 hs2
    refine lv_tableIn (off := 60) (tgt := 66) C.ex C.by d_M_count_6 (by rw [hs2]; decide) (by rw [hs2]; decide) (by rw [hs2]; rfl) rfl ?_
    exact b_M_count_66 C hl _ _ hw _ _ _ _ _ (lv_sub hv [0] rfl) F
  by_cases hs3 : x1 = (3 : Int32)
  · replace hw := hw.2.2.2.1 hs3
    refine lv_tableIn (off := 65) (tgt := 71) C.ex C.by d_M_count_6 (by rw [hs3]; decide) (by rw [hs3]; decide) (by rw [hs3]; rfl) rfl ?_
    exact b_M_count_71 C hl _ _ hw _ _ _ _ _ (lv_sub hv [0] rfl) F
  by_cases hs4 : x1 = (4 : Int32)
  · replace hw := hw.2.2.2.2.1 hs4
    refine lv_tableIn (off := 70) (tgt := 76) C.ex C.by d_M_count_6 (by rw [hs4]; decide) (by rw [hs4]; decide) (by rw [hs4]; rfl) rfl ?_
    exact b_M_count_76 C hl _ _ hw _ _ _ _ _ (lv_sub hv [0] rfl) F
  by_cases hs5 : x1 = (5 : Int32)
  · replace hw := hw.2.2.2.2.2.1 hs5
    refine lv_tableIn (off := 75) (tgt := 81) C.ex C.by d_M_count_6 (by rw [hs5]; decide) (by rw [hs5]; decide) (by rw [hs5]; rfl) rfl ?_
    exact b_M_count_81 C hl _ _ hw _ _ _ _ _ (lv_sub hv [0] rfl) F
  by_cases hs6 : x1 = (6 : Int32)
  · replace hw := hw.2.2.2.2.2.2.1 hs6
    refine lv_tableIn (off := 80) (tgt := 86) C.ex C.by d_M_count_6 (by rw [hs6]; decide) (by rw [hs6]; decide) (by rw [hs6]; rfl) rfl ?_
    exact b_M_count_86 C hl _ _ hw _ _ _ _ _ (lv_sub hv [0] rfl) F
  by_cases hs7 : x1 = (7 : Int32)
  · replace hw := hw.2.2.2.2.2.2.2.1 hs7
    refine lv_tableIn (off := 85) (tgt := 91) C.ex C.by d_M_count_6 (by rw [hs7]; decide) (by rw [hs7]; decide) (by rw [hs7]; rfl) rfl ?_
    exact b_M_count_91 C hl _ _ hw _ _ _ _ _ (lv_sub hv [0] rfl) F
  by_cases hs8 : x1 = (8 : Int32)
  · replace hw := hw.2.2.2.2.2.2.2.2.1 hs8
    refine lv_tableIn (off := 90) (tgt := 96) C.ex C.by d_M_count_6 (by rw [hs8]; decide) (by rw [hs8]; decide) (by rw [hs8]; rfl) rfl ?_
    exact b_M_count_96 C hl _ _ hw _ _ _ _ _ (lv_sub hv [0] rfl) F
  have hno : ∀ k ∈ ([(0 : Int32), (1 : Int32), (2 : Int32), (3 : Int32), (4 : Int32), (5 : Int32), (6 : Int32), (7 : Int32), (8 : Int32)] : List Int32), ¬ x1 = k := by
    intro k hk
    simp only [List.mem_cons, List.not_mem_nil, or_false] at hk
    rcases hk with rfl | rfl | rfl | rfl | rfl | rfl | rfl | rfl | rfl
    · exact hs0
    · exact hs1
    · exact hs2
    · exact hs3
    · exact hs4
    · exact hs5
    · exact hs6
    · exact hs7
    · exact hs8
  replace hw := hw.2.2.2.2.2.2.2.2.2 hno
  refine lv_tableOut (tgt := 101) C.ex C.by d_M_count_6 (fx_sw [(0 : Int32), (1 : Int32), (2 : Int32), (3 : Int32), (4 : Int32), (5 : Int32), (6 : Int32), (7 : Int32), (8 : Int32)] (by intro z h1 h2; rcases (show z = 0 ∨ z = 1 ∨ z = 2 ∨ z = 3 ∨ z = 4 ∨ z = 5 ∨ z = 6 ∨ z = 7 ∨ z = 8 by omega) with rfl | rfl | rfl | rfl | rfl | rfl | rfl | rfl | rfl; exact ⟨(0 : Int32), by decide, by decide⟩; exact ⟨(1 : Int32), by decide, by decide⟩; exact ⟨(2 : Int32), by decide, by decide⟩; exact ⟨(3 : Int32), by decide, by decide⟩; exact ⟨(4 : Int32), by decide, by decide⟩; exact ⟨(5 : Int32), by decide, by decide⟩; exact ⟨(6 : Int32), by decide, by decide⟩; exact ⟨(7 : Int32), by decide, by decide⟩; exact ⟨(8 : Int32), by decide, by decide⟩) hno) rfl ?_
  exact b_M_count_101 C hl _ hw _ _ _ _ _ (lv_sub hv [] rfl) F
theorem hm_M_count : fx_hd y_M_count prog_15_method_77_code 2 (Option.some FieldType.int) [] ∈ tables_1 := (fx_m8 (List.mem_of_getElem? (i := 4) rfl))
theorem hi_M_count : Cond.initialized y_M_count.cls ∈ tables_1 := (fx_m1 (List.mem_of_getElem? (i := 15) rfl))
theorem c_M_count {l : Launch} (hl : l.flags = flags0) {D : DD} {Q : Int32 → AH → Prop} {r0 : Nat} {x1 : Int32} {h : AH} (hw : m_M_count Q r0 x1 h) : fx_Mt l D y_M_count (fx_hd y_M_count prog_15_method_77_code 2 (Option.some FieldType.int) []) 0 0 [.ref r0, .int x1] h (fx_oI Q fx_no) := by
  refine fx_ofW (plainFor_of_name (by decide)) (fun p e s m below meth c C F => ?_)
  have hv := lv_entry ([.ref r0, .int x1]) (n := 2) (Nat.le_of_ble_eq_true rfl)
  rw [lg_entry_eq]
  generalize (lg_sl ([.ref r0, .int x1]) ++ List.replicate (2 - (lg_sl ([.ref r0, .int x1])).length) Slot.unset).toArray = ls at hv ⊢
  have hv : lv_has ls 2 [(0, .ref r0), (1, .int x1)] := hv
  exact b_M_count_0 C hl _ _ _ hw _ _ _ _ _ hv F
