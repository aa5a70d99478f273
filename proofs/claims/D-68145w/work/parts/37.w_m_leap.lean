set_option maxRecDepth 10000
/-! ChainJudgeModel.leap(I)Z: frames 0, words 0 -/
abbrev y_M_leap : MethodName := ⟨"ChainJudgeModel", "leap", "(I)Z"⟩
def dl_M_leap : List (Nat × Instr × Nat) := [(0, .iload_n 0, 1), (1, .iconst 4, 1), (2, .irem, 1), (3, .ifCond .ne 10, 3), (6, .iload_n 0, 1), (7, .bipush 100, 2), (9, .irem, 1), (10, .ifCond .ne 11, 3), (13, .iload_n 0, 1), (14, .sipush 400, 3), (17, .irem, 1), (18, .ifCond .ne 7, 3), (21, .iconst 1, 1), (22, .goto 4, 3), (25, .iconst 0, 1), (26, .ireturn, 1)]
theorem dk_M_leap : fx_dec prog_15_method_23_code dl_M_leap = true := by decide +kernel
theorem d_M_leap_0 : decode prog_15_method_23_code 0 = .ok (.iload_n 0, 1) := fx_dat dk_M_leap 0 rfl
theorem d_M_leap_1 : decode prog_15_method_23_code 1 = .ok (.iconst 4, 1) := fx_dat dk_M_leap 1 rfl
theorem d_M_leap_2 : decode prog_15_method_23_code 2 = .ok (.irem, 1) := fx_dat dk_M_leap 2 rfl
theorem d_M_leap_3 : decode prog_15_method_23_code 3 = .ok (.ifCond .ne 10, 3) := fx_dat dk_M_leap 3 rfl
theorem d_M_leap_6 : decode prog_15_method_23_code 6 = .ok (.iload_n 0, 1) := fx_dat dk_M_leap 4 rfl
theorem d_M_leap_7 : decode prog_15_method_23_code 7 = .ok (.bipush 100, 2) := fx_dat dk_M_leap 5 rfl
theorem d_M_leap_9 : decode prog_15_method_23_code 9 = .ok (.irem, 1) := fx_dat dk_M_leap 6 rfl
theorem d_M_leap_10 : decode prog_15_method_23_code 10 = .ok (.ifCond .ne 11, 3) := fx_dat dk_M_leap 7 rfl
theorem d_M_leap_13 : decode prog_15_method_23_code 13 = .ok (.iload_n 0, 1) := fx_dat dk_M_leap 8 rfl
theorem d_M_leap_14 : decode prog_15_method_23_code 14 = .ok (.sipush 400, 3) := fx_dat dk_M_leap 9 rfl
theorem d_M_leap_17 : decode prog_15_method_23_code 17 = .ok (.irem, 1) := fx_dat dk_M_leap 10 rfl
theorem d_M_leap_18 : decode prog_15_method_23_code 18 = .ok (.ifCond .ne 7, 3) := fx_dat dk_M_leap 11 rfl
theorem d_M_leap_21 : decode prog_15_method_23_code 21 = .ok (.iconst 1, 1) := fx_dat dk_M_leap 12 rfl
theorem d_M_leap_22 : decode prog_15_method_23_code 22 = .ok (.goto 4, 3) := fx_dat dk_M_leap 13 rfl
theorem d_M_leap_25 : decode prog_15_method_23_code 25 = .ok (.iconst 0, 1) := fx_dat dk_M_leap 14 rfl
theorem d_M_leap_26 : decode prog_15_method_23_code 26 = .ok (.ireturn, 1) := fx_dat dk_M_leap 15 rfl
def m_M_leap_26 (Q : Int32 → AH → Prop) (sx0 : Int32) (h : AH) : Prop := zb sx0 ∧ Q sx0 h
def m_M_leap_21 (Q : Int32 → AH → Prop) (h : AH) : Prop := m_M_leap_26 Q (1 : Int32) h
def m_M_leap_13 (Q : Int32 → AH → Prop) (x0 : Int32) (h : AH) : Prop := (¬ (x0 - x0 / (400 : Int32) * (400 : Int32)) = 0 → m_M_leap_26 Q (0 : Int32) h) ∧ ((x0 - x0 / (400 : Int32) * (400 : Int32)) = 0 → m_M_leap_21 Q h)
def m_M_leap (Q : Int32 → AH → Prop) (x0 : Int32) (h : AH) : Prop := (¬ (x0 - x0 / (4 : Int32) * (4 : Int32)) = 0 → m_M_leap_13 Q x0 h) ∧ ((x0 - x0 / (4 : Int32) * (4 : Int32)) = 0 → (¬ (x0 - x0 / (100 : Int32) * (100 : Int32)) = 0 → m_M_leap_21 Q h) ∧ ((x0 - x0 / (100 : Int32) * (100 : Int32)) = 0 → m_M_leap_13 Q x0 h))
theorem b_M_leap_26 {p : Program} {l : Launch} {e : Env} {R : Room} {s : State} {m : MethodId} {args : Array Value} {below : List Frame} {meth : Method} {c : Code} {D : DD} {h0 : AH} {Q : Int32 → AH → Prop} (C : fx_CX D y_M_leap prog_15_method_23_code 1 0 0 (Option.some FieldType.boolean) [] h0 p R s m meth c) (hl : l.flags = flags0) (sx0 : Int32) (h : AH) (hw : m_M_leap_26 Q sx0 h) : ∀ (ls : Array Slot) (H : Heap) (locs : List Loc) (cells slots : Nat), lv_has ls 1 [] → fx_F D h0 h H locs cells slots → W p l e R s m args below meth c H locs cells slots (fx_Z D below s h0 (fx_oZ Q fx_no)) (F0 m 26 ls [.int sx0]) := by
  unfold m_M_leap_26 at hw
  intro ls H locs cells slots hv F
  exact fx_zret C F d_M_leap_26 hw.1 (Or.inl ⟨_, rfl, hw.1, hw.2⟩)
theorem b_M_leap_21 {p : Program} {l : Launch} {e : Env} {R : Room} {s : State} {m : MethodId} {args : Array Value} {below : List Frame} {meth : Method} {c : Code} {D : DD} {h0 : AH} {Q : Int32 → AH → Prop} (C : fx_CX D y_M_leap prog_15_method_23_code 1 0 0 (Option.some FieldType.boolean) [] h0 p R s m meth c) (hl : l.flags = flags0) (h : AH) (hw : m_M_leap_21 Q h) : ∀ (ls : Array Slot) (H : Heap) (locs : List Loc) (cells slots : Nat), lv_has ls 1 [] → fx_F D h0 h H locs cells slots → W p l e R s m args below meth c H locs cells slots (fx_Z D below s h0 (fx_oZ Q fx_no)) (F0 m 21 ls []) := by
  unfold m_M_leap_21 at hw
  intro ls H locs cells slots hv F
  refine lv_iconst (v := (1 : Int32)) C.ex C.by d_M_leap_21 (by decide) ?_
  refine lv_goto C.ex C.by d_M_leap_22 rfl ?_
  exact b_M_leap_26 C hl _ _ hw _ _ _ _ _ hv F
theorem b_M_leap_13 {p : Program} {l : Launch} {e : Env} {R : Room} {s : State} {m : MethodId} {args : Array Value} {below : List Frame} {meth : Method} {c : Code} {D : DD} {h0 : AH} {Q : Int32 → AH → Prop} (C : fx_CX D y_M_leap prog_15_method_23_code 1 0 0 (Option.some FieldType.boolean) [] h0 p R s m meth c) (hl : l.flags = flags0) (x0 : Int32) (h : AH) (hw : m_M_leap_13 Q x0 h) : ∀ (ls : Array Slot) (H : Heap) (locs : List Loc) (cells slots : Nat), lv_has ls 1 [(0, .int x0)] → fx_F D h0 h H locs cells slots → W p l e R s m args below meth c H locs cells slots (fx_Z D below s h0 (fx_oZ Q fx_no)) (F0 m 13 ls []) := by
  unfold m_M_leap_13 at hw
  intro ls H locs cells slots hv F
  refine lv_iload_n C.ex C.by d_M_leap_13 rfl (lv_at hv 0 rfl) ?_
  refine lv_sipush (v := (400 : Int32)) C.ex C.by d_M_leap_14 (by decide) ?_
  refine lv_irem C.ex C.by d_M_leap_17 (by decide) ?_
  refine lv_if_ne C.ex C.by d_M_leap_18 rfl (fun hc => ?_) (fun hc => ?_)
  · replace hw := hw.1 hc
    refine lv_iconst (v := (0 : Int32)) C.ex C.by d_M_leap_25 (by decide) ?_
    exact b_M_leap_26 C hl _ _ hw _ _ _ _ _ (lv_sub hv [] rfl) F
  · replace hw := hw.2 hc
    exact b_M_leap_21 C hl _ hw _ _ _ _ _ (lv_sub hv [] rfl) F
theorem b_M_leap_0 {p : Program} {l : Launch} {e : Env} {R : Room} {s : State} {m : MethodId} {args : Array Value} {below : List Frame} {meth : Method} {c : Code} {D : DD} {h0 : AH} {Q : Int32 → AH → Prop} (C : fx_CX D y_M_leap prog_15_method_23_code 1 0 0 (Option.some FieldType.boolean) [] h0 p R s m meth c) (hl : l.flags = flags0) (x0 : Int32) (h : AH) (hw : m_M_leap Q x0 h) : ∀ (ls : Array Slot) (H : Heap) (locs : List Loc) (cells slots : Nat), lv_has ls 1 [(0, .int x0)] → fx_F D h0 h H locs cells slots → W p l e R s m args below meth c H locs cells slots (fx_Z D below s h0 (fx_oZ Q fx_no)) (F0 m 0 ls []) := by
  unfold m_M_leap at hw
  intro ls H locs cells slots hv F
  refine lv_iload_n C.ex C.by d_M_leap_0 rfl (lv_at hv 0 rfl) ?_
  refine lv_iconst (v := (4 : Int32)) C.ex C.by d_M_leap_1 (by decide) ?_
  refine lv_irem C.ex C.by d_M_leap_2 (by decide) ?_
  refine lv_if_ne C.ex C.by d_M_leap_3 rfl (fun hc => ?_) (fun hc => ?_)
  · replace hw := hw.1 hc
    exact b_M_leap_13 C hl _ _ hw _ _ _ _ _ hv F
  · replace hw := hw.2 hc
    refine lv_iload_n C.ex C.by d_M_leap_6 rfl (lv_at hv 0 rfl) ?_
    refine lv_bipush (v := (100 : Int32)) C.ex C.by d_M_leap_7 (by decide) ?_
    refine lv_irem C.ex C.by d_M_leap_9 (by decide) ?_
    refine lv_if_ne C.ex C.by d_M_leap_10 rfl (fun hc => ?_) (fun hc => ?_)
    · replace hw := hw.1 hc
      exact b_M_leap_21 C hl _ hw _ _ _ _ _ (lv_sub hv [] rfl) F
    · replace hw := hw.2 hc
      exact b_M_leap_13 C hl _ _ hw _ _ _ _ _ hv F
theorem hm_M_leap : fx_hd y_M_leap prog_15_method_23_code 1 (Option.some FieldType.boolean) [] ∈ tables_1 := (fx_m7 (List.mem_of_getElem? (i := 23) rfl))
theorem hi_M_leap : Cond.initialized y_M_leap.cls ∈ tables_1 := (fx_m1 (List.mem_of_getElem? (i := 15) rfl))
theorem c_M_leap {l : Launch} (hl : l.flags = flags0) {D : DD} {Q : Int32 → AH → Prop} {x0 : Int32} {h : AH} (hw : m_M_leap Q x0 h) : fx_Mt l D y_M_leap (fx_hd y_M_leap prog_15_method_23_code 1 (Option.some FieldType.boolean) []) 0 0 [.int x0] h (fx_oZ Q fx_no) := by
  refine fx_ofW (plainFor_of_name (by decide)) (fun p e s m below meth c C F => ?_)
  have hv := lv_entry ([.int x0]) (n := 1) (Nat.le_of_ble_eq_true rfl)
  rw [lg_entry_eq]
  generalize (lg_sl ([.int x0]) ++ List.replicate (1 - (lg_sl ([.int x0])).length) Slot.unset).toArray = ls at hv ⊢
  have hv : lv_has ls 1 [(0, .int x0)] := hv
  exact b_M_leap_0 C hl _ _ hw _ _ _ _ _ hv F
/-! ChainJudgeModel.daysOf(II)I: frames 1, words 12 -/
abbrev y_M_daysOf : MethodName := ⟨"ChainJudgeModel", "daysOf", "(II)I"⟩
theorem lm_M_159 : Cond.methodLink "ChainJudgeModel" 159 y_M_leap ∈ tables_1 ∨ ∃ host, Cond.methodLinkNest "ChainJudgeModel" 159 y_M_leap host ∈ tables_1 := Or.inl (fx_m7 (List.mem_of_getElem? (i := 21) rfl))
section
variable {p : Program} {l : Launch} {e : Env} {R : Room} {s : State} {m : MethodId} {args : Array Value} {below : List Frame} {meth : Method} {c : Code} {H : Heap} {locs : List Loc} {cells slots : Nat}
variable {D : DD} {y : MethodName} {cc : ByteArray} {nL kf kw : Nat} {ret : Option FieldType} {hh : List (Nat × Nat × Nat × Nat)} {h0 h : AH} {pc : Nat} {ls : Array Slot} {rest : List Value} {b idx : Nat}
theorem iv_M_leap {x0 : Int32} (C : fx_CX D y cc nL kf kw ret hh h0 p R s m meth c) (F : fx_F D h0 h H locs cells slots) (hw1 : Cond.methodLink y.cls idx y_M_leap ∈ tables_1 ∨ ∃ host, Cond.methodLinkNest y.cls idx y_M_leap host ∈ tables_1) (hd : decode cc pc = .ok (.invokestatic idx, 3)) : fx_IV p l e R s m args below meth c H locs cells slots (F0 m pc ls (.int x0 :: rest)) rest y_M_leap [.int x0] 3 := fun T hT X => fx_invS (As := [.int x0]) C X hw1 (fx_m7 (List.mem_of_getElem? (i := 22) rfl)) hi_M_leap hm_M_leap ⟨by decide, by decide⟩ rfl (n := 1) (by decide +kernel) rfl rfl hd
end
def dl_M_daysOf : List (Nat × Instr × Nat) := [(0, .iload_n 1, 1), (1, .iconst 2, 1), (2, .if_icmp .ne 20, 3), (5, .iload_n 0, 1), (6, .invokestatic 159, 3), (9, .ifCond .eq 8, 3), (12, .bipush 29, 2), (14, .goto 38, 3), (17, .bipush 28, 2), (19, .goto 33, 3), (22, .iload_n 1, 1), (23, .iconst 4, 1), (24, .if_icmp .eq 21, 3), (27, .iload_n 1, 1), (28, .bipush 6, 2), (30, .if_icmp .eq 15, 3), (33, .iload_n 1, 1), (34, .bipush 9, 2), (36, .if_icmp .eq 9, 3), (39, .iload_n 1, 1), (40, .bipush 11, 2), (42, .if_icmp .ne 8, 3), (45, .bipush 30, 2), (47, .goto 5, 3), (50, .bipush 31, 2), (52, .ireturn, 1)]
theorem dk_M_daysOf : fx_dec prog_15_method_24_code dl_M_daysOf = true := by decide +kernel
theorem d_M_daysOf_0 : decode prog_15_method_24_code 0 = .ok (.iload_n 1, 1) := fx_dat dk_M_daysOf 0 rfl
theorem d_M_daysOf_1 : decode prog_15_method_24_code 1 = .ok (.iconst 2, 1) := fx_dat dk_M_daysOf 1 rfl
theorem d_M_daysOf_2 : decode prog_15_method_24_code 2 = .ok (.if_icmp .ne 20, 3) := fx_dat dk_M_daysOf 2 rfl
theorem d_M_daysOf_5 : decode prog_15_method_24_code 5 = .ok (.iload_n 0, 1) := fx_dat dk_M_daysOf 3 rfl
theorem d_M_daysOf_6 : decode prog_15_method_24_code 6 = .ok (.invokestatic 159, 3) := fx_dat dk_M_daysOf 4 rfl
theorem d_M_daysOf_9 : decode prog_15_method_24_code 9 = .ok (.ifCond .eq 8, 3) := fx_dat dk_M_daysOf 5 rfl
theorem d_M_daysOf_12 : decode prog_15_method_24_code 12 = .ok (.bipush 29, 2) := fx_dat dk_M_daysOf 6 rfl
theorem d_M_daysOf_14 : decode prog_15_method_24_code 14 = .ok (.goto 38, 3) := fx_dat dk_M_daysOf 7 rfl
theorem d_M_daysOf_17 : decode prog_15_method_24_code 17 = .ok (.bipush 28, 2) := fx_dat dk_M_daysOf 8 rfl
theorem d_M_daysOf_19 : decode prog_15_method_24_code 19 = .ok (.goto 33, 3) := fx_dat dk_M_daysOf 9 rfl
theorem d_M_daysOf_22 : decode prog_15_method_24_code 22 = .ok (.iload_n 1, 1) := fx_dat dk_M_daysOf 10 rfl
theorem d_M_daysOf_23 : decode prog_15_method_24_code 23 = .ok (.iconst 4, 1) := fx_dat dk_M_daysOf 11 rfl
theorem d_M_daysOf_24 : decode prog_15_method_24_code 24 = .ok (.if_icmp .eq 21, 3) := fx_dat dk_M_daysOf 12 rfl
theorem d_M_daysOf_27 : decode prog_15_method_24_code 27 = .ok (.iload_n 1, 1) := fx_dat dk_M_daysOf 13 rfl
theorem d_M_daysOf_28 : decode prog_15_method_24_code 28 = .ok (.bipush 6, 2) := fx_dat dk_M_daysOf 14 rfl
theorem d_M_daysOf_30 : decode prog_15_method_24_code 30 = .ok (.if_icmp .eq 15, 3) := fx_dat dk_M_daysOf 15 rfl
theorem d_M_daysOf_33 : decode prog_15_method_24_code 33 = .ok (.iload_n 1, 1) := fx_dat dk_M_daysOf 16 rfl
theorem d_M_daysOf_34 : decode prog_15_method_24_code 34 = .ok (.bipush 9, 2) := fx_dat dk_M_daysOf 17 rfl
theorem d_M_daysOf_36 : decode prog_15_method_24_code 36 = .ok (.if_icmp .eq 9, 3) := fx_dat dk_M_daysOf 18 rfl
theorem d_M_daysOf_39 : decode prog_15_method_24_code 39 = .ok (.iload_n 1, 1) := fx_dat dk_M_daysOf 19 rfl
theorem d_M_daysOf_40 : decode prog_15_method_24_code 40 = .ok (.bipush 11, 2) := fx_dat dk_M_daysOf 20 rfl
theorem d_M_daysOf_42 : decode prog_15_method_24_code 42 = .ok (.if_icmp .ne 8, 3) := fx_dat dk_M_daysOf 21 rfl
theorem d_M_daysOf_45 : decode prog_15_method_24_code 45 = .ok (.bipush 30, 2) := fx_dat dk_M_daysOf 22 rfl
theorem d_M_daysOf_47 : decode prog_15_method_24_code 47 = .ok (.goto 5, 3) := fx_dat dk_M_daysOf 23 rfl
theorem d_M_daysOf_50 : decode prog_15_method_24_code 50 = .ok (.bipush 31, 2) := fx_dat dk_M_daysOf 24 rfl
theorem d_M_daysOf_52 : decode prog_15_method_24_code 52 = .ok (.ireturn, 1) := fx_dat dk_M_daysOf 25 rfl
def m_M_daysOf_52 (Q : Int32 → AH → Prop) (sx0 : Int32) (h : AH) : Prop := Q sx0 h
def m_M_daysOf_45 (Q : Int32 → AH → Prop) (h : AH) : Prop := m_M_daysOf_52 Q (30 : Int32) h
def m_M_daysOf (Q : Int32 → AH → Prop) (x0 : Int32) (x1 : Int32) (h : AH) : Prop := (¬ x1 = (2 : Int32) → (x1 = (4 : Int32) → m_M_daysOf_45 Q h) ∧ (¬ x1 = (4 : Int32) → (x1 = (6 : Int32) → m_M_daysOf_45 Q h) ∧ (¬ x1 = (6 : Int32) → (x1 = (9 : Int32) → m_M_daysOf_45 Q h) ∧ (¬ x1 = (9 : Int32) → (¬ x1 = (11 : Int32) → m_M_daysOf_52 Q (31 : Int32) h) ∧ (x1 = (11 : Int32) → m_M_daysOf_45 Q h))))) ∧ (x1 = (2 : Int32) → m_M_leap (fun v1 h1 => fx_ext h h1 → zb v1 → (v1 = 0 → m_M_daysOf_52 Q (28 : Int32) h1) ∧ (¬ v1 = 0 → m_M_daysOf_52 Q (29 : Int32) h1)) x0 h)
theorem b_M_daysOf_52 {p : Program} {l : Launch} {e : Env} {R : Room} {s : State} {m : MethodId} {args : Array Value} {below : List Frame} {meth : Method} {c : Code} {D : DD} {h0 : AH} {Q : Int32 → AH → Prop} (C : fx_CX D y_M_daysOf prog_15_method_24_code 2 1 12 (Option.some FieldType.int) [] h0 p R s m meth c) (hl : l.flags = flags0) (sx0 : Int32) (h : AH) (hw : m_M_daysOf_52 Q sx0 h) : ∀ (ls : Array Slot) (H : Heap) (locs : List Loc) (cells slots : Nat), lv_has ls 2 [] → fx_F D h0 h H locs cells slots → W p l e R s m args below meth c H locs cells slots (fx_Z D below s h0 (fx_oI Q fx_no)) (F0 m 52 ls [.int sx0]) := by
  unfold m_M_daysOf_52 at hw
  intro ls H locs cells slots hv F
  exact fx_iret C F d_M_daysOf_52 (Or.inl ⟨_, rfl, hw⟩)
theorem b_M_daysOf_45 {p : Program} {l : Launch} {e : Env} {R : Room} {s : State} {m : MethodId} {args : Array Value} {below : List Frame} {meth : Method} {c : Code} {D : DD} {h0 : AH} {Q : Int32 → AH → Prop} (C : fx_CX D y_M_daysOf prog_15_method_24_code 2 1 12 (Option.some FieldType.int) [] h0 p R s m meth c) (hl : l.flags = flags0) (h : AH) (hw : m_M_daysOf_45 Q h) : ∀ (ls : Array Slot) (H : Heap) (locs : List Loc) (cells slots : Nat), lv_has ls 2 [] → fx_F D h0 h H locs cells slots → W p l e R s m args below meth c H locs cells slots (fx_Z D below s h0 (fx_oI Q fx_no)) (F0 m 45 ls []) := by
  unfold m_M_daysOf_45 at hw
  intro ls H locs cells slots hv F
  refine lv_bipush (v := (30 : Int32)) C.ex C.by d_M_daysOf_45 (by decide) ?_
  refine lv_goto C.ex C.by d_M_daysOf_47 rfl ?_
  exact b_M_daysOf_52 C hl _ _ hw _ _ _ _ _ hv F
theorem b_M_daysOf_0 {p : Program} {l : Launch} {e : Env} {R : Room} {s : State} {m : MethodId} {args : Array Value} {below : List Frame} {meth : Method} {c : Code} {D : DD} {h0 : AH} {Q : Int32 → AH → Prop} (C : fx_CX D y_M_daysOf prog_15_method_24_code 2 1 12 (Option.some FieldType.int) [] h0 p R s m meth c) (hl : l.flags = flags0) (x0 : Int32) (x1 : Int32) (h : AH) (hw : m_M_daysOf Q x0 x1 h) : ∀ (ls : Array Slot) (H : Heap) (locs : List Loc) (cells slots : Nat), lv_has ls 2 [(0, .int x0), (1, .int x1)] → fx_F D h0 h H locs cells slots → W p l e R s m args below meth c H locs cells slots (fx_Z D below s h0 (fx_oI Q fx_no)) (F0 m 0 ls []) := by
  unfold m_M_daysOf at hw
  intro ls H locs cells slots hv F
  refine lv_iload_n C.ex C.by d_M_daysOf_0 rfl (lv_at hv 1 rfl) ?_
  refine lv_iconst (v := (2 : Int32)) C.ex C.by d_M_daysOf_1 (by decide) ?_
  refine lv_icmp_ne C.ex C.by d_M_daysOf_2 rfl (fun hc => ?_) (fun hc => ?_)
  · replace hw := hw.1 hc
    refine lv_iload_n C.ex C.by d_M_daysOf_22 rfl (lv_at hv 1 rfl) ?_
    refine lv_iconst (v := (4 : Int32)) C.ex C.by d_M_daysOf_23 (by decide) ?_
    refine lv_icmp_eq C.ex C.by d_M_daysOf_24 rfl (fun hc => ?_) (fun hc => ?_)
    · replace hw := hw.1 hc
      exact b_M_daysOf_45 C hl _ hw _ _ _ _ _ (lv_sub hv [] rfl) F
    · replace hw := hw.2 hc
      refine lv_iload_n C.ex C.by d_M_daysOf_27 rfl (lv_at hv 1 rfl) ?_
      refine lv_bipush (v := (6 : Int32)) C.ex C.by d_M_daysOf_28 (by decide) ?_
      refine lv_icmp_eq C.ex C.by d_M_daysOf_30 rfl (fun hc => ?_) (fun hc => ?_)
      · replace hw := hw.1 hc
        exact b_M_daysOf_45 C hl _ hw _ _ _ _ _ (lv_sub hv [] rfl) F
      · replace hw := hw.2 hc
        refine lv_iload_n C.ex C.by d_M_daysOf_33 rfl (lv_at hv 1 rfl) ?_
        refine lv_bipush (v := (9 : Int32)) C.ex C.by d_M_daysOf_34 (by decide) ?_
        refine lv_icmp_eq C.ex C.by d_M_daysOf_36 rfl (fun hc => ?_) (fun hc => ?_)
        · replace hw := hw.1 hc
          exact b_M_daysOf_45 C hl _ hw _ _ _ _ _ (lv_sub hv [] rfl) F
        · replace hw := hw.2 hc
          refine lv_iload_n C.ex C.by d_M_daysOf_39 rfl (lv_at hv 1 rfl) ?_
          refine lv_bipush (v := (11 : Int32)) C.ex C.by d_M_daysOf_40 (by decide) ?_
          refine lv_icmp_ne C.ex C.by d_M_daysOf_42 rfl (fun hc => ?_) (fun hc => ?_)
          · replace hw := hw.1 hc
            refine lv_bipush (v := (31 : Int32)) C.ex C.by d_M_daysOf_50 (by decide) ?_
            exact b_M_daysOf_52 C hl _ _ hw _ _ _ _ _ (lv_sub hv [] rfl) F
          · replace hw := hw.2 hc
            exact b_M_daysOf_45 C hl _ hw _ _ _ _ _ (lv_sub hv [] rfl) F
  · replace hw := hw.2 hc
    refine lv_iload_n C.ex C.by d_M_daysOf_5 rfl (lv_at hv 0 rfl) ?_
    refine fx_callZ C F (c_M_leap hl hw) hm_M_leap hi_M_leap hv.1 (by decide) (Nat.le_of_ble_eq_true rfl) (iv_M_leap C F lm_M_159 d_M_daysOf_6) (fx_out0 _) fx_eno (fun v1 h1 H locs cells slots hw hx1 hzb F => ?_)
    replace hw := hw hx1 hzb
    refine lv_if_eq C.ex C.by d_M_daysOf_9 rfl (fun hc => ?_) (fun hc => ?_)
    · replace hw := hw.1 hc
      refine lv_bipush (v := (28 : Int32)) C.ex C.by d_M_daysOf_17 (by decide) ?_
      refine lv_goto C.ex C.by d_M_daysOf_19 rfl ?_
      exact b_M_daysOf_52 C hl _ _ hw _ _ _ _ _ (lv_sub hv [] rfl) F
    · replace hw := hw.2 hc
      refine lv_bipush (v := (29 : Int32)) C.ex C.by d_M_daysOf_12 (by decide) ?_
      refine lv_goto C.ex C.by d_M_daysOf_14 rfl ?_
      exact b_M_daysOf_52 C hl _ _ hw _ _ _ _ _ (lv_sub hv [] rfl) F
theorem hm_M_daysOf : fx_hd y_M_daysOf prog_15_method_24_code 2 (Option.some FieldType.int) [] ∈ tables_1 := (fx_m7 (List.mem_of_getElem? (i := 20) rfl))
theorem hi_M_daysOf : Cond.initialized y_M_daysOf.cls ∈ tables_1 := (fx_m1 (List.mem_of_getElem? (i := 15) rfl))
theorem c_M_daysOf {l : Launch} (hl : l.flags = flags0) {D : DD} {Q : Int32 → AH → Prop} {x0 : Int32} {x1 : Int32} {h : AH} (hw : m_M_daysOf Q x0 x1 h) : fx_Mt l D y_M_daysOf (fx_hd y_M_daysOf prog_15_method_24_code 2 (Option.some FieldType.int) []) 1 12 [.int x0, .int x1] h (fx_oI Q fx_no) := by
  refine fx_ofW (plainFor_of_name (by decide)) (fun p e s m below meth c C F => ?_)
  have hv := lv_entry ([.int x0, .int x1]) (n := 2) (Nat.le_of_ble_eq_true rfl)
  rw [lg_entry_eq]
  generalize (lg_sl ([.int x0, .int x1]) ++ List.replicate (2 - (lg_sl ([.int x0, .int x1])).length) Slot.unset).toArray = ls at hv ⊢
  have hv : lv_has ls 2 [(0, .int x0), (1, .int x1)] := hv
  exact b_M_daysOf_0 C hl _ _ _ hw _ _ _ _ _ hv F
/-! ChainJudgeModel.daysBefore(I)J: frames 1, words 14 -/
abbrev y_M_daysBefore : MethodName := ⟨"ChainJudgeModel", "daysBefore", "(I)J"⟩
def dl_M_daysBefore : List (Nat × Instr × Nat) := [(0, .lconst 0, 1), (1, .lstore_n 1, 1), (2, .sipush 1970, 3), (5, .istore_n 3, 1), (6, .iload_n 3, 1), (7, .iload_n 0, 1), (8, .if_icmp .ge 28, 3), (11, .lload_n 1, 1), (12, .iload_n 3, 1), (13, .invokestatic 159, 3), (16, .ifCond .eq 9, 3), (19, .ldc2_w 163, 3), (22, .goto 6, 3), (25, .ldc2_w 165, 3), (28, .ladd, 1), (29, .lstore_n 1, 1), (30, .iinc 3 1, 3), (33, .goto (-27), 3), (36, .iload_n 0, 1), (37, .istore_n 3, 1), (38, .iload_n 3, 1), (39, .sipush 1970, 3), (42, .if_icmp .ge 28, 3), (45, .lload_n 1, 1), (46, .iload_n 3, 1), (47, .invokestatic 159, 3), (50, .ifCond .eq 9, 3), (53, .ldc2_w 163, 3), (56, .goto 6, 3), (59, .ldc2_w 165, 3), (62, .lsub, 1), (63, .lstore_n 1, 1), (64, .iinc 3 1, 3), (67, .goto (-29), 3), (70, .lload_n 1, 1), (71, .lreturn, 1)]
theorem dk_M_daysBefore : fx_dec prog_15_method_25_code dl_M_daysBefore = true := by decide +kernel
theorem d_M_daysBefore_0 : decode prog_15_method_25_code 0 = .ok (.lconst 0, 1) := fx_dat dk_M_daysBefore 0 rfl
theorem d_M_daysBefore_1 : decode prog_15_method_25_code 1 = .ok (.lstore_n 1, 1) := fx_dat dk_M_daysBefore 1 rfl
theorem d_M_daysBefore_2 : decode prog_15_method_25_code 2 = .ok (.sipush 1970, 3) := fx_dat dk_M_daysBefore 2 rfl
theorem d_M_daysBefore_5 : decode prog_15_method_25_code 5 = .ok (.istore_n 3, 1) := fx_dat dk_M_daysBefore 3 rfl
theorem d_M_daysBefore_6 : decode prog_15_method_25_code 6 = .ok (.iload_n 3, 1) := fx_dat dk_M_daysBefore 4 rfl
theorem d_M_daysBefore_7 : decode prog_15_method_25_code 7 = .ok (.iload_n 0, 1) := fx_dat dk_M_daysBefore 5 rfl
theorem d_M_daysBefore_8 : decode prog_15_method_25_code 8 = .ok (.if_icmp .ge 28, 3) := fx_dat dk_M_daysBefore 6 rfl
theorem d_M_daysBefore_11 : decode prog_15_method_25_code 11 = .ok (.lload_n 1, 1) := fx_dat dk_M_daysBefore 7 rfl
theorem d_M_daysBefore_12 : decode prog_15_method_25_code 12 = .ok (.iload_n 3, 1) := fx_dat dk_M_daysBefore 8 rfl
theorem d_M_daysBefore_13 : decode prog_15_method_25_code 13 = .ok (.invokestatic 159, 3) := fx_dat dk_M_daysBefore 9 rfl
theorem d_M_daysBefore_16 : decode prog_15_method_25_code 16 = .ok (.ifCond .eq 9, 3) := fx_dat dk_M_daysBefore 10 rfl
theorem d_M_daysBefore_19 : decode prog_15_method_25_code 19 = .ok (.ldc2_w 163, 3) := fx_dat dk_M_daysBefore 11 rfl
theorem d_M_daysBefore_22 : decode prog_15_method_25_code 22 = .ok (.goto 6, 3) := fx_dat dk_M_daysBefore 12 rfl
theorem d_M_daysBefore_25 : decode prog_15_method_25_code 25 = .ok (.ldc2_w 165, 3) := fx_dat dk_M_daysBefore 13 rfl
theorem d_M_daysBefore_28 : decode prog_15_method_25_code 28 = .ok (.ladd, 1) := fx_dat dk_M_daysBefore 14 rfl
theorem d_M_daysBefore_29 : decode prog_15_method_25_code 29 = .ok (.lstore_n 1, 1) := fx_dat dk_M_daysBefore 15 rfl
theorem d_M_daysBefore_30 : decode prog_15_method_25_code 30 = .ok (.iinc 3 1, 3) := fx_dat dk_M_daysBefore 16 rfl
theorem d_M_daysBefore_33 : decode prog_15_method_25_code 33 = .ok (.goto (-27), 3) := fx_dat dk_M_daysBefore 17 rfl
theorem d_M_daysBefore_36 : decode prog_15_method_25_code 36 = .ok (.iload_n 0, 1) := fx_dat dk_M_daysBefore 18 rfl
theorem d_M_daysBefore_37 : decode prog_15_method_25_code 37 = .ok (.istore_n 3, 1) := fx_dat dk_M_daysBefore 19 rfl
theorem d_M_daysBefore_38 : decode prog_15_method_25_code 38 = .ok (.iload_n 3, 1) := fx_dat dk_M_daysBefore 20 rfl
theorem d_M_daysBefore_39 : decode prog_15_method_25_code 39 = .ok (.sipush 1970, 3) := fx_dat dk_M_daysBefore 21 rfl
theorem d_M_daysBefore_42 : decode prog_15_method_25_code 42 = .ok (.if_icmp .ge 28, 3) := fx_dat dk_M_daysBefore 22 rfl
theorem d_M_daysBefore_45 : decode prog_15_method_25_code 45 = .ok (.lload_n 1, 1) := fx_dat dk_M_daysBefore 23 rfl
theorem d_M_daysBefore_46 : decode prog_15_method_25_code 46 = .ok (.iload_n 3, 1) := fx_dat dk_M_daysBefore 24 rfl
theorem d_M_daysBefore_47 : decode prog_15_method_25_code 47 = .ok (.invokestatic 159, 3) := fx_dat dk_M_daysBefore 25 rfl
theorem d_M_daysBefore_50 : decode prog_15_method_25_code 50 = .ok (.ifCond .eq 9, 3) := fx_dat dk_M_daysBefore 26 rfl
theorem d_M_daysBefore_53 : decode prog_15_method_25_code 53 = .ok (.ldc2_w 163, 3) := fx_dat dk_M_daysBefore 27 rfl
theorem d_M_daysBefore_56 : decode prog_15_method_25_code 56 = .ok (.goto 6, 3) := fx_dat dk_M_daysBefore 28 rfl
theorem d_M_daysBefore_59 : decode prog_15_method_25_code 59 = .ok (.ldc2_w 165, 3) := fx_dat dk_M_daysBefore 29 rfl
theorem d_M_daysBefore_62 : decode prog_15_method_25_code 62 = .ok (.lsub, 1) := fx_dat dk_M_daysBefore 30 rfl
theorem d_M_daysBefore_63 : decode prog_15_method_25_code 63 = .ok (.lstore_n 1, 1) := fx_dat dk_M_daysBefore 31 rfl
theorem d_M_daysBefore_64 : decode prog_15_method_25_code 64 = .ok (.iinc 3 1, 3) := fx_dat dk_M_daysBefore 32 rfl
theorem d_M_daysBefore_67 : decode prog_15_method_25_code 67 = .ok (.goto (-29), 3) := fx_dat dk_M_daysBefore 33 rfl
theorem d_M_daysBefore_70 : decode prog_15_method_25_code 70 = .ok (.lload_n 1, 1) := fx_dat dk_M_daysBefore 34 rfl
theorem d_M_daysBefore_71 : decode prog_15_method_25_code 71 = .ok (.lreturn, 1) := fx_dat dk_M_daysBefore 35 rfl
def m_M_daysBefore_62 (Q : Int64 → AH → Prop) (X38 : Int64 × Int32 × AH → Prop) (x3 : Int32) (sw0 : Int64) (sw1 : Int64) (h : AH) : Prop := ∀ u1 : Int64, u1 = (sw0 - sw1) → ∀ v1 : Int32, v1 = (x3 + (1 : Int32)) → X38 (u1, v1, h)
def m_M_daysBefore_38_b (Q : Int64 → AH → Prop) (X38 : Int64 × Int32 × AH → Prop) (w1 : Int64) (x3 : Int32) (h : AH) : Prop := ((1970 : Int32) ≤ x3 → Q w1 h) ∧ (¬ (1970 : Int32) ≤ x3 → m_M_leap (fun v1 h1 => fx_ext h h1 → zb v1 → (v1 = 0 → m_M_daysBefore_62 Q X38 x3 w1 (365 : Int64) h1) ∧ (¬ v1 = 0 → m_M_daysBefore_62 Q X38 x3 w1 (366 : Int64) h1)) x3 h)
def m_M_daysBefore_38 (Q : Int64 → AH → Prop) (w1 : Int64) (x3 : Int32) (h : AH) : Prop := fx_loop (fun (X38 : Int64 × Int32 × AH → Prop) (st : Int64 × Int32 × AH) => m_M_daysBefore_38_b Q X38 st.1 st.2.1 st.2.2) (w1, x3, h)
def m_M_daysBefore_28 (Q : Int64 → AH → Prop) (X6 : Int64 × Int32 × AH → Prop) (x0 : Int32) (x3 : Int32) (sw0 : Int64) (sw1 : Int64) (h : AH) : Prop := ∀ u1 : Int64, u1 = (sw0 + sw1) → ∀ v1 : Int32, v1 = (x3 + (1 : Int32)) → X6 (u1, v1, h)
def m_M_daysBefore_6_b (Q : Int64 → AH → Prop) (X6 : Int64 × Int32 × AH → Prop) (x0 : Int32) (w1 : Int64) (x3 : Int32) (h : AH) : Prop := (x0 ≤ x3 → m_M_daysBefore_38 Q w1 x0 h) ∧ (¬ x0 ≤ x3 → m_M_leap (fun v1 h1 => fx_ext h h1 → zb v1 → (v1 = 0 → m_M_daysBefore_28 Q X6 x0 x3 w1 (365 : Int64) h1) ∧ (¬ v1 = 0 → m_M_daysBefore_28 Q X6 x0 x3 w1 (366 : Int64) h1)) x3 h)
def m_M_daysBefore_6 (Q : Int64 → AH → Prop) (x0 : Int32) (w1 : Int64) (x3 : Int32) (h : AH) : Prop := fx_loop (fun (X6 : Int64 × Int32 × AH → Prop) (st : Int64 × Int32 × AH) => m_M_daysBefore_6_b Q X6 x0 st.1 st.2.1 st.2.2) (w1, x3, h)
def m_M_daysBefore (Q : Int64 → AH → Prop) (x0 : Int32) (h : AH) : Prop := m_M_daysBefore_6 Q x0 (0 : Int64) (1970 : Int32) h
theorem b_M_daysBefore_62 {p : Program} {l : Launch} {e : Env} {R : Room} {s : State} {m : MethodId} {args : Array Value} {below : List Frame} {meth : Method} {c : Code} {D : DD} {h0 : AH} {Q : Int64 → AH → Prop} {X38 : Int64 × Int32 × AH → Prop} (C : fx_CX D y_M_daysBefore prog_15_method_25_code 4 1 14 (Option.some FieldType.long) [] h0 p R s m meth c) (hl : l.flags = flags0) (x3 : Int32) (sw0 : Int64) (sw1 : Int64) (h : AH) (hX38 : ∀ st, X38 st → ∀ (ls : Array Slot) (H : Heap) (locs : List Loc) (cells slots : Nat), lv_has ls 4 [(1, .long st.1), (3, .int st.2.1)] → fx_F D h0 st.2.2 H locs cells slots → W p l e R s m args below meth c H locs cells slots (fx_Z D below s h0 (fx_oL Q fx_no)) (F0 m 38 ls [])) (hw : m_M_daysBefore_62 Q X38 x3 sw0 sw1 h) : ∀ (ls : Array Slot) (H : Heap) (locs : List Loc) (cells slots : Nat), lv_has ls 4 [(3, .int x3)] → fx_F D h0 h H locs cells slots → W p l e R s m args below meth c H locs cells slots (fx_Z D below s h0 (fx_oL Q fx_no)) (F0 m 62 ls [.long sw1, .long sw0]) := by
  unfold m_M_daysBefore_62 at hw
  intro ls H locs cells slots hv F
  refine lv_lsub C.ex C.by d_M_daysBefore_62 ?_
  let u1 : Int64 := (sw0 - sw1)
  replace hw := hw u1 rfl
  refine lv_lstore_n (lv' := [(1, .long u1), (3, .int x3)]) C.ex C.by d_M_daysBefore_63 rfl hv (by decide) rfl (fun ls hv => ?_)
  let v1 : Int32 := (x3 + (1 : Int32))
  replace hw := hw v1 rfl
  refine lv_iinc (v := v1) (k := 1) (lv' := [(3, .int v1), (1, .long u1)]) C.ex C.by d_M_daysBefore_64 hv rfl (congrArg (fun z => x3 + z) (by decide)) (by decide) rfl (fun ls hv => ?_)
  refine lv_goto C.ex C.by d_M_daysBefore_67 rfl ?_
  exact hX38 _ hw _ _ _ _ _ (lv_sub hv [1, 0] rfl) F
theorem b_M_daysBefore_38 {p : Program} {l : Launch} {e : Env} {R : Room} {s : State} {m : MethodId} {args : Array Value} {below : List Frame} {meth : Method} {c : Code} {D : DD} {h0 : AH} {Q : Int64 → AH → Prop} (C : fx_CX D y_M_daysBefore prog_15_method_25_code 4 1 14 (Option.some FieldType.long) [] h0 p R s m meth c) (hl : l.flags = flags0) (w1 : Int64) (x3 : Int32) (h : AH) (hw : m_M_daysBefore_38 Q w1 x3 h) : ∀ (ls : Array Slot) (H : Heap) (locs : List Loc) (cells slots : Nat), lv_has ls 4 [(1, .long w1), (3, .int x3)] → fx_F D h0 h H locs cells slots → W p l e R s m args below meth c H locs cells slots (fx_Z D below s h0 (fx_oL Q fx_no)) (F0 m 38 ls []) := by
  refine fx_loop.use hw (fun st => ∀ (ls : Array Slot) (H : Heap) (locs : List Loc) (cells slots : Nat), lv_has ls 4 [(1, .long st.1), (3, .int st.2.1)] → fx_F D h0 st.2.2 H locs cells slots → W p l e R s m args below meth c H locs cells slots (fx_Z D below s h0 (fx_oL Q fx_no)) (F0 m 38 ls [])) (fun X38 st hX38 hw => ?_)
  obtain ⟨w1, x3, h⟩ := st
  replace hw : m_M_daysBefore_38_b Q X38 w1 x3 h := hw
  unfold m_M_daysBefore_38_b at hw
  intro ls H locs cells slots hv F
  refine lv_iload_n C.ex C.by d_M_daysBefore_38 rfl (lv_at hv 1 rfl) ?_
  refine lv_sipush (v := (1970 : Int32)) C.ex C.by d_M_daysBefore_39 (by decide) ?_
  refine lv_icmp_ge C.ex C.by d_M_daysBefore_42 rfl (fun hc => ?_) (fun hc => ?_)
  · replace hw := hw.1 hc
    refine lv_lload_n C.ex C.by d_M_daysBefore_70 rfl (lv_at hv 0 rfl) ?_
    exact fx_lret C F d_M_daysBefore_71 (Or.inl ⟨_, rfl, hw⟩)
  · replace hw := hw.2 hc
    refine lv_lload_n C.ex C.by d_M_daysBefore_45 rfl (lv_at hv 0 rfl) ?_
    refine lv_iload_n C.ex C.by d_M_daysBefore_46 rfl (lv_at hv 1 rfl) ?_
    refine fx_callZ C F (c_M_leap hl hw) hm_M_leap hi_M_leap hv.1 (by decide) (Nat.le_of_ble_eq_true rfl) (iv_M_leap C F lm_M_159 d_M_daysBefore_47) (fx_out0 _) fx_eno (fun v1 h1 H locs cells slots hw hx1 hzb F => ?_)
    replace hw := hw hx1 hzb
    refine lv_if_eq C.ex C.by d_M_daysBefore_50 rfl (fun hc => ?_) (fun hc => ?_)
    · replace hw := hw.1 hc
      refine lv_ldc2 (v := (365 : Int64)) C.ex C.by C.ow (C.tw.at (fx_m7 (List.mem_of_getElem? (i := 28) rfl)) rfl rfl) d_M_daysBefore_59 ?_
      exact b_M_daysBefore_62 C hl _ _ _ _ hX38 hw _ _ _ _ _ (lv_sub hv [1] rfl) F
    · replace hw := hw.2 hc
      refine lv_ldc2 (v := (366 : Int64)) C.ex C.by C.ow (C.tw.at (fx_m7 (List.mem_of_getElem? (i := 27) rfl)) rfl rfl) d_M_daysBefore_53 ?_
      refine lv_goto C.ex C.by d_M_daysBefore_56 rfl ?_
      exact b_M_daysBefore_62 C hl _ _ _ _ hX38 hw _ _ _ _ _ (lv_sub hv [1] rfl) F
theorem b_M_daysBefore_28 {p : Program} {l : Launch} {e : Env} {R : Room} {s : State} {m : MethodId} {args : Array Value} {below : List Frame} {meth : Method} {c : Code} {D : DD} {h0 : AH} {Q : Int64 → AH → Prop} {X6 : Int64 × Int32 × AH → Prop} (C : fx_CX D y_M_daysBefore prog_15_method_25_code 4 1 14 (Option.some FieldType.long) [] h0 p R s m meth c) (hl : l.flags = flags0) (x0 : Int32) (x3 : Int32) (sw0 : Int64) (sw1 : Int64) (h : AH) (hX6 : ∀ st, X6 st → ∀ (ls : Array Slot) (H : Heap) (locs : List Loc) (cells slots : Nat), lv_has ls 4 [(0, .int x0), (1, .long st.1), (3, .int st.2.1)] → fx_F D h0 st.2.2 H locs cells slots → W p l e R s m args below meth c H locs cells slots (fx_Z D below s h0 (fx_oL Q fx_no)) (F0 m 6 ls [])) (hw : m_M_daysBefore_28 Q X6 x0 x3 sw0 sw1 h) : ∀ (ls : Array Slot) (H : Heap) (locs : List Loc) (cells slots : Nat), lv_has ls 4 [(0, .int x0), (3, .int x3)] → fx_F D h0 h H locs cells slots → W p l e R s m args below meth c H locs cells slots (fx_Z D below s h0 (fx_oL Q fx_no)) (F0 m 28 ls [.long sw1, .long sw0]) := by
  unfold m_M_daysBefore_28 at hw
  intro ls H locs cells slots hv F
  refine lv_ladd C.ex C.by d_M_daysBefore_28 ?_
  let u1 : Int64 := (sw0 + sw1)
  replace hw := hw u1 rfl
  refine lv_lstore_n (lv' := [(1, .long u1), (0, .int x0), (3, .int x3)]) C.ex C.by d_M_daysBefore_29 rfl hv (by decide) rfl (fun ls hv => ?_)
  let v1 : Int32 := (x3 + (1 : Int32))
  replace hw := hw v1 rfl
  refine lv_iinc (v := v1) (k := 2) (lv' := [(3, .int v1), (1, .long u1), (0, .int x0)]) C.ex C.by d_M_daysBefore_30 hv rfl (congrArg (fun z => x3 + z) (by decide)) (by decide) rfl (fun ls hv => ?_)
  refine lv_goto C.ex C.by d_M_daysBefore_33 rfl ?_
  exact hX6 _ hw _ _ _ _ _ (lv_sub hv [2, 1, 0] rfl) F
theorem b_M_daysBefore_6 {p : Program} {l : Launch} {e : Env} {R : Room} {s : State} {m : MethodId} {args : Array Value} {below : List Frame} {meth : Method} {c : Code} {D : DD} {h0 : AH} {Q : Int64 → AH → Prop} (C : fx_CX D y_M_daysBefore prog_15_method_25_code 4 1 14 (Option.some FieldType.long) [] h0 p R s m meth c) (hl : l.flags = flags0) (x0 : Int32) (w1 : Int64) (x3 : Int32) (h : AH) (hw : m_M_daysBefore_6 Q x0 w1 x3 h) : ∀ (ls : Array Slot) (H : Heap) (locs : List Loc) (cells slots : Nat), lv_has ls 4 [(0, .int x0), (1, .long w1), (3, .int x3)] → fx_F D h0 h H locs cells slots → W p l e R s m args below meth c H locs cells slots (fx_Z D below s h0 (fx_oL Q fx_no)) (F0 m 6 ls []) := by
  refine fx_loop.use hw (fun st => ∀ (ls : Array Slot) (H : Heap) (locs : List Loc) (cells slots : Nat), lv_has ls 4 [(0, .int x0), (1, .long st.1), (3, .int st.2.1)] → fx_F D h0 st.2.2 H locs cells slots → W p l e R s m args below meth c H locs cells slots (fx_Z D below s h0 (fx_oL Q fx_no)) (F0 m 6 ls [])) (fun X6 st hX6 hw => ?_)
  obtain ⟨w1, x3, h⟩ := st
  replace hw : m_M_daysBefore_6_b Q X6 x0 w1 x3 h := hw
  unfold m_M_daysBefore_6_b at hw
  intro ls H locs cells slots hv F
  refine lv_iload_n C.ex C.by d_M_daysBefore_6 rfl (lv_at hv 2 rfl) ?_
  refine lv_iload_n C.ex C.by d_M_daysBefore_7 rfl (lv_at hv 0 rfl) ?_
  refine lv_icmp_ge C.ex C.by d_M_daysBefore_8 rfl (fun hc => ?_) (fun hc => ?_)
  · replace hw := hw.1 hc
    refine lv_iload_n C.ex C.by d_M_daysBefore_36 rfl (lv_at hv 0 rfl) ?_
    refine lv_istore_n (lv' := [(3, .int x0), (0, .int x0), (1, .long w1)]) C.ex C.by d_M_daysBefore_37 rfl hv (by decide) rfl (fun ls hv => ?_)
    exact b_M_daysBefore_38 C hl _ _ _ hw _ _ _ _ _ (lv_sub hv [2, 0] rfl) F
  · replace hw := hw.2 hc
    refine lv_lload_n C.ex C.by d_M_daysBefore_11 rfl (lv_at hv 1 rfl) ?_
    refine lv_iload_n C.ex C.by d_M_daysBefore_12 rfl (lv_at hv 2 rfl) ?_
    refine fx_callZ C F (c_M_leap hl hw) hm_M_leap hi_M_leap hv.1 (by decide) (Nat.le_of_ble_eq_true rfl) (iv_M_leap C F lm_M_159 d_M_daysBefore_13) (fx_out0 _) fx_eno (fun v1 h1 H locs cells slots hw hx1 hzb F => ?_)
    replace hw := hw hx1 hzb
    refine lv_if_eq C.ex C.by d_M_daysBefore_16 rfl (fun hc => ?_) (fun hc => ?_)
    · replace hw := hw.1 hc
      refine lv_ldc2 (v := (365 : Int64)) C.ex C.by C.ow (C.tw.at (fx_m7 (List.mem_of_getElem? (i := 28) rfl)) rfl rfl) d_M_daysBefore_25 ?_
      exact b_M_daysBefore_28 C hl _ _ _ _ _ hX6 hw _ _ _ _ _ (lv_sub hv [0, 2] rfl) F
    · replace hw := hw.2 hc
      refine lv_ldc2 (v := (366 : Int64)) C.ex C.by C.ow (C.tw.at (fx_m7 (List.mem_of_getElem? (i := 27) rfl)) rfl rfl) d_M_daysBefore_19 ?_
      refine lv_goto C.ex C.by d_M_daysBefore_22 rfl ?_
      exact b_M_daysBefore_28 C hl _ _ _ _ _ hX6 hw _ _ _ _ _ (lv_sub hv [0, 2] rfl) F
theorem b_M_daysBefore_0 {p : Program} {l : Launch} {e : Env} {R : Room} {s : State} {m : MethodId} {args : Array Value} {below : List Frame} {meth : Method} {c : Code} {D : DD} {h0 : AH} {Q : Int64 → AH → Prop} (C : fx_CX D y_M_daysBefore prog_15_method_25_code 4 1 14 (Option.some FieldType.long) [] h0 p R s m meth c) (hl : l.flags = flags0) (x0 : Int32) (h : AH) (hw : m_M_daysBefore Q x0 h) : ∀ (ls : Array Slot) (H : Heap) (locs : List Loc) (cells slots : Nat), lv_has ls 4 [(0, .int x0)] → fx_F D h0 h H locs cells slots → W p l e R s m args below meth c H locs cells slots (fx_Z D below s h0 (fx_oL Q fx_no)) (F0 m 0 ls []) := by
  unfold m_M_daysBefore at hw
  intro ls H locs cells slots hv F
  refine lv_lconst (v := (0 : Int64)) C.ex C.by d_M_daysBefore_0 (by decide) ?_
  refine lv_lstore_n (lv' := [(1, .long (0 : Int64)), (0, .int x0)]) C.ex C.by d_M_daysBefore_1 rfl hv (by decide) rfl (fun ls hv => ?_)
  refine lv_sipush (v := (1970 : Int32)) C.ex C.by d_M_daysBefore_2 (by decide) ?_
  refine lv_istore_n (lv' := [(3, .int (1970 : Int32)), (1, .long (0 : Int64)), (0, .int x0)]) C.ex C.by d_M_daysBefore_5 rfl hv (by decide) rfl (fun ls hv => ?_)
  exact b_M_daysBefore_6 C hl _ _ _ _ hw _ _ _ _ _ (lv_sub hv [2, 1, 0] rfl) F
theorem hm_M_daysBefore : fx_hd y_M_daysBefore prog_15_method_25_code 4 (Option.some FieldType.long) [] ∈ tables_1 := (fx_m7 (List.mem_of_getElem? (i := 26) rfl))
theorem hi_M_daysBefore : Cond.initialized y_M_daysBefore.cls ∈ tables_1 := (fx_m1 (List.mem_of_getElem? (i := 15) rfl))
theorem c_M_daysBefore {l : Launch} (hl : l.flags = flags0) {D : DD} {Q : Int64 → AH → Prop} {x0 : Int32} {h : AH} (hw : m_M_daysBefore Q x0 h) : fx_Mt l D y_M_daysBefore (fx_hd y_M_daysBefore prog_15_method_25_code 4 (Option.some FieldType.long) []) 1 14 [.int x0] h (fx_oL Q fx_no) := by
  refine fx_ofW (plainFor_of_name (by decide)) (fun p e s m below meth c C F => ?_)
  have hv := lv_entry ([.int x0]) (n := 4) (Nat.le_of_ble_eq_true rfl)
  rw [lg_entry_eq]
  generalize (lg_sl ([.int x0]) ++ List.replicate (4 - (lg_sl ([.int x0])).length) Slot.unset).toArray = ls at hv ⊢
  have hv : lv_has ls 4 [(0, .int x0)] := hv
  exact b_M_daysBefore_0 C hl _ _ hw _ _ _ _ _ hv F
/-! ChainJudgeModel.time(I)J: frames 2, words 32 -/
abbrev y_M_time : MethodName := ⟨"ChainJudgeModel", "time", "(I)J"⟩
theorem lm_M_167 : Cond.methodLink "ChainJudgeModel" 167 y_M_two ∈ tables_1 ∨ ∃ host, Cond.methodLinkNest "ChainJudgeModel" 167 y_M_two host ∈ tables_1 := Or.inl (fx_m7 (List.mem_of_getElem? (i := 14) rfl))
theorem lm_M_170 : Cond.methodLink "ChainJudgeModel" 170 y_M_daysOf ∈ tables_1 ∨ ∃ host, Cond.methodLinkNest "ChainJudgeModel" 170 y_M_daysOf host ∈ tables_1 := Or.inl (fx_m7 (List.mem_of_getElem? (i := 18) rfl))
theorem lm_M_173 : Cond.methodLink "ChainJudgeModel" 173 y_M_daysBefore ∈ tables_1 ∨ ∃ host, Cond.methodLinkNest "ChainJudgeModel" 173 y_M_daysBefore host ∈ tables_1 := Or.inl (fx_m7 (List.mem_of_getElem? (i := 24) rfl))
section
variable {p : Program} {l : Launch} {e : Env} {R : Room} {s : State} {m : MethodId} {args : Array Value} {below : List Frame} {meth : Method} {c : Code} {H : Heap} {locs : List Loc} {cells slots : Nat}
variable {D : DD} {y : MethodName} {cc : ByteArray} {nL kf kw : Nat} {ret : Option FieldType} {hh : List (Nat × Nat × Nat × Nat)} {h0 h : AH} {pc : Nat} {ls : Array Slot} {rest : List Value} {b idx : Nat}
theorem iv_M_daysBefore {x0 : Int32} (C : fx_CX D y cc nL kf kw ret hh h0 p R s m meth c) (F : fx_F D h0 h H locs cells slots) (hw1 : Cond.methodLink y.cls idx y_M_daysBefore ∈ tables_1 ∨ ∃ host, Cond.methodLinkNest y.cls idx y_M_daysBefore host ∈ tables_1) (hd : decode cc pc = .ok (.invokestatic idx, 3)) : fx_IV p l e R s m args below meth c H locs cells slots (F0 m pc ls (.int x0 :: rest)) rest y_M_daysBefore [.int x0] 3 := fun T hT X => fx_invS (As := [.int x0]) C X hw1 (fx_m7 (List.mem_of_getElem? (i := 25) rfl)) hi_M_daysBefore hm_M_daysBefore ⟨by decide, by decide⟩ rfl (n := 1) (by decide +kernel) rfl rfl hd
theorem iv_M_daysOf {x0 : Int32} {x1 : Int32} (C : fx_CX D y cc nL kf kw ret hh h0 p R s m meth c) (F : fx_F D h0 h H locs cells slots) (hw1 : Cond.methodLink y.cls idx y_M_daysOf ∈ tables_1 ∨ ∃ host, Cond.methodLinkNest y.cls idx y_M_daysOf host ∈ tables_1) (hd : decode cc pc = .ok (.invokestatic idx, 3)) : fx_IV p l e R s m args below meth c H locs cells slots (F0 m pc ls (.int x1 :: .int x0 :: rest)) rest y_M_daysOf [.int x0, .int x1] 3 := fun T hT X => fx_invS (As := [.int x0, .int x1]) C X hw1 (fx_m7 (List.mem_of_getElem? (i := 19) rfl)) hi_M_daysOf hm_M_daysOf ⟨by decide, by decide⟩ rfl (n := 2) (by decide +kernel) rfl rfl hd
theorem iv_M_two {x1 : Int32} (C : fx_CX D y cc nL kf kw ret hh h0 p R s m meth c) (F : fx_F D h0 h H locs cells slots) (hw1 : Cond.methodLink y.cls idx y_M_two ∈ tables_1 ∨ ∃ host, Cond.methodLinkNest y.cls idx y_M_two host ∈ tables_1) (hk : hp_k h b = 13) (hd : decode cc pc = .ok (.invokevirtual idx, 3)) : fx_IV p l e R s m args below meth c H locs cells slots (F0 m pc ls (.int x1 :: .ref b :: rest)) rest y_M_two [.ref b, .int x1] 3 := fun T hT X => fx_invV (As := [.int x1]) (Cn := "ChainJudgeModel") C X hw1 (fx_m7 (List.mem_of_getElem? (i := 16) rfl)) (fx_selP C ⟨by decide, by decide⟩ (fx_m5 (List.mem_of_getElem? (i := 217) rfl)) (fx_m7 (List.mem_of_getElem? (i := 15) rfl)) (fx_m7 (List.mem_of_getElem? (i := 16) rfl))) hm_M_two ⟨by decide, by decide⟩ (by rw [hT]; exact fx_clsO (ci := 12) (r := ("ChainJudgeModel", fx_T12, 57)) C F rfl (by decide) hk) rfl (n := 1) (by decide +kernel) rfl rfl hd
end
def dl_M_time : List (Nat × Instr × Nat) := [(0, .aload_n 0, 1), (1, .getfield 124, 3), (4, .ifCond .ne 28, 3), (7, .aload_n 0, 1), (8, .getfield 128, 3), (11, .iload_n 1, 1), (12, .if_icmp .ge 20, 3), (15, .aload_n 0, 1), (16, .aload_n 0, 1), (17, .getfield 128, 3), (20, .invokevirtual 131, 3), (23, .bipush 24, 2), (25, .if_icmp .ne 7, 3), (28, .iconst 1, 1), (29, .goto 4, 3), (32, .iconst 0, 1), (33, .istore_n 2, 1), (34, .aload_n 0, 1), (35, .iload_n 2, 1), (36, .ifCond .eq 8, 3), (39, .bipush 24, 2), (41, .goto 5, 3), (44, .bipush 23, 2), (46, .iload_n 1, 1), (47, .invokevirtual 140, 3), (50, .istore_n 3, 1), (51, .aload_n 0, 1), (52, .getfield 124, 3), (55, .ifCond .ne 44, 3), (58, .aload_n 0, 1), (59, .iload_n 3, 1), (60, .aload_n 0, 1), (61, .getfield 128, 3), (64, .isub, 1), (65, .iload_n 2, 1), (66, .ifCond .eq 8, 3), (69, .bipush 15, 2), (71, .goto 5, 3), (74, .bipush 13, 2), (76, .if_icmp .ne 19, 3), (79, .aload_n 0, 1), (80, .iload_n 3, 1), (81, .iconst 1, 1), (82, .isub, 1), (83, .invokevirtual 131, 3), (86, .bipush 90, 2), (88, .if_icmp .ne 7, 3), (91, .iconst 1, 1), (92, .goto 4, 3), (95, .iconst 0, 1), (96, .invokevirtual 143, 3), (99, .aload_n 0, 1), (100, .getfield 124, 3), (103, .ifCond .eq 5, 3), (106, .lconst 0, 1), (107, .lreturn, 1), (108, .iload_n 2, 1), (109, .ifCond .eq 28, 3), (112, .bipush 100, 2), (114, .aload_n 0, 1), (115, .aload_n 0, 1), (116, .getfield 128, 3), (119, .invokevirtual 167, 3), (122, .imul, 1), (123, .aload_n 0, 1), (124, .aload_n 0, 1), (125, .getfield 128, 3), (128, .iconst 2, 1), (129, .iadd, 1), (130, .invokevirtual 167, 3), (133, .iadd, 1), (134, .goto 11, 3), (137, .aload_n 0, 1), (138, .aload_n 0, 1), (139, .getfield 128, 3), (142, .invokevirtual 167, 3), (145, .istore 4, 2), (147, .iload_n 2, 1), (148, .ifCond .ne 24, 3), (151, .iload 4, 2), (153, .iload 4, 2), (155, .bipush 50, 2), (157, .if_icmp .ge 9, 3), (160, .sipush 2000, 3), (163, .goto 6, 3), (166, .sipush 1900, 3), (169, .iadd, 1), (170, .istore 4, 2), (172, .iload_n 2, 1), (173, .ifCond .eq 12, 3), (176, .aload_n 0, 1), (177, .getfield 128, 3), (180, .iconst 4, 1), (181, .iadd, 1), (182, .goto 9, 3), (185, .aload_n 0, 1), (186, .getfield 128, 3), (189, .iconst 2, 1), (190, .iadd, 1), (191, .istore 5, 2), (193, .aload_n 0, 1), (194, .iload 5, 2), (196, .invokevirtual 167, 3), (199, .istore 6, 2), (201, .aload_n 0, 1), (202, .iload 5, 2), (204, .iconst 2, 1), (205, .iadd, 1), (206, .invokevirtual 167, 3), (209, .istore 7, 2), (211, .aload_n 0, 1), (212, .iload 5, 2), (214, .iconst 4, 1), (215, .iadd, 1), (216, .invokevirtual 167, 3), (219, .istore 8, 2), (221, .aload_n 0, 1), (222, .iload 5, 2), (224, .bipush 6, 2), (226, .iadd, 1), (227, .invokevirtual 167, 3), (230, .istore 9, 2), (232, .aload_n 0, 1), (233, .iload 5, 2), (235, .bipush 8, 2), (237, .iadd, 1), (238, .invokevirtual 167, 3), (241, .istore 10, 2), (243, .aload_n 0, 1), (244, .iload_n 2, 1), (245, .ifCond .eq 11, 3), (248, .iload 4, 2), (250, .sipush 2050, 3), (253, .if_icmp .lt 7, 3), (256, .iconst 1, 1), (257, .goto 4, 3), (260, .iconst 0, 1), (261, .invokevirtual 143, 3), (264, .aload_n 0, 1), (265, .iload 6, 2), (267, .iconst 1, 1), (268, .if_icmp .lt 35, 3), (271, .iload 6, 2), (273, .bipush 12, 2), (275, .if_icmp .gt 28, 3), (278, .iload 8, 2), (280, .bipush 24, 2), (282, .if_icmp .ge 21, 3), (285, .iload 9, 2), (287, .bipush 60, 2), (289, .if_icmp .ge 14, 3), (292, .iload 10, 2), (294, .bipush 60, 2), (296, .if_icmp .ge 7, 3), (299, .iconst 1, 1), (300, .goto 4, 3), (303, .iconst 0, 1), (304, .invokevirtual 143, 3), (307, .aload_n 0, 1), (308, .getfield 124, 3), (311, .ifCond .eq 5, 3), (314, .lconst 0, 1), (315, .lreturn, 1), (316, .aload_n 0, 1), (317, .iload 7, 2), (319, .iconst 1, 1), (320, .if_icmp .lt 19, 3), (323, .iload 7, 2), (325, .iload 4, 2), (327, .iload 6, 2), (329, .invokestatic 170, 3), (332, .if_icmp .gt 7, 3), (335, .iconst 1, 1), (336, .goto 4, 3), (339, .iconst 0, 1), (340, .invokevirtual 143, 3), (343, .iload 4, 2), (345, .invokestatic 173, 3), (348, .iload 7, 2), (350, .i2l, 1), (351, .ladd, 1), (352, .lconst 1, 1), (353, .lsub, 1), (354, .lstore 11, 2), (356, .iconst 1, 1), (357, .istore 13, 2), (359, .iload 13, 2), (361, .iload 6, 2), (363, .if_icmp .ge 22, 3), (366, .lload 11, 2), (368, .iload 4, 2), (370, .iload 13, 2), (372, .invokestatic 170, 3), (375, .i2l, 1), (376, .ladd, 1), (377, .lstore 11, 2), (379, .iinc 13 1, 3), (382, .goto (-23), 3), (385, .aload_n 0, 1), (386, .iload_n 3, 1), (387, .putfield 128, 3), (390, .lload 11, 2), (392, .ldc2_w 177, 3), (395, .lmul, 1), (396, .iload 8, 2), (398, .i2l, 1), (399, .ladd, 1), (400, .ldc2_w 179, 3), (403, .lmul, 1), (404, .iload 9, 2), (406, .i2l, 1), (407, .ladd, 1), (408, .ldc2_w 179, 3), (411, .lmul, 1), (412, .iload 10, 2), (414, .i2l, 1), (415, .ladd, 1), (416, .lreturn, 1)]
theorem dk_M_time : fx_dec prog_15_method_26_code dl_M_time = true := by decide +kernel
theorem d_M_time_0 : decode prog_15_method_26_code 0 = .ok (.aload_n 0, 1) := fx_dat dk_M_time 0 rfl
theorem d_M_time_1 : decode prog_15_method_26_code 1 = .ok (.getfield 124, 3) := fx_dat dk_M_time 1 rfl
theorem d_M_time_4 : decode prog_15_method_26_code 4 = .ok (.ifCond .ne 28, 3) := fx_dat dk_M_time 2 rfl
theorem d_M_time_7 : decode prog_15_method_26_code 7 = .ok (.aload_n 0, 1) := fx_dat dk_M_time 3 rfl
theorem d_M_time_8 : decode prog_15_method_26_code 8 = .ok (.getfield 128, 3) := fx_dat dk_M_time 4 rfl
theorem d_M_time_11 : decode prog_15_method_26_code 11 = .ok (.iload_n 1, 1) := fx_dat dk_M_time 5 rfl
theorem d_M_time_12 : decode prog_15_method_26_code 12 = .ok (.if_icmp .ge 20, 3) := fx_dat dk_M_time 6 rfl
theorem d_M_time_15 : decode prog_15_method_26_code 15 = .ok (.aload_n 0, 1) := fx_dat dk_M_time 7 rfl
theorem d_M_time_16 : decode prog_15_method_26_code 16 = .ok (.aload_n 0, 1) := fx_dat dk_M_time 8 rfl
theorem d_M_time_17 : decode prog_15_method_26_code 17 = .ok (.getfield 128, 3) := fx_dat dk_M_time 9 rfl
theorem d_M_time_20 : decode prog_15_method_26_code 20 = .ok (.invokevirtual 131, 3) := fx_dat dk_M_time 10 rfl
theorem d_M_time_23 : decode prog_15_method_26_code 23 = .ok (.bipush 24, 2) := fx_dat dk_M_time 11 rfl
theorem d_M_time_25 : decode prog_15_method_26_code 25 = .ok (.if_icmp .ne 7, 3) := fx_dat dk_M_time 12 rfl
theorem d_M_time_28 : decode prog_15_method_26_code 28 = .ok (.iconst 1, 1) := fx_dat dk_M_time 13 rfl
theorem d_M_time_29 : decode prog_15_method_26_code 29 = .ok (.goto 4, 3) := fx_dat dk_M_time 14 rfl
theorem d_M_time_32 : decode prog_15_method_26_code 32 = .ok (.iconst 0, 1) := fx_dat dk_M_time 15 rfl
theorem d_M_time_33 : decode prog_15_method_26_code 33 = .ok (.istore_n 2, 1) := fx_dat dk_M_time 16 rfl
theorem d_M_time_34 : decode prog_15_method_26_code 34 = .ok (.aload_n 0, 1) := fx_dat dk_M_time 17 rfl
theorem d_M_time_35 : decode prog_15_method_26_code 35 = .ok (.iload_n 2, 1) := fx_dat dk_M_time 18 rfl
theorem d_M_time_36 : decode prog_15_method_26_code 36 = .ok (.ifCond .eq 8, 3) := fx_dat dk_M_time 19 rfl
theorem d_M_time_39 : decode prog_15_method_26_code 39 = .ok (.bipush 24, 2) := fx_dat dk_M_time 20 rfl
theorem d_M_time_41 : decode prog_15_method_26_code 41 = .ok (.goto 5, 3) := fx_dat dk_M_time 21 rfl
theorem d_M_time_44 : decode prog_15_method_26_code 44 = .ok (.bipush 23, 2) := fx_dat dk_M_time 22 rfl
theorem d_M_time_46 : decode prog_15_method_26_code 46 = .ok (.iload_n 1, 1) := fx_dat dk_M_time 23 rfl
theorem d_M_time_47 : decode prog_15_method_26_code 47 = .ok (.invokevirtual 140, 3) := fx_dat dk_M_time 24 rfl
theorem d_M_time_50 : decode prog_15_method_26_code 50 = .ok (.istore_n 3, 1) := fx_dat dk_M_time 25 rfl
theorem d_M_time_51 : decode prog_15_method_26_code 51 = .ok (.aload_n 0, 1) := fx_dat dk_M_time 26 rfl
theorem d_M_time_52 : decode prog_15_method_26_code 52 = .ok (.getfield 124, 3) := fx_dat dk_M_time 27 rfl
theorem d_M_time_55 : decode prog_15_method_26_code 55 = .ok (.ifCond .ne 44, 3) := fx_dat dk_M_time 28 rfl
theorem d_M_time_58 : decode prog_15_method_26_code 58 = .ok (.aload_n 0, 1) := fx_dat dk_M_time 29 rfl
theorem d_M_time_59 : decode prog_15_method_26_code 59 = .ok (.iload_n 3, 1) := fx_dat dk_M_time 30 rfl
theorem d_M_time_60 : decode prog_15_method_26_code 60 = .ok (.aload_n 0, 1) := fx_dat dk_M_time 31 rfl
theorem d_M_time_61 : decode prog_15_method_26_code 61 = .ok (.getfield 128, 3) := fx_dat dk_M_time 32 rfl
theorem d_M_time_64 : decode prog_15_method_26_code 64 = .ok (.isub, 1) := fx_dat dk_M_time 33 rfl
theorem d_M_time_65 : decode prog_15_method_26_code 65 = .ok (.iload_n 2, 1) := fx_dat dk_M_time 34 rfl
theorem d_M_time_66 : decode prog_15_method_26_code 66 = .ok (.ifCond .eq 8, 3) := fx_dat dk_M_time 35 rfl
theorem d_M_time_69 : decode prog_15_method_26_code 69 = .ok (.bipush 15, 2) := fx_dat dk_M_time 36 rfl
theorem d_M_time_71 : decode prog_15_method_26_code 71 = .ok (.goto 5, 3) := fx_dat dk_M_time 37 rfl
theorem d_M_time_74 : decode prog_15_method_26_code 74 = .ok (.bipush 13, 2) := fx_dat dk_M_time 38 rfl
theorem d_M_time_76 : decode prog_15_method_26_code 76 = .ok (.if_icmp .ne 19, 3) := fx_dat dk_M_time 39 rfl
theorem d_M_time_79 : decode prog_15_method_26_code 79 = .ok (.aload_n 0, 1) := fx_dat dk_M_time 40 rfl
theorem d_M_time_80 : decode prog_15_method_26_code 80 = .ok (.iload_n 3, 1) := fx_dat dk_M_time 41 rfl
theorem d_M_time_81 : decode prog_15_method_26_code 81 = .ok (.iconst 1, 1) := fx_dat dk_M_time 42 rfl
theorem d_M_time_82 : decode prog_15_method_26_code 82 = .ok (.isub, 1) := fx_dat dk_M_time 43 rfl
theorem d_M_time_83 : decode prog_15_method_26_code 83 = .ok (.invokevirtual 131, 3) := fx_dat dk_M_time 44 rfl
theorem d_M_time_86 : decode prog_15_method_26_code 86 = .ok (.bipush 90, 2) := fx_dat dk_M_time 45 rfl
theorem d_M_time_88 : decode prog_15_method_26_code 88 = .ok (.if_icmp .ne 7, 3) := fx_dat dk_M_time 46 rfl
theorem d_M_time_91 : decode prog_15_method_26_code 91 = .ok (.iconst 1, 1) := fx_dat dk_M_time 47 rfl
theorem d_M_time_92 : decode prog_15_method_26_code 92 = .ok (.goto 4, 3) := fx_dat dk_M_time 48 rfl
theorem d_M_time_95 : decode prog_15_method_26_code 95 = .ok (.iconst 0, 1) := fx_dat dk_M_time 49 rfl
theorem d_M_time_96 : decode prog_15_method_26_code 96 = .ok (.invokevirtual 143, 3) := fx_dat dk_M_time 50 rfl
theorem d_M_time_99 : decode prog_15_method_26_code 99 = .ok (.aload_n 0, 1) := fx_dat dk_M_time 51 rfl
theorem d_M_time_100 : decode prog_15_method_26_code 100 = .ok (.getfield 124, 3) := fx_dat dk_M_time 52 rfl
theorem d_M_time_103 : decode prog_15_method_26_code 103 = .ok (.ifCond .eq 5, 3) := fx_dat dk_M_time 53 rfl
theorem d_M_time_106 : decode prog_15_method_26_code 106 = .ok (.lconst 0, 1) := fx_dat dk_M_time 54 rfl
theorem d_M_time_107 : decode prog_15_method_26_code 107 = .ok (.lreturn, 1) := fx_dat dk_M_time 55 rfl
theorem d_M_time_108 : decode prog_15_method_26_code 108 = .ok (.iload_n 2, 1) := fx_dat dk_M_time 56 rfl
theorem d_M_time_109 : decode prog_15_method_26_code 109 = .ok (.ifCond .eq 28, 3) := fx_dat dk_M_time 57 rfl
theorem d_M_time_112 : decode prog_15_method_26_code 112 = .ok (.bipush 100, 2) := fx_dat dk_M_time 58 rfl
theorem d_M_time_114 : decode prog_15_method_26_code 114 = .ok (.aload_n 0, 1) := fx_dat dk_M_time 59 rfl
theorem d_M_time_115 : decode prog_15_method_26_code 115 = .ok (.aload_n 0, 1) := fx_dat dk_M_time 60 rfl
theorem d_M_time_116 : decode prog_15_method_26_code 116 = .ok (.getfield 128, 3) := fx_dat dk_M_time 61 rfl
theorem d_M_time_119 : decode prog_15_method_26_code 119 = .ok (.invokevirtual 167, 3) := fx_dat dk_M_time 62 rfl
theorem d_M_time_122 : decode prog_15_method_26_code 122 = .ok (.imul, 1) := fx_dat dk_M_time 63 rfl
theorem d_M_time_123 : decode prog_15_method_26_code 123 = .ok (.aload_n 0, 1) := fx_dat dk_M_time 64 rfl
theorem d_M_time_124 : decode prog_15_method_26_code 124 = .ok (.aload_n 0, 1) := fx_dat dk_M_time 65 rfl
theorem d_M_time_125 : decode prog_15_method_26_code 125 = .ok (.getfield 128, 3) := fx_dat dk_M_time 66 rfl
theorem d_M_time_128 : decode prog_15_method_26_code 128 = .ok (.iconst 2, 1) := fx_dat dk_M_time 67 rfl
theorem d_M_time_129 : decode prog_15_method_26_code 129 = .ok (.iadd, 1) := fx_dat dk_M_time 68 rfl
theorem d_M_time_130 : decode prog_15_method_26_code 130 = .ok (.invokevirtual 167, 3) := fx_dat dk_M_time 69 rfl
theorem d_M_time_133 : decode prog_15_method_26_code 133 = .ok (.iadd, 1) := fx_dat dk_M_time 70 rfl
theorem d_M_time_134 : decode prog_15_method_26_code 134 = .ok (.goto 11, 3) := fx_dat dk_M_time 71 rfl
theorem d_M_time_137 : decode prog_15_method_26_code 137 = .ok (.aload_n 0, 1) := fx_dat dk_M_time 72 rfl
theorem d_M_time_138 : decode prog_15_method_26_code 138 = .ok (.aload_n 0, 1) := fx_dat dk_M_time 73 rfl
theorem d_M_time_139 : decode prog_15_method_26_code 139 = .ok (.getfield 128, 3) := fx_dat dk_M_time 74 rfl
theorem d_M_time_142 : decode prog_15_method_26_code 142 = .ok (.invokevirtual 167, 3) := fx_dat dk_M_time 75 rfl
theorem d_M_time_145 : decode prog_15_method_26_code 145 = .ok (.istore 4, 2) := fx_dat dk_M_time 76 rfl
theorem d_M_time_147 : decode prog_15_method_26_code 147 = .ok (.iload_n 2, 1) := fx_dat dk_M_time 77 rfl
theorem d_M_time_148 : decode prog_15_method_26_code 148 = .ok (.ifCond .ne 24, 3) := fx_dat dk_M_time 78 rfl
theorem d_M_time_151 : decode prog_15_method_26_code 151 = .ok (.iload 4, 2) := fx_dat dk_M_time 79 rfl
theorem d_M_time_153 : decode prog_15_method_26_code 153 = .ok (.iload 4, 2) := fx_dat dk_M_time 80 rfl
theorem d_M_time_155 : decode prog_15_method_26_code 155 = .ok (.bipush 50, 2) := fx_dat dk_M_time 81 rfl
theorem d_M_time_157 : decode prog_15_method_26_code 157 = .ok (.if_icmp .ge 9, 3) := fx_dat dk_M_time 82 rfl
theorem d_M_time_160 : decode prog_15_method_26_code 160 = .ok (.sipush 2000, 3) := fx_dat dk_M_time 83 rfl
theorem d_M_time_163 : decode prog_15_method_26_code 163 = .ok (.goto 6, 3) := fx_dat dk_M_time 84 rfl
theorem d_M_time_166 : decode prog_15_method_26_code 166 = .ok (.sipush 1900, 3) := fx_dat dk_M_time 85 rfl
theorem d_M_time_169 : decode prog_15_method_26_code 169 = .ok (.iadd, 1) := fx_dat dk_M_time 86 rfl
theorem d_M_time_170 : decode prog_15_method_26_code 170 = .ok (.istore 4, 2) := fx_dat dk_M_time 87 rfl
theorem d_M_time_172 : decode prog_15_method_26_code 172 = .ok (.iload_n 2, 1) := fx_dat dk_M_time 88 rfl
theorem d_M_time_173 : decode prog_15_method_26_code 173 = .ok (.ifCond .eq 12, 3) := fx_dat dk_M_time 89 rfl
theorem d_M_time_176 : decode prog_15_method_26_code 176 = .ok (.aload_n 0, 1) := fx_dat dk_M_time 90 rfl
theorem d_M_time_177 : decode prog_15_method_26_code 177 = .ok (.getfield 128, 3) := fx_dat dk_M_time 91 rfl
theorem d_M_time_180 : decode prog_15_method_26_code 180 = .ok (.iconst 4, 1) := fx_dat dk_M_time 92 rfl
theorem d_M_time_181 : decode prog_15_method_26_code 181 = .ok (.iadd, 1) := fx_dat dk_M_time 93 rfl
theorem d_M_time_182 : decode prog_15_method_26_code 182 = .ok (.goto 9, 3) := fx_dat dk_M_time 94 rfl
theorem d_M_time_185 : decode prog_15_method_26_code 185 = .ok (.aload_n 0, 1) := fx_dat dk_M_time 95 rfl
theorem d_M_time_186 : decode prog_15_method_26_code 186 = .ok (.getfield 128, 3) := fx_dat dk_M_time 96 rfl
theorem d_M_time_189 : decode prog_15_method_26_code 189 = .ok (.iconst 2, 1) := fx_dat dk_M_time 97 rfl
theorem d_M_time_190 : decode prog_15_method_26_code 190 = .ok (.iadd, 1) := fx_dat dk_M_time 98 rfl
theorem d_M_time_191 : decode prog_15_method_26_code 191 = .ok (.istore 5, 2) := fx_dat dk_M_time 99 rfl
theorem d_M_time_193 : decode prog_15_method_26_code 193 = .ok (.aload_n 0, 1) := fx_dat dk_M_time 100 rfl
theorem d_M_time_194 : decode prog_15_method_26_code 194 = .ok (.iload 5, 2) := fx_dat dk_M_time 101 rfl
theorem d_M_time_196 : decode prog_15_method_26_code 196 = .ok (.invokevirtual 167, 3) := fx_dat dk_M_time 102 rfl
theorem d_M_time_199 : decode prog_15_method_26_code 199 = .ok (.istore 6, 2) := fx_dat dk_M_time 103 rfl
theorem d_M_time_201 : decode prog_15_method_26_code 201 = .ok (.aload_n 0, 1) := fx_dat dk_M_time 104 rfl
theorem d_M_time_202 : decode prog_15_method_26_code 202 = .ok (.iload 5, 2) := fx_dat dk_M_time 105 rfl
theorem d_M_time_204 : decode prog_15_method_26_code 204 = .ok (.iconst 2, 1) := fx_dat dk_M_time 106 rfl
theorem d_M_time_205 : decode prog_15_method_26_code 205 = .ok (.iadd, 1) := fx_dat dk_M_time 107 rfl
theorem d_M_time_206 : decode prog_15_method_26_code 206 = .ok (.invokevirtual 167, 3) := fx_dat dk_M_time 108 rfl
theorem d_M_time_209 : decode prog_15_method_26_code 209 = .ok (.istore 7, 2) := fx_dat dk_M_time 109 rfl
theorem d_M_time_211 : decode prog_15_method_26_code 211 = .ok (.aload_n 0, 1) := fx_dat dk_M_time 110 rfl
theorem d_M_time_212 : decode prog_15_method_26_code 212 = .ok (.iload 5, 2) := fx_dat dk_M_time 111 rfl
theorem d_M_time_214 : decode prog_15_method_26_code 214 = .ok (.iconst 4, 1) := fx_dat dk_M_time 112 rfl
theorem d_M_time_215 : decode prog_15_method_26_code 215 = .ok (.iadd, 1) := fx_dat dk_M_time 113 rfl
theorem d_M_time_216 : decode prog_15_method_26_code 216 = .ok (.invokevirtual 167, 3) := fx_dat dk_M_time 114 rfl
theorem d_M_time_219 : decode prog_15_method_26_code 219 = .ok (.istore 8, 2) := fx_dat dk_M_time 115 rfl
theorem d_M_time_221 : decode prog_15_method_26_code 221 = .ok (.aload_n 0, 1) := fx_dat dk_M_time 116 rfl
theorem d_M_time_222 : decode prog_15_method_26_code 222 = .ok (.iload 5, 2) := fx_dat dk_M_time 117 rfl
theorem d_M_time_224 : decode prog_15_method_26_code 224 = .ok (.bipush 6, 2) := fx_dat dk_M_time 118 rfl
theorem d_M_time_226 : decode prog_15_method_26_code 226 = .ok (.iadd, 1) := fx_dat dk_M_time 119 rfl
theorem d_M_time_227 : decode prog_15_method_26_code 227 = .ok (.invokevirtual 167, 3) := fx_dat dk_M_time 120 rfl
theorem d_M_time_230 : decode prog_15_method_26_code 230 = .ok (.istore 9, 2) := fx_dat dk_M_time 121 rfl
theorem d_M_time_232 : decode prog_15_method_26_code 232 = .ok (.aload_n 0, 1) := fx_dat dk_M_time 122 rfl
theorem d_M_time_233 : decode prog_15_method_26_code 233 = .ok (.iload 5, 2) := fx_dat dk_M_time 123 rfl
theorem d_M_time_235 : decode prog_15_method_26_code 235 = .ok (.bipush 8, 2) := fx_dat dk_M_time 124 rfl
theorem d_M_time_237 : decode prog_15_method_26_code 237 = .ok (.iadd, 1) := fx_dat dk_M_time 125 rfl
theorem d_M_time_238 : decode prog_15_method_26_code 238 = .ok (.invokevirtual 167, 3) := fx_dat dk_M_time 126 rfl
theorem d_M_time_241 : decode prog_15_method_26_code 241 = .ok (.istore 10, 2) := fx_dat dk_M_time 127 rfl
theorem d_M_time_243 : decode prog_15_method_26_code 243 = .ok (.aload_n 0, 1) := fx_dat dk_M_time 128 rfl
theorem d_M_time_244 : decode prog_15_method_26_code 244 = .ok (.iload_n 2, 1) := fx_dat dk_M_time 129 rfl
theorem d_M_time_245 : decode prog_15_method_26_code 245 = .ok (.ifCond .eq 11, 3) := fx_dat dk_M_time 130 rfl
theorem d_M_time_248 : decode prog_15_method_26_code 248 = .ok (.iload 4, 2) := fx_dat dk_M_time 131 rfl
theorem d_M_time_250 : decode prog_15_method_26_code 250 = .ok (.sipush 2050, 3) := fx_dat dk_M_time 132 rfl
theorem d_M_time_253 : decode prog_15_method_26_code 253 = .ok (.if_icmp .lt 7, 3) := fx_dat dk_M_time 133 rfl
theorem d_M_time_256 : decode prog_15_method_26_code 256 = .ok (.iconst 1, 1) := fx_dat dk_M_time 134 rfl
theorem d_M_time_257 : decode prog_15_method_26_code 257 = .ok (.goto 4, 3) := fx_dat dk_M_time 135 rfl
theorem d_M_time_260 : decode prog_15_method_26_code 260 = .ok (.iconst 0, 1) := fx_dat dk_M_time 136 rfl
theorem d_M_time_261 : decode prog_15_method_26_code 261 = .ok (.invokevirtual 143, 3) := fx_dat dk_M_time 137 rfl
theorem d_M_time_264 : decode prog_15_method_26_code 264 = .ok (.aload_n 0, 1) := fx_dat dk_M_time 138 rfl
theorem d_M_time_265 : decode prog_15_method_26_code 265 = .ok (.iload 6, 2) := fx_dat dk_M_time 139 rfl
theorem d_M_time_267 : decode prog_15_method_26_code 267 = .ok (.iconst 1, 1) := fx_dat dk_M_time 140 rfl
theorem d_M_time_268 : decode prog_15_method_26_code 268 = .ok (.if_icmp .lt 35, 3) := fx_dat dk_M_time 141 rfl
theorem d_M_time_271 : decode prog_15_method_26_code 271 = .ok (.iload 6, 2) := fx_dat dk_M_time 142 rfl
theorem d_M_time_273 : decode prog_15_method_26_code 273 = .ok (.bipush 12, 2) := fx_dat dk_M_time 143 rfl
theorem d_M_time_275 : decode prog_15_method_26_code 275 = .ok (.if_icmp .gt 28, 3) := fx_dat dk_M_time 144 rfl
theorem d_M_time_278 : decode prog_15_method_26_code 278 = .ok (.iload 8, 2) := fx_dat dk_M_time 145 rfl
theorem d_M_time_280 : decode prog_15_method_26_code 280 = .ok (.bipush 24, 2) := fx_dat dk_M_time 146 rfl
theorem d_M_time_282 : decode prog_15_method_26_code 282 = .ok (.if_icmp .ge 21, 3) := fx_dat dk_M_time 147 rfl
theorem d_M_time_285 : decode prog_15_method_26_code 285 = .ok (.iload 9, 2) := fx_dat dk_M_time 148 rfl
theorem d_M_time_287 : decode prog_15_method_26_code 287 = .ok (.bipush 60, 2) := fx_dat dk_M_time 149 rfl
theorem d_M_time_289 : decode prog_15_method_26_code 289 = .ok (.if_icmp .ge 14, 3) := fx_dat dk_M_time 150 rfl
theorem d_M_time_292 : decode prog_15_method_26_code 292 = .ok (.iload 10, 2) := fx_dat dk_M_time 151 rfl
theorem d_M_time_294 : decode prog_15_method_26_code 294 = .ok (.bipush 60, 2) := fx_dat dk_M_time 152 rfl
theorem d_M_time_296 : decode prog_15_method_26_code 296 = .ok (.if_icmp .ge 7, 3) := fx_dat dk_M_time 153 rfl
theorem d_M_time_299 : decode prog_15_method_26_code 299 = .ok (.iconst 1, 1) := fx_dat dk_M_time 154 rfl
theorem d_M_time_300 : decode prog_15_method_26_code 300 = .ok (.goto 4, 3) := fx_dat dk_M_time 155 rfl
theorem d_M_time_303 : decode prog_15_method_26_code 303 = .ok (.iconst 0, 1) := fx_dat dk_M_time 156 rfl
theorem d_M_time_304 : decode prog_15_method_26_code 304 = .ok (.invokevirtual 143, 3) := fx_dat dk_M_time 157 rfl
theorem d_M_time_307 : decode prog_15_method_26_code 307 = .ok (.aload_n 0, 1) := fx_dat dk_M_time 158 rfl
theorem d_M_time_308 : decode prog_15_method_26_code 308 = .ok (.getfield 124, 3) := fx_dat dk_M_time 159 rfl
theorem d_M_time_311 : decode prog_15_method_26_code 311 = .ok (.ifCond .eq 5, 3) := fx_dat dk_M_time 160 rfl
theorem d_M_time_314 : decode prog_15_method_26_code 314 = .ok (.lconst 0, 1) := fx_dat dk_M_time 161 rfl
theorem d_M_time_315 : decode prog_15_method_26_code 315 = .ok (.lreturn, 1) := fx_dat dk_M_time 162 rfl
theorem d_M_time_316 : decode prog_15_method_26_code 316 = .ok (.aload_n 0, 1) := fx_dat dk_M_time 163 rfl
theorem d_M_time_317 : decode prog_15_method_26_code 317 = .ok (.iload 7, 2) := fx_dat dk_M_time 164 rfl
theorem d_M_time_319 : decode prog_15_method_26_code 319 = .ok (.iconst 1, 1) := fx_dat dk_M_time 165 rfl
theorem d_M_time_320 : decode prog_15_method_26_code 320 = .ok (.if_icmp .lt 19, 3) := fx_dat dk_M_time 166 rfl
theorem d_M_time_323 : decode prog_15_method_26_code 323 = .ok (.iload 7, 2) := fx_dat dk_M_time 167 rfl
theorem d_M_time_325 : decode prog_15_method_26_code 325 = .ok (.iload 4, 2) := fx_dat dk_M_time 168 rfl
theorem d_M_time_327 : decode prog_15_method_26_code 327 = .ok (.iload 6, 2) := fx_dat dk_M_time 169 rfl
theorem d_M_time_329 : decode prog_15_method_26_code 329 = .ok (.invokestatic 170, 3) := fx_dat dk_M_time 170 rfl
theorem d_M_time_332 : decode prog_15_method_26_code 332 = .ok (.if_icmp .gt 7, 3) := fx_dat dk_M_time 171 rfl
theorem d_M_time_335 : decode prog_15_method_26_code 335 = .ok (.iconst 1, 1) := fx_dat dk_M_time 172 rfl
theorem d_M_time_336 : decode prog_15_method_26_code 336 = .ok (.goto 4, 3) := fx_dat dk_M_time 173 rfl
theorem d_M_time_339 : decode prog_15_method_26_code 339 = .ok (.iconst 0, 1) := fx_dat dk_M_time 174 rfl
theorem d_M_time_340 : decode prog_15_method_26_code 340 = .ok (.invokevirtual 143, 3) := fx_dat dk_M_time 175 rfl
theorem d_M_time_343 : decode prog_15_method_26_code 343 = .ok (.iload 4, 2) := fx_dat dk_M_time 176 rfl
theorem d_M_time_345 : decode prog_15_method_26_code 345 = .ok (.invokestatic 173, 3) := fx_dat dk_M_time 177 rfl
theorem d_M_time_348 : decode prog_15_method_26_code 348 = .ok (.iload 7, 2) := fx_dat dk_M_time 178 rfl
theorem d_M_time_350 : decode prog_15_method_26_code 350 = .ok (.i2l, 1) := fx_dat dk_M_time 179 rfl
theorem d_M_time_351 : decode prog_15_method_26_code 351 = .ok (.ladd, 1) := fx_dat dk_M_time 180 rfl
theorem d_M_time_352 : decode prog_15_method_26_code 352 = .ok (.lconst 1, 1) := fx_dat dk_M_time 181 rfl
theorem d_M_time_353 : decode prog_15_method_26_code 353 = .ok (.lsub, 1) := fx_dat dk_M_time 182 rfl
theorem d_M_time_354 : decode prog_15_method_26_code 354 = .ok (.lstore 11, 2) := fx_dat dk_M_time 183 rfl
theorem d_M_time_356 : decode prog_15_method_26_code 356 = .ok (.iconst 1, 1) := fx_dat dk_M_time 184 rfl
theorem d_M_time_357 : decode prog_15_method_26_code 357 = .ok (.istore 13, 2) := fx_dat dk_M_time 185 rfl
theorem d_M_time_359 : decode prog_15_method_26_code 359 = .ok (.iload 13, 2) := fx_dat dk_M_time 186 rfl
theorem d_M_time_361 : decode prog_15_method_26_code 361 = .ok (.iload 6, 2) := fx_dat dk_M_time 187 rfl
theorem d_M_time_363 : decode prog_15_method_26_code 363 = .ok (.if_icmp .ge 22, 3) := fx_dat dk_M_time 188 rfl
theorem d_M_time_366 : decode prog_15_method_26_code 366 = .ok (.lload 11, 2) := fx_dat dk_M_time 189 rfl
theorem d_M_time_368 : decode prog_15_method_26_code 368 = .ok (.iload 4, 2) := fx_dat dk_M_time 190 rfl
theorem d_M_time_370 : decode prog_15_method_26_code 370 = .ok (.iload 13, 2) := fx_dat dk_M_time 191 rfl
theorem d_M_time_372 : decode prog_15_method_26_code 372 = .ok (.invokestatic 170, 3) := fx_dat dk_M_time 192 rfl
theorem d_M_time_375 : decode prog_15_method_26_code 375 = .ok (.i2l, 1) := fx_dat dk_M_time 193 rfl
theorem d_M_time_376 : decode prog_15_method_26_code 376 = .ok (.ladd, 1) := fx_dat dk_M_time 194 rfl
theorem d_M_time_377 : decode prog_15_method_26_code 377 = .ok (.lstore 11, 2) := fx_dat dk_M_time 195 rfl
theorem d_M_time_379 : decode prog_15_method_26_code 379 = .ok (.iinc 13 1, 3) := fx_dat dk_M_time 196 rfl
theorem d_M_time_382 : decode prog_15_method_26_code 382 = .ok (.goto (-23), 3) := fx_dat dk_M_time 197 rfl
theorem d_M_time_385 : decode prog_15_method_26_code 385 = .ok (.aload_n 0, 1) := fx_dat dk_M_time 198 rfl
theorem d_M_time_386 : decode prog_15_method_26_code 386 = .ok (.iload_n 3, 1) := fx_dat dk_M_time 199 rfl
theorem d_M_time_387 : decode prog_15_method_26_code 387 = .ok (.putfield 128, 3) := fx_dat dk_M_time 200 rfl
theorem d_M_time_390 : decode prog_15_method_26_code 390 = .ok (.lload 11, 2) := fx_dat dk_M_time 201 rfl
theorem d_M_time_392 : decode prog_15_method_26_code 392 = .ok (.ldc2_w 177, 3) := fx_dat dk_M_time 202 rfl
theorem d_M_time_395 : decode prog_15_method_26_code 395 = .ok (.lmul, 1) := fx_dat dk_M_time 203 rfl
theorem d_M_time_396 : decode prog_15_method_26_code 396 = .ok (.iload 8, 2) := fx_dat dk_M_time 204 rfl
theorem d_M_time_398 : decode prog_15_method_26_code 398 = .ok (.i2l, 1) := fx_dat dk_M_time 205 rfl
theorem d_M_time_399 : decode prog_15_method_26_code 399 = .ok (.ladd, 1) := fx_dat dk_M_time 206 rfl
theorem d_M_time_400 : decode prog_15_method_26_code 400 = .ok (.ldc2_w 179, 3) := fx_dat dk_M_time 207 rfl
theorem d_M_time_403 : decode prog_15_method_26_code 403 = .ok (.lmul, 1) := fx_dat dk_M_time 208 rfl
theorem d_M_time_404 : decode prog_15_method_26_code 404 = .ok (.iload 9, 2) := fx_dat dk_M_time 209 rfl
theorem d_M_time_406 : decode prog_15_method_26_code 406 = .ok (.i2l, 1) := fx_dat dk_M_time 210 rfl
theorem d_M_time_407 : decode prog_15_method_26_code 407 = .ok (.ladd, 1) := fx_dat dk_M_time 211 rfl
theorem d_M_time_408 : decode prog_15_method_26_code 408 = .ok (.ldc2_w 179, 3) := fx_dat dk_M_time 212 rfl
theorem d_M_time_411 : decode prog_15_method_26_code 411 = .ok (.lmul, 1) := fx_dat dk_M_time 213 rfl
theorem d_M_time_412 : decode prog_15_method_26_code 412 = .ok (.iload 10, 2) := fx_dat dk_M_time 214 rfl
theorem d_M_time_414 : decode prog_15_method_26_code 414 = .ok (.i2l, 1) := fx_dat dk_M_time 215 rfl
theorem d_M_time_415 : decode prog_15_method_26_code 415 = .ok (.ladd, 1) := fx_dat dk_M_time 216 rfl
theorem d_M_time_416 : decode prog_15_method_26_code 416 = .ok (.lreturn, 1) := fx_dat dk_M_time 217 rfl
def m_M_time_359_b (Q : Int64 → AH → Prop) (X359 : Int64 × Int32 × AH → Prop) (r0 : Nat) (x3 : Int32) (x4 : Int32) (x6 : Int32) (x8 : Int32) (x9 : Int32) (x10 : Int32) (w11 : Int64) (x13 : Int32) (h : AH) : Prop := (x6 ≤ x13 → hp_k h r0 = 13 ∧ ∀ h1 : AH, h1 = up_I h r0 20 x3 → Q ((((((w11 * (24 : Int64)) + ((x8).toInt64)) * (60 : Int64)) + ((x9).toInt64)) * (60 : Int64)) + ((x10).toInt64)) h1) ∧ (¬ x6 ≤ x13 → m_M_daysOf (fun v1 h2 => fx_ext h h2 → ∀ u1 : Int64, u1 = (w11 + ((v1).toInt64)) → ∀ v2 : Int32, v2 = (x13 + (1 : Int32)) → X359 (u1, v2, h2)) x4 x13 h)
def m_M_time_359 (Q : Int64 → AH → Prop) (r0 : Nat) (x3 : Int32) (x4 : Int32) (x6 : Int32) (x8 : Int32) (x9 : Int32) (x10 : Int32) (w11 : Int64) (x13 : Int32) (h : AH) : Prop := fx_loop (fun (X359 : Int64 × Int32 × AH → Prop) (st : Int64 × Int32 × AH) => m_M_time_359_b Q X359 r0 x3 x4 x6 x8 x9 x10 st.1 st.2.1 st.2.2) (w11, x13, h)
def m_M_time_340 (Q : Int64 → AH → Prop) (r0 : Nat) (x3 : Int32) (x4 : Int32) (x6 : Int32) (x7 : Int32) (x8 : Int32) (x9 : Int32) (x10 : Int32) (sr0 : Nat) (sx1 : Int32) (h : AH) : Prop := hp_k h sr0 = 13 ∧ m_M_need (fun h1 => fx_ext h h1 → m_M_daysBefore (fun u1 h2 => fx_ext h1 h2 → ∀ u2 : Int64, u2 = ((u1 + ((x7).toInt64)) - (1 : Int64)) → m_M_time_359 Q r0 x3 x4 x6 x8 x9 x10 u2 (1 : Int32) h2) x4 h1) sr0 sx1 h
def m_M_time_339 (Q : Int64 → AH → Prop) (r0 : Nat) (x3 : Int32) (x4 : Int32) (x6 : Int32) (x7 : Int32) (x8 : Int32) (x9 : Int32) (x10 : Int32) (sr0 : Nat) (h : AH) : Prop := m_M_time_340 Q r0 x3 x4 x6 x7 x8 x9 x10 sr0 (0 : Int32) h
def m_M_time_304 (Q : Int64 → AH → Prop) (r0 : Nat) (x3 : Int32) (x4 : Int32) (x6 : Int32) (x7 : Int32) (x8 : Int32) (x9 : Int32) (x10 : Int32) (sr0 : Nat) (sx1 : Int32) (h : AH) : Prop := hp_k h sr0 = 13 ∧ m_M_need (fun h1 => fx_ext h h1 → hp_k h1 r0 = 13 ∧ ((hp_I h1 r0 21) = 0 → (x7 < (1 : Int32) → m_M_time_339 Q r0 x3 x4 x6 x7 x8 x9 x10 r0 h1) ∧ (¬ x7 < (1 : Int32) → m_M_daysOf (fun v1 h2 => fx_ext h1 h2 → (v1 < x7 → m_M_time_339 Q r0 x3 x4 x6 x7 x8 x9 x10 r0 h2) ∧ (¬ v1 < x7 → m_M_time_340 Q r0 x3 x4 x6 x7 x8 x9 x10 r0 (1 : Int32) h2)) x4 x6 h1)) ∧ (¬ (hp_I h1 r0 21) = 0 → Q (0 : Int64) h1)) sr0 sx1 h
def m_M_time_303 (Q : Int64 → AH → Prop) (r0 : Nat) (x3 : Int32) (x4 : Int32) (x6 : Int32) (x7 : Int32) (x8 : Int32) (x9 : Int32) (x10 : Int32) (sr0 : Nat) (h : AH) : Prop := m_M_time_304 Q r0 x3 x4 x6 x7 x8 x9 x10 sr0 (0 : Int32) h
def m_M_time_261 (Q : Int64 → AH → Prop) (r0 : Nat) (x3 : Int32) (x4 : Int32) (x6 : Int32) (x7 : Int32) (x8 : Int32) (x9 : Int32) (x10 : Int32) (sr0 : Nat) (sx1 : Int32) (h : AH) : Prop := hp_k h sr0 = 13 ∧ m_M_need (fun h1 => fx_ext h h1 → (x6 < (1 : Int32) → m_M_time_303 Q r0 x3 x4 x6 x7 x8 x9 x10 r0 h1) ∧ (¬ x6 < (1 : Int32) → ((12 : Int32) < x6 → m_M_time_303 Q r0 x3 x4 x6 x7 x8 x9 x10 r0 h1) ∧ (¬ (12 : Int32) < x6 → ((24 : Int32) ≤ x8 → m_M_time_303 Q r0 x3 x4 x6 x7 x8 x9 x10 r0 h1) ∧ (¬ (24 : Int32) ≤ x8 → ((60 : Int32) ≤ x9 → m_M_time_303 Q r0 x3 x4 x6 x7 x8 x9 x10 r0 h1) ∧ (¬ (60 : Int32) ≤ x9 → ((60 : Int32) ≤ x10 → m_M_time_303 Q r0 x3 x4 x6 x7 x8 x9 x10 r0 h1) ∧ (¬ (60 : Int32) ≤ x10 → m_M_time_304 Q r0 x3 x4 x6 x7 x8 x9 x10 r0 (1 : Int32) h1)))))) sr0 sx1 h
def m_M_time_256 (Q : Int64 → AH → Prop) (r0 : Nat) (x3 : Int32) (x4 : Int32) (x6 : Int32) (x7 : Int32) (x8 : Int32) (x9 : Int32) (x10 : Int32) (sr0 : Nat) (h : AH) : Prop := m_M_time_261 Q r0 x3 x4 x6 x7 x8 x9 x10 sr0 (1 : Int32) h
def m_M_time_191 (Q : Int64 → AH → Prop) (r0 : Nat) (x2 : Int32) (x3 : Int32) (x4 : Int32) (sx0 : Int32) (h : AH) : Prop := hp_k h r0 = 13 ∧ m_M_two (fun v1 h1 => fx_ext h h1 → m_M_two (fun v2 h2 => fx_ext h1 h2 → m_M_two (fun v3 h3 => fx_ext h2 h3 → m_M_two (fun v4 h4 => fx_ext h3 h4 → m_M_two (fun v5 h5 => fx_ext h4 h5 → (x2 = 0 → m_M_time_256 Q r0 x3 x4 v1 v2 v3 v4 v5 r0 h5) ∧ (¬ x2 = 0 → (x4 < (2050 : Int32) → m_M_time_261 Q r0 x3 x4 v1 v2 v3 v4 v5 r0 (0 : Int32) h5) ∧ (¬ x4 < (2050 : Int32) → m_M_time_256 Q r0 x3 x4 v1 v2 v3 v4 v5 r0 h5))) r0 (sx0 + (8 : Int32)) h4) r0 (sx0 + (6 : Int32)) h3) r0 (sx0 + (4 : Int32)) h2) r0 (sx0 + (2 : Int32)) h1) r0 sx0 h
def m_M_time_172 (Q : Int64 → AH → Prop) (r0 : Nat) (x2 : Int32) (x3 : Int32) (x4 : Int32) (h : AH) : Prop := (x2 = 0 → hp_k h r0 = 13 ∧ m_M_time_191 Q r0 x2 x3 x4 ((hp_I h r0 20) + (2 : Int32)) h) ∧ (¬ x2 = 0 → hp_k h r0 = 13 ∧ m_M_time_191 Q r0 x2 x3 x4 ((hp_I h r0 20) + (4 : Int32)) h)
def m_M_time_169 (Q : Int64 → AH → Prop) (r0 : Nat) (x2 : Int32) (x3 : Int32) (sx0 : Int32) (sx1 : Int32) (h : AH) : Prop := ∀ v1 : Int32, v1 = (sx0 + sx1) → m_M_time_172 Q r0 x2 x3 v1 h
def m_M_time_145 (Q : Int64 → AH → Prop) (r0 : Nat) (x2 : Int32) (x3 : Int32) (sx0 : Int32) (h : AH) : Prop := (¬ x2 = 0 → m_M_time_172 Q r0 x2 x3 sx0 h) ∧ (x2 = 0 → ((50 : Int32) ≤ sx0 → m_M_time_169 Q r0 x2 x3 sx0 (1900 : Int32) h) ∧ (¬ (50 : Int32) ≤ sx0 → m_M_time_169 Q r0 x2 x3 sx0 (2000 : Int32) h))
def m_M_time_99 (Q : Int64 → AH → Prop) (r0 : Nat) (x2 : Int32) (x3 : Int32) (h : AH) : Prop := hp_k h r0 = 13 ∧ ((hp_I h r0 21) = 0 → (x2 = 0 → m_M_two (fun v1 h1 => fx_ext h h1 → m_M_time_145 Q r0 x2 x3 v1 h1) r0 (hp_I h r0 20) h) ∧ (¬ x2 = 0 → m_M_two (fun v2 h2 => fx_ext h h2 → m_M_two (fun v3 h3 => fx_ext h2 h3 → m_M_time_145 Q r0 x2 x3 (((100 : Int32) * v2) + v3) h3) r0 ((hp_I h2 r0 20) + (2 : Int32)) h2) r0 (hp_I h r0 20) h)) ∧ (¬ (hp_I h r0 21) = 0 → Q (0 : Int64) h)
def m_M_time_96 (Q : Int64 → AH → Prop) (r0 : Nat) (x2 : Int32) (x3 : Int32) (sr0 : Nat) (sx1 : Int32) (h : AH) : Prop := hp_k h sr0 = 13 ∧ m_M_need (fun h1 => fx_ext h h1 → m_M_time_99 Q r0 x2 x3 h1) sr0 sx1 h
def m_M_time_95 (Q : Int64 → AH → Prop) (r0 : Nat) (x2 : Int32) (x3 : Int32) (sr0 : Nat) (h : AH) : Prop := m_M_time_96 Q r0 x2 x3 sr0 (0 : Int32) h
def m_M_time_76 (Q : Int64 → AH → Prop) (r0 : Nat) (x2 : Int32) (x3 : Int32) (sr0 : Nat) (sx1 : Int32) (sx2 : Int32) (h : AH) : Prop := (¬ sx1 = sx2 → m_M_time_95 Q r0 x2 x3 sr0 h) ∧ (sx1 = sx2 → hp_k h r0 = 13 ∧ m_M_here (fun v1 h1 => fx_ext h h1 → (¬ v1 = (90 : Int32) → m_M_time_95 Q r0 x2 x3 sr0 h1) ∧ (v1 = (90 : Int32) → m_M_time_96 Q r0 x2 x3 sr0 (1 : Int32) h1)) r0 (x3 - (1 : Int32)) h)
def m_M_time_46 (Q : Int64 → AH → Prop) (r0 : Nat) (x1 : Int32) (x2 : Int32) (sr0 : Nat) (sx1 : Int32) (h : AH) : Prop := hp_k h sr0 = 13 ∧ m_M_open (fun v1 h1 => fx_ext h h1 → hp_k h1 r0 = 13 ∧ (¬ (hp_I h1 r0 21) = 0 → m_M_time_99 Q r0 x2 v1 h1) ∧ ((hp_I h1 r0 21) = 0 → (x2 = 0 → m_M_time_76 Q r0 x2 v1 r0 (v1 - (hp_I h1 r0 20)) (13 : Int32) h1) ∧ (¬ x2 = 0 → m_M_time_76 Q r0 x2 v1 r0 (v1 - (hp_I h1 r0 20)) (15 : Int32) h1))) sr0 sx1 x1 h
def m_M_time_33 (Q : Int64 → AH → Prop) (r0 : Nat) (x1 : Int32) (sx0 : Int32) (h : AH) : Prop := (sx0 = 0 → m_M_time_46 Q r0 x1 sx0 r0 (23 : Int32) h) ∧ (¬ sx0 = 0 → m_M_time_46 Q r0 x1 sx0 r0 (24 : Int32) h)
def m_M_time_32 (Q : Int64 → AH → Prop) (r0 : Nat) (x1 : Int32) (h : AH) : Prop := m_M_time_33 Q r0 x1 (0 : Int32) h
def m_M_time (Q : Int64 → AH → Prop) (r0 : Nat) (x1 : Int32) (h : AH) : Prop := hp_k h r0 = 13 ∧ (¬ (hp_I h r0 21) = 0 → m_M_time_32 Q r0 x1 h) ∧ ((hp_I h r0 21) = 0 → (x1 ≤ (hp_I h r0 20) → m_M_time_32 Q r0 x1 h) ∧ (¬ x1 ≤ (hp_I h r0 20) → m_M_here (fun v1 h1 => fx_ext h h1 → (¬ v1 = (24 : Int32) → m_M_time_32 Q r0 x1 h1) ∧ (v1 = (24 : Int32) → m_M_time_33 Q r0 x1 (1 : Int32) h1)) r0 (hp_I h r0 20) h))
theorem b_M_time_359 {p : Program} {l : Launch} {e : Env} {R : Room} {s : State} {m : MethodId} {args : Array Value} {below : List Frame} {meth : Method} {c : Code} {D : DD} {h0 : AH} {Q : Int64 → AH → Prop} (C : fx_CX D y_M_time prog_15_method_26_code 14 2 32 (Option.some FieldType.long) [] h0 p R s m meth c) (hl : l.flags = flags0) (r0 : Nat) (x3 : Int32) (x4 : Int32) (x6 : Int32) (x8 : Int32) (x9 : Int32) (x10 : Int32) (w11 : Int64) (x13 : Int32) (h : AH) (hw : m_M_time_359 Q r0 x3 x4 x6 x8 x9 x10 w11 x13 h) : ∀ (ls : Array Slot) (H : Heap) (locs : List Loc) (cells slots : Nat), lv_has ls 14 [(0, .ref r0), (3, .int x3), (4, .int x4), (6, .int x6), (8, .int x8), (9, .int x9), (10, .int x10), (11, .long w11), (13, .int x13)] → fx_F D h0 h H locs cells slots → W p l e R s m args below meth c H locs cells slots (fx_Z D below s h0 (fx_oL Q fx_no)) (F0 m 359 ls []) := by
  refine fx_loop.use hw (fun st => ∀ (ls : Array Slot) (H : Heap) (locs : List Loc) (cells slots : Nat), lv_has ls 14 [(0, .ref r0), (3, .int x3), (4, .int x4), (6, .int x6), (8, .int x8), (9, .int x9), (10, .int x10), (11, .long st.1), (13, .int st.2.1)] → fx_F D h0 st.2.2 H locs cells slots → W p l e R s m args below meth c H locs cells slots (fx_Z D below s h0 (fx_oL Q fx_no)) (F0 m 359 ls [])) (fun X359 st hX359 hw => ?_)
  obtain ⟨w11, x13, h⟩ := st
  replace hw : m_M_time_359_b Q X359 r0 x3 x4 x6 x8 x9 x10 w11 x13 h := hw
  unfold m_M_time_359_b at hw
  intro ls H locs cells slots hv F
  refine lv_iload C.ex C.by d_M_time_359 (lv_at hv 8 rfl) ?_
  refine lv_iload C.ex C.by d_M_time_361 (lv_at hv 3 rfl) ?_
  refine lv_icmp_ge C.ex C.by d_M_time_363 rfl (fun hc => ?_) (fun hc => ?_)
  · replace hw := hw.1 hc
    refine lv_aload_n C.ex C.by d_M_time_385 rfl (lv_at hv 0 rfl) ?_
    refine lv_iload_n C.ex C.by d_M_time_386 rfl (lv_at hv 1 rfl) ?_
    obtain ⟨hk1, hw⟩ := hw
    let h1 : AH := up_I h r0 20 x3
    replace hw := hw h1 rfl
    refine fx_putI C F lf_M_128 hk1 rfl rfl (fx_mayF.no rfl rfl) d_M_time_387 (fun H locs (F : fx_F D h0 h1 H locs _ _) => ?_)
    refine lv_lload C.ex C.by d_M_time_390 (lv_at hv 7 rfl) ?_
    refine lv_ldc2 (v := (24 : Int64)) C.ex C.by C.ow (C.tw.at (fx_m7 (List.mem_of_getElem? (i := 29) rfl)) rfl rfl) d_M_time_392 ?_
    refine lv_lmul C.ex C.by d_M_time_395 ?_
    refine lv_iload C.ex C.by d_M_time_396 (lv_at hv 4 rfl) ?_
    refine lv_i2l (v := ((x8).toInt64)) C.ex C.by d_M_time_398 rfl ?_
    refine lv_ladd C.ex C.by d_M_time_399 ?_
    refine lv_ldc2 (v := (60 : Int64)) C.ex C.by C.ow (C.tw.at (fx_m7 (List.mem_of_getElem? (i := 30) rfl)) rfl rfl) d_M_time_400 ?_
    refine lv_lmul C.ex C.by d_M_time_403 ?_
    refine lv_iload C.ex C.by d_M_time_404 (lv_at hv 5 rfl) ?_
    refine lv_i2l (v := ((x9).toInt64)) C.ex C.by d_M_time_406 rfl ?_
    refine lv_ladd C.ex C.by d_M_time_407 ?_
    refine lv_ldc2 (v := (60 : Int64)) C.ex C.by C.ow (C.tw.at (fx_m7 (List.mem_of_getElem? (i := 30) rfl)) rfl rfl) d_M_time_408 ?_
    refine lv_lmul C.ex C.by d_M_time_411 ?_
    refine lv_iload C.ex C.by d_M_time_412 (lv_at hv 6 rfl) ?_
    refine lv_i2l (v := ((x10).toInt64)) C.ex C.by d_M_time_414 rfl ?_
    refine lv_ladd C.ex C.by d_M_time_415 ?_
    exact fx_lret C F d_M_time_416 (Or.inl ⟨_, rfl, hw⟩)
  · replace hw := hw.2 hc
    refine lv_lload C.ex C.by d_M_time_366 (lv_at hv 7 rfl) ?_
    refine lv_iload C.ex C.by d_M_time_368 (lv_at hv 2 rfl) ?_
    refine lv_iload C.ex C.by d_M_time_370 (lv_at hv 8 rfl) ?_
    refine fx_callI C F (c_M_daysOf hl hw) hm_M_daysOf hi_M_daysOf hv.1 (by decide) (Nat.le_of_ble_eq_true rfl) (iv_M_daysOf C F lm_M_170 d_M_time_372) (fx_out0 _) fx_eno (fun v1 h2 H locs cells slots hw hx1 F => ?_)
    replace hw := hw hx1
    refine lv_i2l (v := ((v1).toInt64)) C.ex C.by d_M_time_375 rfl ?_
    refine lv_ladd C.ex C.by d_M_time_376 ?_
    let u1 : Int64 := (w11 + ((v1).toInt64))
    replace hw := hw u1 rfl
    refine lv_lstore (lv' := [(11, .long u1), (0, .ref r0), (3, .int x3), (4, .int x4), (6, .int x6), (8, .int x8), (9, .int x9), (10, .int x10), (13, .int x13)]) C.ex C.by d_M_time_377 hv (by decide) rfl (fun ls hv => ?_)
    let v2 : Int32 := (x13 + (1 : Int32))
    replace hw := hw v2 rfl
    refine lv_iinc (v := v2) (k := 8) (lv' := [(13, .int v2), (11, .long u1), (0, .ref r0), (3, .int x3), (4, .int x4), (6, .int x6), (8, .int x8), (9, .int x9), (10, .int x10)]) C.ex C.by d_M_time_379 hv rfl (congrArg (fun z => x13 + z) (by decide)) (by decide) rfl (fun ls hv => ?_)
    refine lv_goto C.ex C.by d_M_time_382 rfl ?_
    exact hX359 _ hw _ _ _ _ _ (lv_sub hv [2, 3, 4, 5, 6, 7, 8, 1, 0] rfl) F
theorem b_M_time_340 {p : Program} {l : Launch} {e : Env} {R : Room} {s : State} {m : MethodId} {args : Array Value} {below : List Frame} {meth : Method} {c : Code} {D : DD} {h0 : AH} {Q : Int64 → AH → Prop} (C : fx_CX D y_M_time prog_15_method_26_code 14 2 32 (Option.some FieldType.long) [] h0 p R s m meth c) (hl : l.flags = flags0) (r0 : Nat) (x3 : Int32) (x4 : Int32) (x6 : Int32) (x7 : Int32) (x8 : Int32) (x9 : Int32) (x10 : Int32) (sr0 : Nat) (sx1 : Int32) (h : AH) (hw : m_M_time_340 Q r0 x3 x4 x6 x7 x8 x9 x10 sr0 sx1 h) : ∀ (ls : Array Slot) (H : Heap) (locs : List Loc) (cells slots : Nat), lv_has ls 14 [(0, .ref r0), (3, .int x3), (4, .int x4), (6, .int x6), (7, .int x7), (8, .int x8), (9, .int x9), (10, .int x10)] → fx_F D h0 h H locs cells slots → W p l e R s m args below meth c H locs cells slots (fx_Z D below s h0 (fx_oL Q fx_no)) (F0 m 340 ls [.int sx1, .ref sr0]) := by
  unfold m_M_time_340 at hw
  intro ls H locs cells slots hv F
  obtain ⟨hk1, hw⟩ := hw
  refine fx_callV C F (c_M_need hl hw) hm_M_need hi_M_need hv.1 (by decide) (Nat.le_of_ble_eq_true rfl) (iv_M_need C F lm_M_143 hk1 d_M_time_340) (fx_out0 _) fx_eno (fun h1 H locs cells slots hw hx1 F => ?_)
  replace hw := hw hx1
  have hk1 := (hx1).k hk1
  refine lv_iload C.ex C.by d_M_time_343 (lv_at hv 2 rfl) ?_
  refine fx_callL C F (c_M_daysBefore hl hw) hm_M_daysBefore hi_M_daysBefore hv.1 (by decide) (Nat.le_of_ble_eq_true rfl) (iv_M_daysBefore C F lm_M_173 d_M_time_345) (fx_out0 _) fx_eno (fun u1 h2 H locs cells slots hw hx2 F => ?_)
  replace hw := hw hx2
  have hk1 := (hx2).k hk1
  refine lv_iload C.ex C.by d_M_time_348 (lv_at hv 4 rfl) ?_
  refine lv_i2l (v := ((x7).toInt64)) C.ex C.by d_M_time_350 rfl ?_
  refine lv_ladd C.ex C.by d_M_time_351 ?_
  refine lv_lconst (v := (1 : Int64)) C.ex C.by d_M_time_352 (by decide) ?_
  refine lv_lsub C.ex C.by d_M_time_353 ?_
  let u2 : Int64 := ((u1 + ((x7).toInt64)) - (1 : Int64))
  replace hw := hw u2 rfl
  refine lv_lstore (lv' := [(11, .long u2), (0, .ref r0), (3, .int x3), (4, .int x4), (6, .int x6), (7, .int x7), (8, .int x8), (9, .int x9), (10, .int x10)]) C.ex C.by d_M_time_354 hv (by decide) rfl (fun ls hv => ?_)
  refine lv_iconst (v := (1 : Int32)) C.ex C.by d_M_time_356 (by decide) ?_
  refine lv_istore (lv' := [(13, .int (1 : Int32)), (11, .long u2), (0, .ref r0), (3, .int x3), (4, .int x4), (6, .int x6), (7, .int x7), (8, .int x8), (9, .int x9), (10, .int x10)]) C.ex C.by d_M_time_357 hv (by decide) rfl (fun ls hv => ?_)
  exact b_M_time_359 C hl _ _ _ _ _ _ _ _ _ _ hw _ _ _ _ _ (lv_sub hv [2, 3, 4, 5, 7, 8, 9, 1, 0] rfl) F
theorem b_M_time_339 {p : Program} {l : Launch} {e : Env} {R : Room} {s : State} {m : MethodId} {args : Array Value} {below : List Frame} {meth : Method} {c : Code} {D : DD} {h0 : AH} {Q : Int64 → AH → Prop} (C : fx_CX D y_M_time prog_15_method_26_code 14 2 32 (Option.some FieldType.long) [] h0 p R s m meth c) (hl : l.flags = flags0) (r0 : Nat) (x3 : Int32) (x4 : Int32) (x6 : Int32) (x7 : Int32) (x8 : Int32) (x9 : Int32) (x10 : Int32) (sr0 : Nat) (h : AH) (hw : m_M_time_339 Q r0 x3 x4 x6 x7 x8 x9 x10 sr0 h) : ∀ (ls : Array Slot) (H : Heap) (locs : List Loc) (cells slots : Nat), lv_has ls 14 [(0, .ref r0), (3, .int x3), (4, .int x4), (6, .int x6), (7, .int x7), (8, .int x8), (9, .int x9), (10, .int x10)] → fx_F D h0 h H locs cells slots → W p l e R s m args below meth c H locs cells slots (fx_Z D below s h0 (fx_oL Q fx_no)) (F0 m 339 ls [.ref sr0]) := by
  unfold m_M_time_339 at hw
  intro ls H locs cells slots hv F
  refine lv_iconst (v := (0 : Int32)) C.ex C.by d_M_time_339 (by decide) ?_
  exact b_M_time_340 C hl _ _ _ _ _ _ _ _ _ _ _ hw _ _ _ _ _ hv F
theorem b_M_time_304 {p : Program} {l : Launch} {e : Env} {R : Room} {s : State} {m : MethodId} {args : Array Value} {below : List Frame} {meth : Method} {c : Code} {D : DD} {h0 : AH} {Q : Int64 → AH → Prop} (C : fx_CX D y_M_time prog_15_method_26_code 14 2 32 (Option.some FieldType.long) [] h0 p R s m meth c) (hl : l.flags = flags0) (r0 : Nat) (x3 : Int32) (x4 : Int32) (x6 : Int32) (x7 : Int32) (x8 : Int32) (x9 : Int32) (x10 : Int32) (sr0 : Nat) (sx1 : Int32) (h : AH) (hw : m_M_time_304 Q r0 x3 x4 x6 x7 x8 x9 x10 sr0 sx1 h) : ∀ (ls : Array Slot) (H : Heap) (locs : List Loc) (cells slots : Nat), lv_has ls 14 [(0, .ref r0), (3, .int x3), (4, .int x4), (6, .int x6), (7, .int x7), (8, .int x8), (9, .int x9), (10, .int x10)] → fx_F D h0 h H locs cells slots → W p l e R s m args below meth c H locs cells slots (fx_Z D below s h0 (fx_oL Q fx_no)) (F0 m 304 ls [.int sx1, .ref sr0]) := by
  unfold m_M_time_304 at hw
  intro ls H locs cells slots hv F
  obtain ⟨hk1, hw⟩ := hw
  refine fx_callV C F (c_M_need hl hw) hm_M_need hi_M_need hv.1 (by decide) (Nat.le_of_ble_eq_true rfl) (iv_M_need C F lm_M_143 hk1 d_M_time_304) (fx_out0 _) fx_eno (fun h1 H locs cells slots hw hx1 F => ?_)
  replace hw := hw hx1
  have hk1 := (hx1).k hk1
  refine lv_aload_n C.ex C.by d_M_time_307 rfl (lv_at hv 0 rfl) ?_
  obtain ⟨hk2, hw⟩ := hw
  refine fx_getI C F lf_M_124 hk2 rfl d_M_time_308 ?_
  refine lv_if_eq C.ex C.by d_M_time_311 rfl (fun hc => ?_) (fun hc => ?_)
  · replace hw := hw.1 hc
    refine lv_aload_n C.ex C.by d_M_time_316 rfl (lv_at hv 0 rfl) ?_
    refine lv_iload C.ex C.by d_M_time_317 (lv_at hv 4 rfl) ?_
    refine lv_iconst (v := (1 : Int32)) C.ex C.by d_M_time_319 (by decide) ?_
    refine lv_icmp_lt C.ex C.by d_M_time_320 rfl (fun hc => ?_) (fun hc => ?_)
    · replace hw := hw.1 hc
      exact b_M_time_339 C hl _ _ _ _ _ _ _ _ _ _ hw _ _ _ _ _ hv F
    · replace hw := hw.2 hc
      refine lv_iload C.ex C.by d_M_time_323 (lv_at hv 4 rfl) ?_
      refine lv_iload C.ex C.by d_M_time_325 (lv_at hv 2 rfl) ?_
      refine lv_iload C.ex C.by d_M_time_327 (lv_at hv 3 rfl) ?_
      refine fx_callI C F (c_M_daysOf hl hw) hm_M_daysOf hi_M_daysOf hv.1 (by decide) (Nat.le_of_ble_eq_true rfl) (iv_M_daysOf C F lm_M_170 d_M_time_329) (fx_out0 _) fx_eno (fun v1 h2 H locs cells slots hw hx2 F => ?_)
      replace hw := hw hx2
      have hk2 := (hx2).k hk2
      have hk1 := (hx2).k hk1
      refine lv_icmp_gt C.ex C.by d_M_time_332 rfl (fun hc => ?_) (fun hc => ?_)
      · replace hw := hw.1 hc
        exact b_M_time_339 C hl _ _ _ _ _ _ _ _ _ _ hw _ _ _ _ _ hv F
      · replace hw := hw.2 hc
        refine lv_iconst (v := (1 : Int32)) C.ex C.by d_M_time_335 (by decide) ?_
        refine lv_goto C.ex C.by d_M_time_336 rfl ?_
        exact b_M_time_340 C hl _ _ _ _ _ _ _ _ _ _ _ hw _ _ _ _ _ hv F
  · replace hw := hw.2 hc
    refine lv_lconst (v := (0 : Int64)) C.ex C.by d_M_time_314 (by decide) ?_
    exact fx_lret C F d_M_time_315 (Or.inl ⟨_, rfl, hw⟩)
theorem b_M_time_303 {p : Program} {l : Launch} {e : Env} {R : Room} {s : State} {m : MethodId} {args : Array Value} {below : List Frame} {meth : Method} {c : Code} {D : DD} {h0 : AH} {Q : Int64 → AH → Prop} (C : fx_CX D y_M_time prog_15_method_26_code 14 2 32 (Option.some FieldType.long) [] h0 p R s m meth c) (hl : l.flags = flags0) (r0 : Nat) (x3 : Int32) (x4 : Int32) (x6 : Int32) (x7 : Int32) (x8 : Int32) (x9 : Int32) (x10 : Int32) (sr0 : Nat) (h : AH) (hw : m_M_time_303 Q r0 x3 x4 x6 x7 x8 x9 x10 sr0 h) : ∀ (ls : Array Slot) (H : Heap) (locs : List Loc) (cells slots : Nat), lv_has ls 14 [(0, .ref r0), (3, .int x3), (4, .int x4), (6, .int x6), (7, .int x7), (8, .int x8), (9, .int x9), (10, .int x10)] → fx_F D h0 h H locs cells slots → W p l e R s m args below meth c H locs cells slots (fx_Z D below s h0 (fx_oL Q fx_no)) (F0 m 303 ls [.ref sr0]) := by
  unfold m_M_time_303 at hw
  intro ls H locs cells slots hv F
  refine lv_iconst (v := (0 : Int32)) C.ex C.by d_M_time_303 (by decide) ?_
  exact b_M_time_304 C hl _ _ _ _ _ _ _ _ _ _ _ hw _ _ _ _ _ hv F
theorem b_M_time_261 {p : Program} {l : Launch} {e : Env} {R : Room} {s : State} {m : MethodId} {args : Array Value} {below : List Frame} {meth : Method} {c : Code} {D : DD} {h0 : AH} {Q : Int64 → AH → Prop} (C : fx_CX D y_M_time prog_15_method_26_code 14 2 32 (Option.some FieldType.long) [] h0 p R s m meth c) (hl : l.flags = flags0) (r0 : Nat) (x3 : Int32) (x4 : Int32) (x6 : Int32) (x7 : Int32) (x8 : Int32) (x9 : Int32) (x10 : Int32) (sr0 : Nat) (sx1 : Int32) (h : AH) (hw : m_M_time_261 Q r0 x3 x4 x6 x7 x8 x9 x10 sr0 sx1 h) : ∀ (ls : Array Slot) (H : Heap) (locs : List Loc) (cells slots : Nat), lv_has ls 14 [(0, .ref r0), (3, .int x3), (4, .int x4), (6, .int x6), (7, .int x7), (8, .int x8), (9, .int x9), (10, .int x10)] → fx_F D h0 h H locs cells slots → W p l e R s m args below meth c H locs cells slots (fx_Z D below s h0 (fx_oL Q fx_no)) (F0 m 261 ls [.int sx1, .ref sr0]) := by
  unfold m_M_time_261 at hw
  intro ls H locs cells slots hv F
  obtain ⟨hk1, hw⟩ := hw
  refine fx_callV C F (c_M_need hl hw) hm_M_need hi_M_need hv.1 (by decide) (Nat.le_of_ble_eq_true rfl) (iv_M_need C F lm_M_143 hk1 d_M_time_261) (fx_out0 _) fx_eno (fun h1 H locs cells slots hw hx1 F => ?_)
  replace hw := hw hx1
  have hk1 := (hx1).k hk1
  refine lv_aload_n C.ex C.by d_M_time_264 rfl (lv_at hv 0 rfl) ?_
  refine lv_iload C.ex C.by d_M_time_265 (lv_at hv 3 rfl) ?_
  refine lv_iconst (v := (1 : Int32)) C.ex C.by d_M_time_267 (by decide) ?_
  refine lv_icmp_lt C.ex C.by d_M_time_268 rfl (fun hc => ?_) (fun hc => ?_)
  · replace hw := hw.1 hc
    exact b_M_time_303 C hl _ _ _ _ _ _ _ _ _ _ hw _ _ _ _ _ hv F
  · replace hw := hw.2 hc
    refine lv_iload C.ex C.by d_M_time_271 (lv_at hv 3 rfl) ?_
    refine lv_bipush (v := (12 : Int32)) C.ex C.by d_M_time_273 (by decide) ?_
    refine lv_icmp_gt C.ex C.by d_M_time_275 rfl (fun hc => ?_) (fun hc => ?_)
    · replace hw := hw.1 hc
      exact b_M_time_303 C hl _ _ _ _ _ _ _ _ _ _ hw _ _ _ _ _ hv F
    · replace hw := hw.2 hc
      refine lv_iload C.ex C.by d_M_time_278 (lv_at hv 5 rfl) ?_
      refine lv_bipush (v := (24 : Int32)) C.ex C.by d_M_time_280 (by decide) ?_
      refine lv_icmp_ge C.ex C.by d_M_time_282 rfl (fun hc => ?_) (fun hc => ?_)
      · replace hw := hw.1 hc
        exact b_M_time_303 C hl _ _ _ _ _ _ _ _ _ _ hw _ _ _ _ _ hv F
      · replace hw := hw.2 hc
        refine lv_iload C.ex C.by d_M_time_285 (lv_at hv 6 rfl) ?_
        refine lv_bipush (v := (60 : Int32)) C.ex C.by d_M_time_287 (by decide) ?_
        refine lv_icmp_ge C.ex C.by d_M_time_289 rfl (fun hc => ?_) (fun hc => ?_)
        · replace hw := hw.1 hc
          exact b_M_time_303 C hl _ _ _ _ _ _ _ _ _ _ hw _ _ _ _ _ hv F
        · replace hw := hw.2 hc
          refine lv_iload C.ex C.by d_M_time_292 (lv_at hv 7 rfl) ?_
          refine lv_bipush (v := (60 : Int32)) C.ex C.by d_M_time_294 (by decide) ?_
          refine lv_icmp_ge C.ex C.by d_M_time_296 rfl (fun hc => ?_) (fun hc => ?_)
          · replace hw := hw.1 hc
            exact b_M_time_303 C hl _ _ _ _ _ _ _ _ _ _ hw _ _ _ _ _ hv F
          · replace hw := hw.2 hc
            refine lv_iconst (v := (1 : Int32)) C.ex C.by d_M_time_299 (by decide) ?_
            refine lv_goto C.ex C.by d_M_time_300 rfl ?_
            exact b_M_time_304 C hl _ _ _ _ _ _ _ _ _ _ _ hw _ _ _ _ _ hv F
theorem b_M_time_256 {p : Program} {l : Launch} {e : Env} {R : Room} {s : State} {m : MethodId} {args : Array Value} {below : List Frame} {meth : Method} {c : Code} {D : DD} {h0 : AH} {Q : Int64 → AH → Prop} (C : fx_CX D y_M_time prog_15_method_26_code 14 2 32 (Option.some FieldType.long) [] h0 p R s m meth c) (hl : l.flags = flags0) (r0 : Nat) (x3 : Int32) (x4 : Int32) (x6 : Int32) (x7 : Int32) (x8 : Int32) (x9 : Int32) (x10 : Int32) (sr0 : Nat) (h : AH) (hw : m_M_time_256 Q r0 x3 x4 x6 x7 x8 x9 x10 sr0 h) : ∀ (ls : Array Slot) (H : Heap) (locs : List Loc) (cells slots : Nat), lv_has ls 14 [(0, .ref r0), (3, .int x3), (4, .int x4), (6, .int x6), (7, .int x7), (8, .int x8), (9, .int x9), (10, .int x10)] → fx_F D h0 h H locs cells slots → W p l e R s m args below meth c H locs cells slots (fx_Z D below s h0 (fx_oL Q fx_no)) (F0 m 256 ls [.ref sr0]) := by
  unfold m_M_time_256 at hw
  intro ls H locs cells slots hv F
  refine lv_iconst (v := (1 : Int32)) C.ex C.by d_M_time_256 (by decide) ?_
  refine lv_goto C.ex C.by d_M_time_257 rfl ?_
  exact b_M_time_261 C hl _ _ _ _ _ _ _ _ _ _ _ hw _ _ _ _ _ hv F
theorem b_M_time_191 {p : Program} {l : Launch} {e : Env} {R : Room} {s : State} {m : MethodId} {args : Array Value} {below : List Frame} {meth : Method} {c : Code} {D : DD} {h0 : AH} {Q : Int64 → AH → Prop} (C : fx_CX D y_M_time prog_15_method_26_code 14 2 32 (Option.some FieldType.long) [] h0 p R s m meth c) (hl : l.flags = flags0) (r0 : Nat) (x2 : Int32) (x3 : Int32) (x4 : Int32) (sx0 : Int32) (h : AH) (hw : m_M_time_191 Q r0 x2 x3 x4 sx0 h) : ∀ (ls : Array Slot) (H : Heap) (locs : List Loc) (cells slots : Nat), lv_has ls 14 [(0, .ref r0), (2, .int x2), (3, .int x3), (4, .int x4)] → fx_F D h0 h H locs cells slots → W p l e R s m args below meth c H locs cells slots (fx_Z D below s h0 (fx_oL Q fx_no)) (F0 m 191 ls [.int sx0]) := by
  unfold m_M_time_191 at hw
  intro ls H locs cells slots hv F
  refine lv_istore (lv' := [(5, .int sx0), (0, .ref r0), (2, .int x2), (3, .int x3), (4, .int x4)]) C.ex C.by d_M_time_191 hv (by decide) rfl (fun ls hv => ?_)
  refine lv_aload_n C.ex C.by d_M_time_193 rfl (lv_at hv 1 rfl) ?_
  refine lv_iload C.ex C.by d_M_time_194 (lv_at hv 0 rfl) ?_
  obtain ⟨hk1, hw⟩ := hw
  refine fx_callI C F (c_M_two hl hw) hm_M_two hi_M_two hv.1 (by decide) (Nat.le_of_ble_eq_true rfl) (iv_M_two C F lm_M_167 hk1 d_M_time_196) (fx_out0 _) fx_eno (fun v1 h1 H locs cells slots hw hx1 F => ?_)
  replace hw := hw hx1
  have hk1 := (hx1).k hk1
  refine lv_istore (lv' := [(6, .int v1), (5, .int sx0), (0, .ref r0), (2, .int x2), (3, .int x3), (4, .int x4)]) C.ex C.by d_M_time_199 hv (by decide) rfl (fun ls hv => ?_)
  refine lv_aload_n C.ex C.by d_M_time_201 rfl (lv_at hv 2 rfl) ?_
  refine lv_iload C.ex C.by d_M_time_202 (lv_at hv 1 rfl) ?_
  refine lv_iconst (v := (2 : Int32)) C.ex C.by d_M_time_204 (by decide) ?_
  refine lv_iadd C.ex C.by d_M_time_205 ?_
  refine fx_callI C F (c_M_two hl hw) hm_M_two hi_M_two hv.1 (by decide) (Nat.le_of_ble_eq_true rfl) (iv_M_two C F lm_M_167 hk1 d_M_time_206) (fx_out0 _) fx_eno (fun v2 h2 H locs cells slots hw hx2 F => ?_)
  replace hw := hw hx2
  have hk1 := (hx2).k hk1
  refine lv_istore (lv' := [(7, .int v2), (6, .int v1), (5, .int sx0), (0, .ref r0), (2, .int x2), (3, .int x3), (4, .int x4)]) C.ex C.by d_M_time_209 hv (by decide) rfl (fun ls hv => ?_)
  refine lv_aload_n C.ex C.by d_M_time_211 rfl (lv_at hv 3 rfl) ?_
  refine lv_iload C.ex C.by d_M_time_212 (lv_at hv 2 rfl) ?_
  refine lv_iconst (v := (4 : Int32)) C.ex C.by d_M_time_214 (by decide) ?_
  refine lv_iadd C.ex C.by d_M_time_215 ?_
  refine fx_callI C F (c_M_two hl hw) hm_M_two hi_M_two hv.1 (by decide) (Nat.le_of_ble_eq_true rfl) (iv_M_two C F lm_M_167 hk1 d_M_time_216) (fx_out0 _) fx_eno (fun v3 h3 H locs cells slots hw hx3 F => ?_)
  replace hw := hw hx3
  have hk1 := (hx3).k hk1
  refine lv_istore (lv' := [(8, .int v3), (7, .int v2), (6, .int v1), (5, .int sx0), (0, .ref r0), (2, .int x2), (3, .int x3), (4, .int x4)]) C.ex C.by d_M_time_219 hv (by decide) rfl (fun ls hv => ?_)
  refine lv_aload_n C.ex C.by d_M_time_221 rfl (lv_at hv 4 rfl) ?_
  refine lv_iload C.ex C.by d_M_time_222 (lv_at hv 3 rfl) ?_
  refine lv_bipush (v := (6 : Int32)) C.ex C.by d_M_time_224 (by decide) ?_
  refine lv_iadd C.ex C.by d_M_time_226 ?_
  refine fx_callI C F (c_M_two hl hw) hm_M_two hi_M_two hv.1 (by decide) (Nat.le_of_ble_eq_true rfl) (iv_M_two C F lm_M_167 hk1 d_M_time_227) (fx_out0 _) fx_eno (fun v4 h4 H locs cells slots hw hx4 F => ?_)
  replace hw := hw hx4
  have hk1 := (hx4).k hk1
  refine lv_istore (lv' := [(9, .int v4), (8, .int v3), (7, .int v2), (6, .int v1), (5, .int sx0), (0, .ref r0), (2, .int x2), (3, .int x3), (4, .int x4)]) C.ex C.by d_M_time_230 hv (by decide) rfl (fun ls hv => ?_)
  refine lv_aload_n C.ex C.by d_M_time_232 rfl (lv_at hv 5 rfl) ?_
  refine lv_iload C.ex C.by d_M_time_233 (lv_at hv 4 rfl) ?_
  refine lv_bipush (v := (8 : Int32)) C.ex C.by d_M_time_235 (by decide) ?_
  refine lv_iadd C.ex C.by d_M_time_237 ?_
  refine fx_callI C F (c_M_two hl hw) hm_M_two hi_M_two hv.1 (by decide) (Nat.le_of_ble_eq_true rfl) (iv_M_two C F lm_M_167 hk1 d_M_time_238) (fx_out0 _) fx_eno (fun v5 h5 H locs cells slots hw hx5 F => ?_)
  replace hw := hw hx5
  have hk1 := (hx5).k hk1
  refine lv_istore (lv' := [(10, .int v5), (9, .int v4), (8, .int v3), (7, .int v2), (6, .int v1), (5, .int sx0), (0, .ref r0), (2, .int x2), (3, .int x3), (4, .int x4)]) C.ex C.by d_M_time_241 hv (by decide) rfl (fun ls hv => ?_)
  refine lv_aload_n C.ex C.by d_M_time_243 rfl (lv_at hv 6 rfl) ?_
  refine lv_iload_n C.ex C.by d_M_time_244 rfl (lv_at hv 7 rfl) ?_
  refine lv_if_eq C.ex C.by d_M_time_245 rfl (fun hc => ?_) (fun hc => ?_)
  · replace hw := hw.1 hc
    exact b_M_time_256 C hl _ _ _ _ _ _ _ _ _ _ hw _ _ _ _ _ (lv_sub hv [6, 8, 9, 4, 3, 2, 1, 0] rfl) F
  · replace hw := hw.2 hc
    refine lv_iload C.ex C.by d_M_time_248 (lv_at hv 9 rfl) ?_
    refine lv_sipush (v := (2050 : Int32)) C.ex C.by d_M_time_250 (by decide) ?_
    refine lv_icmp_lt C.ex C.by d_M_time_253 rfl (fun hc => ?_) (fun hc => ?_)
    · replace hw := hw.1 hc
      refine lv_iconst (v := (0 : Int32)) C.ex C.by d_M_time_260 (by decide) ?_
      exact b_M_time_261 C hl _ _ _ _ _ _ _ _ _ _ _ hw _ _ _ _ _ (lv_sub hv [6, 8, 9, 4, 3, 2, 1, 0] rfl) F
    · replace hw := hw.2 hc
      exact b_M_time_256 C hl _ _ _ _ _ _ _ _ _ _ hw _ _ _ _ _ (lv_sub hv [6, 8, 9, 4, 3, 2, 1, 0] rfl) F
theorem b_M_time_172 {p : Program} {l : Launch} {e : Env} {R : Room} {s : State} {m : MethodId} {args : Array Value} {below : List Frame} {meth : Method} {c : Code} {D : DD} {h0 : AH} {Q : Int64 → AH → Prop} (C : fx_CX D y_M_time prog_15_method_26_code 14 2 32 (Option.some FieldType.long) [] h0 p R s m meth c) (hl : l.flags = flags0) (r0 : Nat) (x2 : Int32) (x3 : Int32) (x4 : Int32) (h : AH) (hw : m_M_time_172 Q r0 x2 x3 x4 h) : ∀ (ls : Array Slot) (H : Heap) (locs : List Loc) (cells slots : Nat), lv_has ls 14 [(0, .ref r0), (2, .int x2), (3, .int x3), (4, .int x4)] → fx_F D h0 h H locs cells slots → W p l e R s m args below meth c H locs cells slots (fx_Z D below s h0 (fx_oL Q fx_no)) (F0 m 172 ls []) := by
  unfold m_M_time_172 at hw
  intro ls H locs cells slots hv F
  refine lv_iload_n C.ex C.by d_M_time_172 rfl (lv_at hv 1 rfl) ?_
  refine lv_if_eq C.ex C.by d_M_time_173 rfl (fun hc => ?_) (fun hc => ?_)
  · replace hw := hw.1 hc
    refine lv_aload_n C.ex C.by d_M_time_185 rfl (lv_at hv 0 rfl) ?_
    obtain ⟨hk1, hw⟩ := hw
    refine fx_getI C F lf_M_128 hk1 rfl d_M_time_186 ?_
    refine lv_iconst (v := (2 : Int32)) C.ex C.by d_M_time_189 (by decide) ?_
    refine lv_iadd C.ex C.by d_M_time_190 ?_
    exact b_M_time_191 C hl _ _ _ _ _ _ hw _ _ _ _ _ hv F
  · replace hw := hw.2 hc
    refine lv_aload_n C.ex C.by d_M_time_176 rfl (lv_at hv 0 rfl) ?_
    obtain ⟨hk2, hw⟩ := hw
    refine fx_getI C F lf_M_128 hk2 rfl d_M_time_177 ?_
    refine lv_iconst (v := (4 : Int32)) C.ex C.by d_M_time_180 (by decide) ?_
    refine lv_iadd C.ex C.by d_M_time_181 ?_
    refine lv_goto C.ex C.by d_M_time_182 rfl ?_
    exact b_M_time_191 C hl _ _ _ _ _ _ hw _ _ _ _ _ hv F
theorem b_M_time_169 {p : Program} {l : Launch} {e : Env} {R : Room} {s : State} {m : MethodId} {args : Array Value} {below : List Frame} {meth : Method} {c : Code} {D : DD} {h0 : AH} {Q : Int64 → AH → Prop} (C : fx_CX D y_M_time prog_15_method_26_code 14 2 32 (Option.some FieldType.long) [] h0 p R s m meth c) (hl : l.flags = flags0) (r0 : Nat) (x2 : Int32) (x3 : Int32) (sx0 : Int32) (sx1 : Int32) (h : AH) (hw : m_M_time_169 Q r0 x2 x3 sx0 sx1 h) : ∀ (ls : Array Slot) (H : Heap) (locs : List Loc) (cells slots : Nat), lv_has ls 14 [(0, .ref r0), (2, .int x2), (3, .int x3)] → fx_F D h0 h H locs cells slots → W p l e R s m args below meth c H locs cells slots (fx_Z D below s h0 (fx_oL Q fx_no)) (F0 m 169 ls [.int sx1, .int sx0]) := by
  unfold m_M_time_169 at hw
  intro ls H locs cells slots hv F
  refine lv_iadd C.ex C.by d_M_time_169 ?_
  let v1 : Int32 := (sx0 + sx1)
  replace hw := hw v1 rfl
  refine lv_istore (lv' := [(4, .int v1), (0, .ref r0), (2, .int x2), (3, .int x3)]) C.ex C.by d_M_time_170 hv (by decide) rfl (fun ls hv => ?_)
  exact b_M_time_172 C hl _ _ _ _ _ hw _ _ _ _ _ (lv_sub hv [1, 2, 3, 0] rfl) F
theorem b_M_time_145 {p : Program} {l : Launch} {e : Env} {R : Room} {s : State} {m : MethodId} {args : Array Value} {below : List Frame} {meth : Method} {c : Code} {D : DD} {h0 : AH} {Q : Int64 → AH → Prop} (C : fx_CX D y_M_time prog_15_method_26_code 14 2 32 (Option.some FieldType.long) [] h0 p R s m meth c) (hl : l.flags = flags0) (r0 : Nat) (x2 : Int32) (x3 : Int32) (sx0 : Int32) (h : AH) (hw : m_M_time_145 Q r0 x2 x3 sx0 h) : ∀ (ls : Array Slot) (H : Heap) (locs : List Loc) (cells slots : Nat), lv_has ls 14 [(0, .ref r0), (2, .int x2), (3, .int x3)] → fx_F D h0 h H locs cells slots → W p l e R s m args below meth c H locs cells slots (fx_Z D below s h0 (fx_oL Q fx_no)) (F0 m 145 ls [.int sx0]) := by
  unfold m_M_time_145 at hw
  intro ls H locs cells slots hv F
  refine lv_istore (lv' := [(4, .int sx0), (0, .ref r0), (2, .int x2), (3, .int x3)]) C.ex C.by d_M_time_145 hv (by decide) rfl (fun ls hv => ?_)
  refine lv_iload_n C.ex C.by d_M_time_147 rfl (lv_at hv 2 rfl) ?_
  refine lv_if_ne C.ex C.by d_M_time_148 rfl (fun hc => ?_) (fun hc => ?_)
  · replace hw := hw.1 hc
    exact b_M_time_172 C hl _ _ _ _ _ hw _ _ _ _ _ (lv_sub hv [1, 2, 3, 0] rfl) F
  · replace hw := hw.2 hc
    refine lv_iload C.ex C.by d_M_time_151 (lv_at hv 0 rfl) ?_
    refine lv_iload C.ex C.by d_M_time_153 (lv_at hv 0 rfl) ?_
    refine lv_bipush (v := (50 : Int32)) C.ex C.by d_M_time_155 (by decide) ?_
    refine lv_icmp_ge C.ex C.by d_M_time_157 rfl (fun hc => ?_) (fun hc => ?_)
    · replace hw := hw.1 hc
      refine lv_sipush (v := (1900 : Int32)) C.ex C.by d_M_time_166 (by decide) ?_
      exact b_M_time_169 C hl _ _ _ _ _ _ hw _ _ _ _ _ (lv_sub hv [1, 2, 3] rfl) F
    · replace hw := hw.2 hc
      refine lv_sipush (v := (2000 : Int32)) C.ex C.by d_M_time_160 (by decide) ?_
      refine lv_goto C.ex C.by d_M_time_163 rfl ?_
      exact b_M_time_169 C hl _ _ _ _ _ _ hw _ _ _ _ _ (lv_sub hv [1, 2, 3] rfl) F
theorem b_M_time_99 {p : Program} {l : Launch} {e : Env} {R : Room} {s : State} {m : MethodId} {args : Array Value} {below : List Frame} {meth : Method} {c : Code} {D : DD} {h0 : AH} {Q : Int64 → AH → Prop} (C : fx_CX D y_M_time prog_15_method_26_code 14 2 32 (Option.some FieldType.long) [] h0 p R s m meth c) (hl : l.flags = flags0) (r0 : Nat) (x2 : Int32) (x3 : Int32) (h : AH) (hw : m_M_time_99 Q r0 x2 x3 h) : ∀ (ls : Array Slot) (H : Heap) (locs : List Loc) (cells slots : Nat), lv_has ls 14 [(0, .ref r0), (2, .int x2), (3, .int x3)] → fx_F D h0 h H locs cells slots → W p l e R s m args below meth c H locs cells slots (fx_Z D below s h0 (fx_oL Q fx_no)) (F0 m 99 ls []) := by
  unfold m_M_time_99 at hw
  intro ls H locs cells slots hv F
  refine lv_aload_n C.ex C.by d_M_time_99 rfl (lv_at hv 0 rfl) ?_
  obtain ⟨hk1, hw⟩ := hw
  refine fx_getI C F lf_M_124 hk1 rfl d_M_time_100 ?_
  refine lv_if_eq C.ex C.by d_M_time_103 rfl (fun hc => ?_) (fun hc => ?_)
  · replace hw := hw.1 hc
    refine lv_iload_n C.ex C.by d_M_time_108 rfl (lv_at hv 1 rfl) ?_
    refine lv_if_eq C.ex C.by d_M_time_109 rfl (fun hc => ?_) (fun hc => ?_)
    · replace hw := hw.1 hc
      refine lv_aload_n C.ex C.by d_M_time_137 rfl (lv_at hv 0 rfl) ?_
      refine lv_aload_n C.ex C.by d_M_time_138 rfl (lv_at hv 0 rfl) ?_
      refine fx_getI C F lf_M_128 hk1 rfl d_M_time_139 ?_
      refine fx_callI C F (c_M_two hl hw) hm_M_two hi_M_two hv.1 (by decide) (Nat.le_of_ble_eq_true rfl) (iv_M_two C F lm_M_167 hk1 d_M_time_142) (fx_out0 _) fx_eno (fun v1 h1 H locs cells slots hw hx1 F => ?_)
      replace hw := hw hx1
      have hk1 := (hx1).k hk1
      exact b_M_time_145 C hl _ _ _ _ _ hw _ _ _ _ _ hv F
    · replace hw := hw.2 hc
      refine lv_bipush (v := (100 : Int32)) C.ex C.by d_M_time_112 (by decide) ?_
      refine lv_aload_n C.ex C.by d_M_time_114 rfl (lv_at hv 0 rfl) ?_
      refine lv_aload_n C.ex C.by d_M_time_115 rfl (lv_at hv 0 rfl) ?_
      refine fx_getI C F lf_M_128 hk1 rfl d_M_time_116 ?_
      refine fx_callI C F (c_M_two hl hw) hm_M_two hi_M_two hv.1 (by decide) (Nat.le_of_ble_eq_true rfl) (iv_M_two C F lm_M_167 hk1 d_M_time_119) (fx_out0 _) fx_eno (fun v2 h2 H locs cells slots hw hx2 F => ?_)
      replace hw := hw hx2
      have hk1 := (hx2).k hk1
      refine lv_imul C.ex C.by d_M_time_122 ?_
      refine lv_aload_n C.ex C.by d_M_time_123 rfl (lv_at hv 0 rfl) ?_
      refine lv_aload_n C.ex C.by d_M_time_124 rfl (lv_at hv 0 rfl) ?_
      refine fx_getI C F lf_M_128 hk1 rfl d_M_time_125 ?_
      refine lv_iconst (v := (2 : Int32)) C.ex C.by d_M_time_128 (by decide) ?_
      refine lv_iadd C.ex C.by d_M_time_129 ?_
      refine fx_callI C F (c_M_two hl hw) hm_M_two hi_M_two hv.1 (by decide) (Nat.le_of_ble_eq_true rfl) (iv_M_two C F lm_M_167 hk1 d_M_time_130) (fx_out0 _) fx_eno (fun v3 h3 H locs cells slots hw hx3 F => ?_)
      replace hw := hw hx3
      have hk1 := (hx3).k hk1
      refine lv_iadd C.ex C.by d_M_time_133 ?_
      refine lv_goto C.ex C.by d_M_time_134 rfl ?_
      exact b_M_time_145 C hl _ _ _ _ _ hw _ _ _ _ _ hv F
  · replace hw := hw.2 hc
    refine lv_lconst (v := (0 : Int64)) C.ex C.by d_M_time_106 (by decide) ?_
    exact fx_lret C F d_M_time_107 (Or.inl ⟨_, rfl, hw⟩)
theorem b_M_time_96 {p : Program} {l : Launch} {e : Env} {R : Room} {s : State} {m : MethodId} {args : Array Value} {below : List Frame} {meth : Method} {c : Code} {D : DD} {h0 : AH} {Q : Int64 → AH → Prop} (C : fx_CX D y_M_time prog_15_method_26_code 14 2 32 (Option.some FieldType.long) [] h0 p R s m meth c) (hl : l.flags = flags0) (r0 : Nat) (x2 : Int32) (x3 : Int32) (sr0 : Nat) (sx1 : Int32) (h : AH) (hw : m_M_time_96 Q r0 x2 x3 sr0 sx1 h) : ∀ (ls : Array Slot) (H : Heap) (locs : List Loc) (cells slots : Nat), lv_has ls 14 [(0, .ref r0), (2, .int x2), (3, .int x3)] → fx_F D h0 h H locs cells slots → W p l e R s m args below meth c H locs cells slots (fx_Z D below s h0 (fx_oL Q fx_no)) (F0 m 96 ls [.int sx1, .ref sr0]) := by
  unfold m_M_time_96 at hw
  intro ls H locs cells slots hv F
  obtain ⟨hk1, hw⟩ := hw
  refine fx_callV C F (c_M_need hl hw) hm_M_need hi_M_need hv.1 (by decide) (Nat.le_of_ble_eq_true rfl) (iv_M_need C F lm_M_143 hk1 d_M_time_96) (fx_out0 _) fx_eno (fun h1 H locs cells slots hw hx1 F => ?_)
  replace hw := hw hx1
  have hk1 := (hx1).k hk1
  exact b_M_time_99 C hl _ _ _ _ hw _ _ _ _ _ hv F
theorem b_M_time_95 {p : Program} {l : Launch} {e : Env} {R : Room} {s : State} {m : MethodId} {args : Array Value} {below : List Frame} {meth : Method} {c : Code} {D : DD} {h0 : AH} {Q : Int64 → AH → Prop} (C : fx_CX D y_M_time prog_15_method_26_code 14 2 32 (Option.some FieldType.long) [] h0 p R s m meth c) (hl : l.flags = flags0) (r0 : Nat) (x2 : Int32) (x3 : Int32) (sr0 : Nat) (h : AH) (hw : m_M_time_95 Q r0 x2 x3 sr0 h) : ∀ (ls : Array Slot) (H : Heap) (locs : List Loc) (cells slots : Nat), lv_has ls 14 [(0, .ref r0), (2, .int x2), (3, .int x3)] → fx_F D h0 h H locs cells slots → W p l e R s m args below meth c H locs cells slots (fx_Z D below s h0 (fx_oL Q fx_no)) (F0 m 95 ls [.ref sr0]) := by
  unfold m_M_time_95 at hw
  intro ls H locs cells slots hv F
  refine lv_iconst (v := (0 : Int32)) C.ex C.by d_M_time_95 (by decide) ?_
  exact b_M_time_96 C hl _ _ _ _ _ _ hw _ _ _ _ _ hv F
theorem b_M_time_76 {p : Program} {l : Launch} {e : Env} {R : Room} {s : State} {m : MethodId} {args : Array Value} {below : List Frame} {meth : Method} {c : Code} {D : DD} {h0 : AH} {Q : Int64 → AH → Prop} (C : fx_CX D y_M_time prog_15_method_26_code 14 2 32 (Option.some FieldType.long) [] h0 p R s m meth c) (hl : l.flags = flags0) (r0 : Nat) (x2 : Int32) (x3 : Int32) (sr0 : Nat) (sx1 : Int32) (sx2 : Int32) (h : AH) (hw : m_M_time_76 Q r0 x2 x3 sr0 sx1 sx2 h) : ∀ (ls : Array Slot) (H : Heap) (locs : List Loc) (cells slots : Nat), lv_has ls 14 [(0, .ref r0), (2, .int x2), (3, .int x3)] → fx_F D h0 h H locs cells slots → W p l e R s m args below meth c H locs cells slots (fx_Z D below s h0 (fx_oL Q fx_no)) (F0 m 76 ls [.int sx2, .int sx1, .ref sr0]) := by
  unfold m_M_time_76 at hw
  intro ls H locs cells slots hv F
  refine lv_icmp_ne C.ex C.by d_M_time_76 rfl (fun hc => ?_) (fun hc => ?_)
  · replace hw := hw.1 hc
    exact b_M_time_95 C hl _ _ _ _ _ hw _ _ _ _ _ hv F
  · replace hw := hw.2 hc
    refine lv_aload_n C.ex C.by d_M_time_79 rfl (lv_at hv 0 rfl) ?_
    refine lv_iload_n C.ex C.by d_M_time_80 rfl (lv_at hv 2 rfl) ?_
    refine lv_iconst (v := (1 : Int32)) C.ex C.by d_M_time_81 (by decide) ?_
    refine lv_isub C.ex C.by d_M_time_82 ?_
    obtain ⟨hk1, hw⟩ := hw
    refine fx_callI C F (c_M_here hl hw) hm_M_here hi_M_here hv.1 (by decide) (Nat.le_of_ble_eq_true rfl) (iv_M_here C F lm_M_131 hk1 d_M_time_83) (fx_out0 _) fx_eno (fun v1 h1 H locs cells slots hw hx1 F => ?_)
    replace hw := hw hx1
    have hk1 := (hx1).k hk1
    refine lv_bipush (v := (90 : Int32)) C.ex C.by d_M_time_86 (by decide) ?_
    refine lv_icmp_ne C.ex C.by d_M_time_88 rfl (fun hc => ?_) (fun hc => ?_)
    · replace hw := hw.1 hc
      exact b_M_time_95 C hl _ _ _ _ _ hw _ _ _ _ _ hv F
    · replace hw := hw.2 hc
      refine lv_iconst (v := (1 : Int32)) C.ex C.by d_M_time_91 (by decide) ?_
      refine lv_goto C.ex C.by d_M_time_92 rfl ?_
      exact b_M_time_96 C hl _ _ _ _ _ _ hw _ _ _ _ _ hv F
theorem b_M_time_46 {p : Program} {l : Launch} {e : Env} {R : Room} {s : State} {m : MethodId} {args : Array Value} {below : List Frame} {meth : Method} {c : Code} {D : DD} {h0 : AH} {Q : Int64 → AH → Prop} (C : fx_CX D y_M_time prog_15_method_26_code 14 2 32 (Option.some FieldType.long) [] h0 p R s m meth c) (hl : l.flags = flags0) (r0 : Nat) (x1 : Int32) (x2 : Int32) (sr0 : Nat) (sx1 : Int32) (h : AH) (hw : m_M_time_46 Q r0 x1 x2 sr0 sx1 h) : ∀ (ls : Array Slot) (H : Heap) (locs : List Loc) (cells slots : Nat), lv_has ls 14 [(0, .ref r0), (1, .int x1), (2, .int x2)] → fx_F D h0 h H locs cells slots → W p l e R s m args below meth c H locs cells slots (fx_Z D below s h0 (fx_oL Q fx_no)) (F0 m 46 ls [.int sx1, .ref sr0]) := by
  unfold m_M_time_46 at hw
  intro ls H locs cells slots hv F
  refine lv_iload_n C.ex C.by d_M_time_46 rfl (lv_at hv 1 rfl) ?_
  obtain ⟨hk1, hw⟩ := hw
  refine fx_callI C F (c_M_open hl hw) hm_M_open hi_M_open hv.1 (by decide) (Nat.le_of_ble_eq_true rfl) (iv_M_open C F lm_M_140 hk1 d_M_time_47) (fx_out0 _) fx_eno (fun v1 h1 H locs cells slots hw hx1 F => ?_)
  replace hw := hw hx1
  have hk1 := (hx1).k hk1
  refine lv_istore_n (lv' := [(3, .int v1), (0, .ref r0), (1, .int x1), (2, .int x2)]) C.ex C.by d_M_time_50 rfl hv (by decide) rfl (fun ls hv => ?_)
  refine lv_aload_n C.ex C.by d_M_time_51 rfl (lv_at hv 1 rfl) ?_
  obtain ⟨hk2, hw⟩ := hw
  refine fx_getI C F lf_M_124 hk2 rfl d_M_time_52 ?_
  refine lv_if_ne C.ex C.by d_M_time_55 rfl (fun hc => ?_) (fun hc => ?_)
  · replace hw := hw.1 hc
    exact b_M_time_99 C hl _ _ _ _ hw _ _ _ _ _ (lv_sub hv [1, 3, 0] rfl) F
  · replace hw := hw.2 hc
    refine lv_aload_n C.ex C.by d_M_time_58 rfl (lv_at hv 1 rfl) ?_
    refine lv_iload_n C.ex C.by d_M_time_59 rfl (lv_at hv 0 rfl) ?_
    refine lv_aload_n C.ex C.by d_M_time_60 rfl (lv_at hv 1 rfl) ?_
    refine fx_getI C F lf_M_128 hk2 rfl d_M_time_61 ?_
    refine lv_isub C.ex C.by d_M_time_64 ?_
    refine lv_iload_n C.ex C.by d_M_time_65 rfl (lv_at hv 3 rfl) ?_
    refine lv_if_eq C.ex C.by d_M_time_66 rfl (fun hc => ?_) (fun hc => ?_)
    · replace hw := hw.1 hc
      refine lv_bipush (v := (13 : Int32)) C.ex C.by d_M_time_74 (by decide) ?_
      exact b_M_time_76 C hl _ _ _ _ _ _ _ hw _ _ _ _ _ (lv_sub hv [1, 3, 0] rfl) F
    · replace hw := hw.2 hc
      refine lv_bipush (v := (15 : Int32)) C.ex C.by d_M_time_69 (by decide) ?_
      refine lv_goto C.ex C.by d_M_time_71 rfl ?_
      exact b_M_time_76 C hl _ _ _ _ _ _ _ hw _ _ _ _ _ (lv_sub hv [1, 3, 0] rfl) F
theorem b_M_time_33 {p : Program} {l : Launch} {e : Env} {R : Room} {s : State} {m : MethodId} {args : Array Value} {below : List Frame} {meth : Method} {c : Code} {D : DD} {h0 : AH} {Q : Int64 → AH → Prop} (C : fx_CX D y_M_time prog_15_method_26_code 14 2 32 (Option.some FieldType.long) [] h0 p R s m meth c) (hl : l.flags = flags0) (r0 : Nat) (x1 : Int32) (sx0 : Int32) (h : AH) (hw : m_M_time_33 Q r0 x1 sx0 h) : ∀ (ls : Array Slot) (H : Heap) (locs : List Loc) (cells slots : Nat), lv_has ls 14 [(0, .ref r0), (1, .int x1)] → fx_F D h0 h H locs cells slots → W p l e R s m args below meth c H locs cells slots (fx_Z D below s h0 (fx_oL Q fx_no)) (F0 m 33 ls [.int sx0]) := by
  unfold m_M_time_33 at hw
  intro ls H locs cells slots hv F
  refine lv_istore_n (lv' := [(2, .int sx0), (0, .ref r0), (1, .int x1)]) C.ex C.by d_M_time_33 rfl hv (by decide) rfl (fun ls hv => ?_)
  refine lv_aload_n C.ex C.by d_M_time_34 rfl (lv_at hv 1 rfl) ?_
  refine lv_iload_n C.ex C.by d_M_time_35 rfl (lv_at hv 0 rfl) ?_
  refine lv_if_eq C.ex C.by d_M_time_36 rfl (fun hc => ?_) (fun hc => ?_)
  · replace hw := hw.1 hc
    refine lv_bipush (v := (23 : Int32)) C.ex C.by d_M_time_44 (by decide) ?_
    exact b_M_time_46 C hl _ _ _ _ _ _ hw _ _ _ _ _ (lv_sub hv [1, 2, 0] rfl) F
  · replace hw := hw.2 hc
    refine lv_bipush (v := (24 : Int32)) C.ex C.by d_M_time_39 (by decide) ?_
    refine lv_goto C.ex C.by d_M_time_41 rfl ?_
    exact b_M_time_46 C hl _ _ _ _ _ _ hw _ _ _ _ _ (lv_sub hv [1, 2, 0] rfl) F
theorem b_M_time_32 {p : Program} {l : Launch} {e : Env} {R : Room} {s : State} {m : MethodId} {args : Array Value} {below : List Frame} {meth : Method} {c : Code} {D : DD} {h0 : AH} {Q : Int64 → AH → Prop} (C : fx_CX D y_M_time prog_15_method_26_code 14 2 32 (Option.some FieldType.long) [] h0 p R s m meth c) (hl : l.flags = flags0) (r0 : Nat) (x1 : Int32) (h : AH) (hw : m_M_time_32 Q r0 x1 h) : ∀ (ls : Array Slot) (H : Heap) (locs : List Loc) (cells slots : Nat), lv_has ls 14 [(0, .ref r0), (1, .int x1)] → fx_F D h0 h H locs cells slots → W p l e R s m args below meth c H locs cells slots (fx_Z D below s h0 (fx_oL Q fx_no)) (F0 m 32 ls []) := by
  unfold m_M_time_32 at hw
  intro ls H locs cells slots hv F
  refine lv_iconst (v := (0 : Int32)) C.ex C.by d_M_time_32 (by decide) ?_
  exact b_M_time_33 C hl _ _ _ _ hw _ _ _ _ _ hv F
theorem b_M_time_0 {p : Program} {l : Launch} {e : Env} {R : Room} {s : State} {m : MethodId} {args : Array Value} {below : List Frame} {meth : Method} {c : Code} {D : DD} {h0 : AH} {Q : Int64 → AH → Prop} (C : fx_CX D y_M_time prog_15_method_26_code 14 2 32 (Option.some FieldType.long) [] h0 p R s m meth c) (hl : l.flags = flags0) (r0 : Nat) (x1 : Int32) (h : AH) (hw : m_M_time Q r0 x1 h) : ∀ (ls : Array Slot) (H : Heap) (locs : List Loc) (cells slots : Nat), lv_has ls 14 [(0, .ref r0), (1, .int x1)] → fx_F D h0 h H locs cells slots → W p l e R s m args below meth c H locs cells slots (fx_Z D below s h0 (fx_oL Q fx_no)) (F0 m 0 ls []) := by
  unfold m_M_time at hw
  intro ls H locs cells slots hv F
  refine lv_aload_n C.ex C.by d_M_time_0 rfl (lv_at hv 0 rfl) ?_
  obtain ⟨hk1, hw⟩ := hw
  refine fx_getI C F lf_M_124 hk1 rfl d_M_time_1 ?_
  refine lv_if_ne C.ex C.by d_M_time_4 rfl (fun hc => ?_) (fun hc => ?_)
  · replace hw := hw.1 hc
    exact b_M_time_32 C hl _ _ _ hw _ _ _ _ _ hv F
  · replace hw := hw.2 hc
    refine lv_aload_n C.ex C.by d_M_time_7 rfl (lv_at hv 0 rfl) ?_
    refine fx_getI C F lf_M_128 hk1 rfl d_M_time_8 ?_
    refine lv_iload_n C.ex C.by d_M_time_11 rfl (lv_at hv 1 rfl) ?_
    refine lv_icmp_ge C.ex C.by d_M_time_12 rfl (fun hc => ?_) (fun hc => ?_)
    · replace hw := hw.1 hc
      exact b_M_time_32 C hl _ _ _ hw _ _ _ _ _ hv F
    · replace hw := hw.2 hc
      refine lv_aload_n C.ex C.by d_M_time_15 rfl (lv_at hv 0 rfl) ?_
      refine lv_aload_n C.ex C.by d_M_time_16 rfl (lv_at hv 0 rfl) ?_
      refine fx_getI C F lf_M_128 hk1 rfl d_M_time_17 ?_
      refine fx_callI C F (c_M_here hl hw) hm_M_here hi_M_here hv.1 (by decide) (Nat.le_of_ble_eq_true rfl) (iv_M_here C F lm_M_131 hk1 d_M_time_20) (fx_out0 _) fx_eno (fun v1 h1 H locs cells slots hw hx1 F => ?_)
      replace hw := hw hx1
      have hk1 := (hx1).k hk1
      refine lv_bipush (v := (24 : Int32)) C.ex C.by d_M_time_23 (by decide) ?_
      refine lv_icmp_ne C.ex C.by d_M_time_25 rfl (fun hc => ?_) (fun hc => ?_)
      · replace hw := hw.1 hc
        exact b_M_time_32 C hl _ _ _ hw _ _ _ _ _ hv F
      · replace hw := hw.2 hc
        refine lv_iconst (v := (1 : Int32)) C.ex C.by d_M_time_28 (by decide) ?_
        refine lv_goto C.ex C.by d_M_time_29 rfl ?_
        exact b_M_time_33 C hl _ _ _ _ hw _ _ _ _ _ hv F
theorem hm_M_time : fx_hd y_M_time prog_15_method_26_code 14 (Option.some FieldType.long) [] ∈ tables_1 := (fx_m7 (List.mem_of_getElem? (i := 13) rfl))
theorem hi_M_time : Cond.initialized y_M_time.cls ∈ tables_1 := (fx_m1 (List.mem_of_getElem? (i := 15) rfl))
theorem c_M_time {l : Launch} (hl : l.flags = flags0) {D : DD} {Q : Int64 → AH → Prop} {r0 : Nat} {x1 : Int32} {h : AH} (hw : m_M_time Q r0 x1 h) : fx_Mt l D y_M_time (fx_hd y_M_time prog_15_method_26_code 14 (Option.some FieldType.long) []) 2 32 [.ref r0, .int x1] h (fx_oL Q fx_no) := by
  refine fx_ofW (plainFor_of_name (by decide)) (fun p e s m below meth c C F => ?_)
  have hv := lv_entry ([.ref r0, .int x1]) (n := 14) (Nat.le_of_ble_eq_true rfl)
  rw [lg_entry_eq]
  generalize (lg_sl ([.ref r0, .int x1]) ++ List.replicate (14 - (lg_sl ([.ref r0, .int x1])).length) Slot.unset).toArray = ls at hv ⊢
  have hv : lv_has ls 14 [(0, .ref r0), (1, .int x1)] := hv
  exact b_M_time_0 C hl _ _ _ hw _ _ _ _ _ hv F
