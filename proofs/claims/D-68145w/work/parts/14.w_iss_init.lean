set_option maxRecDepth 10000
/-! ChainJudge$Issuer.<init>()V: frames 2, words 26 -/
abbrev y_Iss_init : MethodName := ⟨"ChainJudge$Issuer", "<init>", "()V"⟩
theorem lf_Iss_10 : fx_Lk "ChainJudge$Issuer" 10 9 0 := fx_Lk.mk (C := "ChainJudge$Issuer") (T := fx_T9) (N := 2) rfl (by decide) (by decide) (fx_m2 (List.mem_of_getElem? (i := 105) rfl))
theorem lf_Iss_16 : fx_Lk "ChainJudge$Issuer" 16 9 1 := fx_Lk.mk (C := "ChainJudge$Issuer") (T := fx_T9) (N := 2) rfl (by decide) (by decide) (fx_m2 (List.mem_of_getElem? (i := 107) rfl))
theorem lm_Iss_9 : Cond.methodLink "ChainJudge$Issuer" 9 y_Wr_init ∈ tables_1 ∨ ∃ host, Cond.methodLinkNest "ChainJudge$Issuer" 9 y_Wr_init host ∈ tables_1 := Or.inr ⟨_, (fx_m2 (List.mem_of_getElem? (i := 92) rfl))⟩
section
variable {p : Program} {l : Launch} {e : Env} {R : Room} {s : State} {m : MethodId} {args : Array Value} {below : List Frame} {meth : Method} {c : Code} {H : Heap} {locs : List Loc} {cells slots : Nat}
variable {D : DD} {y : MethodName} {cc : ByteArray} {nL kf kw : Nat} {ret : Option FieldType} {hh : List (Nat × Nat × Nat × Nat)} {h0 h : AH} {pc : Nat} {ls : Array Slot} {rest : List Value} {b idx : Nat}
theorem iv_Wr_init (C : fx_CX D y cc nL kf kw ret hh h0 p R s m meth c) (F : fx_F D h0 h H locs cells slots) (hw1 : Cond.methodLink y.cls idx y_Wr_init ∈ tables_1 ∨ ∃ host, Cond.methodLinkNest y.cls idx y_Wr_init host ∈ tables_1) (hd : decode cc pc = .ok (.invokespecial idx, 3)) : fx_IV p l e R s m args below meth c H locs cells slots (F0 m pc ls (.ref b :: rest)) rest y_Wr_init [.ref b] 3 := fun T hT X => fx_invI (As := []) C X hw1 (fx_m2 (List.mem_of_getElem? (i := 93) rfl)) hm_Wr_init ⟨by decide, by decide⟩ rfl rfl (n := 0) (by decide +kernel) rfl rfl hd
end
def dl_Iss_init : List (Nat × Instr × Nat) := [(0, .aload_n 0, 1), (1, .invokespecial 1, 3), (4, .aload_n 0, 1), (5, .new 7, 3), (8, .dup, 1), (9, .invokespecial 9, 3), (12, .putfield 10, 3), (15, .aload_n 0, 1), (16, .bipush 16, 2), (18, .newarray .byte, 2), (20, .putfield 16, 3), (23, .return_, 1)]
theorem dk_Iss_init : fx_dec prog_5_method_1_code dl_Iss_init = true := by decide +kernel
theorem d_Iss_init_0 : decode prog_5_method_1_code 0 = .ok (.aload_n 0, 1) := fx_dat dk_Iss_init 0 rfl
theorem d_Iss_init_1 : decode prog_5_method_1_code 1 = .ok (.invokespecial 1, 3) := fx_dat dk_Iss_init 1 rfl
theorem d_Iss_init_4 : decode prog_5_method_1_code 4 = .ok (.aload_n 0, 1) := fx_dat dk_Iss_init 2 rfl
theorem d_Iss_init_5 : decode prog_5_method_1_code 5 = .ok (.new 7, 3) := fx_dat dk_Iss_init 3 rfl
theorem d_Iss_init_8 : decode prog_5_method_1_code 8 = .ok (.dup, 1) := fx_dat dk_Iss_init 4 rfl
theorem d_Iss_init_9 : decode prog_5_method_1_code 9 = .ok (.invokespecial 9, 3) := fx_dat dk_Iss_init 5 rfl
theorem d_Iss_init_12 : decode prog_5_method_1_code 12 = .ok (.putfield 10, 3) := fx_dat dk_Iss_init 6 rfl
theorem d_Iss_init_15 : decode prog_5_method_1_code 15 = .ok (.aload_n 0, 1) := fx_dat dk_Iss_init 7 rfl
theorem d_Iss_init_16 : decode prog_5_method_1_code 16 = .ok (.bipush 16, 2) := fx_dat dk_Iss_init 8 rfl
theorem d_Iss_init_18 : decode prog_5_method_1_code 18 = .ok (.newarray .byte, 2) := fx_dat dk_Iss_init 9 rfl
theorem d_Iss_init_20 : decode prog_5_method_1_code 20 = .ok (.putfield 16, 3) := fx_dat dk_Iss_init 10 rfl
theorem d_Iss_init_23 : decode prog_5_method_1_code 23 = .ok (.return_, 1) := fx_dat dk_Iss_init 11 rfl
def m_Iss_init (Q : AH → Prop) (r0 : Nat) (h : AH) : Prop := fx_has h 2 ∧ ∀ (_ : fx_wf h) (q1 : Nat), q1 = hp_z h → ∀ h1 : AH, h1 = up_N h 11 0 2 → m_Wr_init (fun h2 => fx_ext h1 h2 → hp_k h2 r0 = 10 ∧ ∀ h3 : AH, h3 = up_R h2 r0 0 (some q1) → fx_has h3 16 ∧ ∀ (_ : fx_wf h3) (q2 : Nat), q2 = hp_z h3 → ∀ h4 : AH, h4 = up_N h3 101 16 16 → ∀ h5 : AH, h5 = up_R h4 r0 1 (some q2) → Q h5) q1 h1
theorem b_Iss_init_0 {p : Program} {l : Launch} {e : Env} {R : Room} {s : State} {m : MethodId} {args : Array Value} {below : List Frame} {meth : Method} {c : Code} {D : DD} {h0 : AH} {Q : AH → Prop} (C : fx_CX D y_Iss_init prog_5_method_1_code 1 2 26 (none) [] h0 p R s m meth c) (hl : l.flags = flags0) (r0 : Nat) (h : AH) (hw : m_Iss_init Q r0 h) : ∀ (ls : Array Slot) (H : Heap) (locs : List Loc) (cells slots : Nat), lv_has ls 1 [(0, .ref r0)] → fx_F D h0 h H locs cells slots → W p l e R s m args below meth c H locs cells slots (fx_Z D below s h0 (fx_oV Q fx_no)) (F0 m 0 ls []) := by
  unfold m_Iss_init at hw
  intro ls H locs cells slots hv F
  refine lv_aload_n C.ex C.by d_Iss_init_0 rfl (lv_at hv 0 rfl) ?_
  refine fx_objI C (fx_m2 (List.mem_of_getElem? (i := 89) rfl)) (fx_m1 (List.mem_of_getElem? (i := 38) rfl)) (fx_m1 (List.mem_of_getElem? (i := 39) rfl)) hv.1 d_Iss_init_1 (by decide) (Nat.le_of_ble_eq_true rfl) ?_
  refine lv_aload_n C.ex C.by d_Iss_init_4 rfl (lv_at hv 0 rfl) ?_
  obtain ⟨hs, hw⟩ := hw
  let q1 : Nat := hp_z h
  let h1 : AH := up_N h 11 0 2
  replace hw := hw F.wf q1 rfl h1 rfl
  have hkq1 : hp_k h1 q1 = 11 := fx_nk _ _ _ _
  refine fx_new (ci := 10) (r := ("ChainJudge$Writer", fx_T10, 2)) C F rfl (fx_m2 (List.mem_of_getElem? (i := 90) rfl)) (fx_m2 (List.mem_of_getElem? (i := 91) rfl)) (fx_m1 (List.mem_of_getElem? (i := 14) rfl)) hs d_Iss_init_5 (fun H cells slots (F : fx_F D h0 h1 H locs cells slots) => ?_)
  refine lv_dup C.ex C.by d_Iss_init_8 rfl ?_
  refine fx_callV C F (c_Wr_init hl hw) hm_Wr_init hi_Wr_init hv.1 (by decide) (Nat.le_of_ble_eq_true rfl) (iv_Wr_init C F lm_Iss_9 d_Iss_init_9) (fx_out0 _) fx_eno (fun h2 H locs cells slots hw hx1 F => ?_)
  replace hw := hw hx1
  have hkq1 := (hx1).k hkq1
  obtain ⟨hk1, hw⟩ := hw
  let h3 : AH := up_R h2 r0 0 (some q1)
  replace hw := hw h3 rfl
  refine fx_putR C F lf_Iss_10 hk1 rfl rfl (fx_mayF.ini rfl rfl rfl) d_Iss_init_12 (fun H locs (F : fx_F D h0 h3 H locs _ _) => ?_)
  refine lv_aload_n C.ex C.by d_Iss_init_15 rfl (lv_at hv 0 rfl) ?_
  refine lv_bipush (v := (16 : Int32)) C.ex C.by d_Iss_init_16 (by decide) ?_
  obtain ⟨hs, hw⟩ := hw
  let q2 : Nat := hp_z h3
  let h4 : AH := up_N h3 101 16 16
  replace hw := hw F.wf q2 rfl h4 rfl
  have hkq1 := (F.xN (k := 101) (n := 16) (m := 16)).k hkq1
  have hk1 := (F.xN (k := 101) (n := 16) (m := 16)).k hk1
  have hkq2 : hp_k h4 q2 = 101 := fx_nk _ _ _ _
  refine fx_newaB (n := (16 : Int32)) C F (fx_m1 (List.mem_of_getElem? (i := 55) rfl)) (by decide) (by decide) hs d_Iss_init_18 (fun H cells slots (F : fx_F D h0 h4 H locs cells slots) => ?_)
  let h5 : AH := up_R h4 r0 1 (some q2)
  replace hw := hw h5 rfl
  refine fx_putR C F lf_Iss_16 hk1 rfl rfl (fx_mayF.ini rfl rfl rfl) d_Iss_init_20 (fun H locs (F : fx_F D h0 h5 H locs _ _) => ?_)
  exact fx_vret C F d_Iss_init_23 (Or.inl ⟨rfl, hw⟩)
theorem hm_Iss_init : fx_hd y_Iss_init prog_5_method_1_code 1 (none) [] ∈ tables_1 := (fx_m2 (List.mem_of_getElem? (i := 88) rfl))
theorem hi_Iss_init : Cond.initialized y_Iss_init.cls ∈ tables_1 := (fx_m1 (List.mem_of_getElem? (i := 13) rfl))
theorem c_Iss_init {l : Launch} (hl : l.flags = flags0) {D : DD} {Q : AH → Prop} {r0 : Nat} {h : AH} (hw : m_Iss_init Q r0 h) : fx_Mt l D y_Iss_init (fx_hd y_Iss_init prog_5_method_1_code 1 (none) []) 2 26 [.ref r0] h (fx_oV Q fx_no) := by
  refine fx_ofW (plainFor_of_name (by decide)) (fun p e s m below meth c C F => ?_)
  have hv := lv_entry ([.ref r0]) (n := 1) (Nat.le_of_ble_eq_true rfl)
  rw [lg_entry_eq]
  generalize (lg_sl ([.ref r0]) ++ List.replicate (1 - (lg_sl ([.ref r0])).length) Slot.unset).toArray = ls at hv ⊢
  have hv : lv_has ls 1 [(0, .ref r0)] := hv
  exact b_Iss_init_0 C hl _ _ hw _ _ _ _ _ hv F
/-! ChainJudge.<init>()V: frames 5, words 65 -/
abbrev y_J_init : MethodName := ⟨"ChainJudge", "<init>", "()V"⟩
theorem lf_J_14 : fx_Lk "ChainJudge" 14 0 0 := fx_Lk.mk (C := "ChainJudge") (T := fx_T0) (N := 16) rfl (by decide) (by decide) (fx_m2 (List.mem_of_getElem? (i := 115) rfl))
theorem lf_J_20 : fx_Lk "ChainJudge" 20 0 1 := fx_Lk.mk (C := "ChainJudge") (T := fx_T0) (N := 16) rfl (by decide) (by decide) (fx_m2 (List.mem_of_getElem? (i := 116) rfl))
theorem lf_J_25 : fx_Lk "ChainJudge" 25 0 2 := fx_Lk.mk (C := "ChainJudge") (T := fx_T0) (N := 16) rfl (by decide) (by decide) (fx_m2 (List.mem_of_getElem? (i := 117) rfl))
theorem lf_J_29 : fx_Lk "ChainJudge" 29 0 3 := fx_Lk.mk (C := "ChainJudge") (T := fx_T0) (N := 16) rfl (by decide) (by decide) (fx_m2 (List.mem_of_getElem? (i := 118) rfl))
theorem lf_J_36 : fx_Lk "ChainJudge" 36 0 4 := fx_Lk.mk (C := "ChainJudge") (T := fx_T0) (N := 16) rfl (by decide) (by decide) (fx_m2 (List.mem_of_getElem? (i := 119) rfl))
theorem lf_J_43 : fx_Lk "ChainJudge" 43 0 5 := fx_Lk.mk (C := "ChainJudge") (T := fx_T0) (N := 16) rfl (by decide) (by decide) (fx_m2 (List.mem_of_getElem? (i := 120) rfl))
theorem lf_J_52 : fx_Lk "ChainJudge" 52 0 6 := fx_Lk.mk (C := "ChainJudge") (T := fx_T0) (N := 16) rfl (by decide) (by decide) (fx_m2 (List.mem_of_getElem? (i := 121) rfl))
theorem lf_J_59 : fx_Lk "ChainJudge" 59 0 7 := fx_Lk.mk (C := "ChainJudge") (T := fx_T0) (N := 16) rfl (by decide) (by decide) (fx_m2 (List.mem_of_getElem? (i := 122) rfl))
theorem lf_J_66 : fx_Lk "ChainJudge" 66 0 8 := fx_Lk.mk (C := "ChainJudge") (T := fx_T0) (N := 16) rfl (by decide) (by decide) (fx_m2 (List.mem_of_getElem? (i := 123) rfl))
theorem lf_J_73 : fx_Lk "ChainJudge" 73 0 9 := fx_Lk.mk (C := "ChainJudge") (T := fx_T0) (N := 16) rfl (by decide) (by decide) (fx_m2 (List.mem_of_getElem? (i := 124) rfl))
theorem lf_J_77 : fx_Lk "ChainJudge" 77 0 10 := fx_Lk.mk (C := "ChainJudge") (T := fx_T0) (N := 16) rfl (by decide) (by decide) (fx_m2 (List.mem_of_getElem? (i := 125) rfl))
theorem lf_J_81 : fx_Lk "ChainJudge" 81 0 11 := fx_Lk.mk (C := "ChainJudge") (T := fx_T0) (N := 16) rfl (by decide) (by decide) (fx_m2 (List.mem_of_getElem? (i := 126) rfl))
theorem lf_J_84 : fx_Lk "ChainJudge" 84 0 12 := fx_Lk.mk (C := "ChainJudge") (T := fx_T0) (N := 16) rfl (by decide) (by decide) (fx_m2 (List.mem_of_getElem? (i := 127) rfl))
theorem lf_J_87 : fx_Lk "ChainJudge" 87 0 13 := fx_Lk.mk (C := "ChainJudge") (T := fx_T0) (N := 16) rfl (by decide) (by decide) (fx_m2 (List.mem_of_getElem? (i := 128) rfl))
theorem lf_J_90 : fx_Lk "ChainJudge" 90 0 14 := fx_Lk.mk (C := "ChainJudge") (T := fx_T0) (N := 16) rfl (by decide) (by decide) (fx_m2 (List.mem_of_getElem? (i := 129) rfl))
theorem lf_J_93 : fx_Lk "ChainJudge" 93 0 15 := fx_Lk.mk (C := "ChainJudge") (T := fx_T0) (N := 16) rfl (by decide) (by decide) (fx_m2 (List.mem_of_getElem? (i := 130) rfl))
theorem lm_J_13 : Cond.methodLink "ChainJudge" 13 y_Row_init ∈ tables_1 ∨ ∃ host, Cond.methodLinkNest "ChainJudge" 13 y_Row_init host ∈ tables_1 := Or.inr ⟨_, (fx_m1 (List.mem_of_getElem? (i := 42) rfl))⟩
theorem lm_J_35 : Cond.methodLink "ChainJudge" 35 y_AL_init ∈ tables_1 ∨ ∃ host, Cond.methodLinkNest "ChainJudge" 35 y_AL_init host ∈ tables_1 := Or.inl (fx_m1 (List.mem_of_getElem? (i := 60) rfl))
theorem lm_J_42 : Cond.methodLink "ChainJudge" 42 y_KM_init ∈ tables_1 ∨ ∃ host, Cond.methodLinkNest "ChainJudge" 42 y_KM_init host ∈ tables_1 := Or.inr ⟨_, (fx_m1 (List.mem_of_getElem? (i := 86) rfl))⟩
theorem lm_J_49 : Cond.methodLink "ChainJudge" 49 y_Paths_init ∈ tables_1 ∨ ∃ host, Cond.methodLinkNest "ChainJudge" 49 y_Paths_init host ∈ tables_1 := Or.inl (fx_m1 (List.mem_of_getElem? (i := 161) rfl))
theorem lm_J_58 : Cond.methodLink "ChainJudge" 58 y_Cert_init ∈ tables_1 ∨ ∃ host, Cond.methodLinkNest "ChainJudge" 58 y_Cert_init host ∈ tables_1 := Or.inl (fx_m1 (List.mem_of_getElem? (i := 198) rfl))
theorem lm_J_65 : Cond.methodLink "ChainJudge" 65 y_Iss_init ∈ tables_1 ∨ ∃ host, Cond.methodLinkNest "ChainJudge" 65 y_Iss_init host ∈ tables_1 := Or.inr ⟨_, (fx_m2 (List.mem_of_getElem? (i := 86) rfl))⟩
theorem lm_J_72 : Cond.methodLink "ChainJudge" 72 y_Wr_init ∈ tables_1 ∨ ∃ host, Cond.methodLinkNest "ChainJudge" 72 y_Wr_init host ∈ tables_1 := Or.inr ⟨_, (fx_m2 (List.mem_of_getElem? (i := 114) rfl))⟩
section
variable {p : Program} {l : Launch} {e : Env} {R : Room} {s : State} {m : MethodId} {args : Array Value} {below : List Frame} {meth : Method} {c : Code} {H : Heap} {locs : List Loc} {cells slots : Nat}
variable {D : DD} {y : MethodName} {cc : ByteArray} {nL kf kw : Nat} {ret : Option FieldType} {hh : List (Nat × Nat × Nat × Nat)} {h0 h : AH} {pc : Nat} {ls : Array Slot} {rest : List Value} {b idx : Nat}
theorem iv_Cert_init {r1 : Nat} (C : fx_CX D y cc nL kf kw ret hh h0 p R s m meth c) (F : fx_F D h0 h H locs cells slots) (hw1 : Cond.methodLink y.cls idx y_Cert_init ∈ tables_1 ∨ ∃ host, Cond.methodLinkNest y.cls idx y_Cert_init host ∈ tables_1) (hd : decode cc pc = .ok (.invokespecial idx, 3)) : fx_IV p l e R s m args below meth c H locs cells slots (F0 m pc ls (.ref r1 :: .ref b :: rest)) rest y_Cert_init [.ref b, .ref r1] 3 := fun T hT X => fx_invI (As := [.ref r1]) C X hw1 (fx_m1 (List.mem_of_getElem? (i := 199) rfl)) hm_Cert_init ⟨by decide, by decide⟩ rfl rfl (n := 1) (by decide +kernel) rfl rfl hd
theorem iv_Iss_init (C : fx_CX D y cc nL kf kw ret hh h0 p R s m meth c) (F : fx_F D h0 h H locs cells slots) (hw1 : Cond.methodLink y.cls idx y_Iss_init ∈ tables_1 ∨ ∃ host, Cond.methodLinkNest y.cls idx y_Iss_init host ∈ tables_1) (hd : decode cc pc = .ok (.invokespecial idx, 3)) : fx_IV p l e R s m args below meth c H locs cells slots (F0 m pc ls (.ref b :: rest)) rest y_Iss_init [.ref b] 3 := fun T hT X => fx_invI (As := []) C X hw1 (fx_m2 (List.mem_of_getElem? (i := 87) rfl)) hm_Iss_init ⟨by decide, by decide⟩ rfl rfl (n := 0) (by decide +kernel) rfl rfl hd
theorem iv_KM_init (C : fx_CX D y cc nL kf kw ret hh h0 p R s m meth c) (F : fx_F D h0 h H locs cells slots) (hw1 : Cond.methodLink y.cls idx y_KM_init ∈ tables_1 ∨ ∃ host, Cond.methodLinkNest y.cls idx y_KM_init host ∈ tables_1) (hd : decode cc pc = .ok (.invokespecial idx, 3)) : fx_IV p l e R s m args below meth c H locs cells slots (F0 m pc ls (.ref b :: rest)) rest y_KM_init [.ref b] 3 := fun T hT X => fx_invI (As := []) C X hw1 (fx_m1 (List.mem_of_getElem? (i := 87) rfl)) hm_KM_init ⟨by decide, by decide⟩ rfl rfl (n := 0) (by decide +kernel) rfl rfl hd
theorem iv_Paths_init {r1 : Nat} (C : fx_CX D y cc nL kf kw ret hh h0 p R s m meth c) (F : fx_F D h0 h H locs cells slots) (hw1 : Cond.methodLink y.cls idx y_Paths_init ∈ tables_1 ∨ ∃ host, Cond.methodLinkNest y.cls idx y_Paths_init host ∈ tables_1) (hd : decode cc pc = .ok (.invokespecial idx, 3)) : fx_IV p l e R s m args below meth c H locs cells slots (F0 m pc ls (.ref r1 :: .ref b :: rest)) rest y_Paths_init [.ref b, .ref r1] 3 := fun T hT X => fx_invI (As := [.ref r1]) C X hw1 (fx_m1 (List.mem_of_getElem? (i := 162) rfl)) hm_Paths_init ⟨by decide, by decide⟩ rfl rfl (n := 1) (by decide +kernel) rfl rfl hd
theorem iv_Row_init (C : fx_CX D y cc nL kf kw ret hh h0 p R s m meth c) (F : fx_F D h0 h H locs cells slots) (hw1 : Cond.methodLink y.cls idx y_Row_init ∈ tables_1 ∨ ∃ host, Cond.methodLinkNest y.cls idx y_Row_init host ∈ tables_1) (hd : decode cc pc = .ok (.invokespecial idx, 3)) : fx_IV p l e R s m args below meth c H locs cells slots (F0 m pc ls (.ref b :: rest)) rest y_Row_init [.ref b] 3 := fun T hT X => fx_invI (As := []) C X hw1 (fx_m1 (List.mem_of_getElem? (i := 43) rfl)) hm_Row_init ⟨by decide, by decide⟩ rfl rfl (n := 0) (by decide +kernel) rfl rfl hd
end
def dl_J_init : List (Nat × Instr × Nat) := [(0, .aload_n 0, 1), (1, .invokespecial 5, 3), (4, .aload_n 0, 1), (5, .new 11, 3), (8, .dup, 1), (9, .invokespecial 13, 3), (12, .putfield 14, 3), (15, .aload_n 0, 1), (16, .new 11, 3), (19, .dup, 1), (20, .invokespecial 13, 3), (23, .putfield 20, 3), (26, .aload_n 0, 1), (27, .bipush 100, 2), (29, .anewarray 23, 3), (32, .putfield 25, 3), (35, .aload_n 0, 1), (36, .iconst 0, 1), (37, .putfield 29, 3), (40, .aload_n 0, 1), (41, .new 33, 3), (44, .dup, 1), (45, .invokespecial 35, 3), (48, .putfield 36, 3), (51, .aload_n 0, 1), (52, .new 40, 3), (55, .dup, 1), (56, .invokespecial 42, 3), (59, .putfield 43, 3), (62, .aload_n 0, 1), (63, .new 47, 3), (66, .dup, 1), (67, .aload_n 0, 1), (68, .getfield 43, 3), (71, .invokespecial 49, 3), (74, .putfield 52, 3), (77, .aload_n 0, 1), (78, .new 56, 3), (81, .dup, 1), (82, .aload_n 0, 1), (83, .getfield 43, 3), (86, .invokespecial 58, 3), (89, .putfield 59, 3), (92, .aload_n 0, 1), (93, .new 63, 3), (96, .dup, 1), (97, .invokespecial 65, 3), (100, .putfield 66, 3), (103, .aload_n 0, 1), (104, .new 70, 3), (107, .dup, 1), (108, .invokespecial 72, 3), (111, .putfield 73, 3), (114, .aload_n 0, 1), (115, .bipush 16, 2), (117, .newarray .int, 2), (119, .putfield 77, 3), (122, .aload_n 0, 1), (123, .iconst 0, 1), (124, .putfield 81, 3), (127, .aload_n 0, 1), (128, .iconst (-1), 1), (129, .putfield 84, 3), (132, .aload_n 0, 1), (133, .iconst 0, 1), (134, .putfield 87, 3), (137, .aload_n 0, 1), (138, .iconst 0, 1), (139, .putfield 90, 3), (142, .aload_n 0, 1), (143, .iconst 0, 1), (144, .putfield 93, 3), (147, .return_, 1)]
theorem dk_J_init : fx_dec prog_1_method_4_code dl_J_init = true := by decide +kernel
theorem d_J_init_0 : decode prog_1_method_4_code 0 = .ok (.aload_n 0, 1) := fx_dat dk_J_init 0 rfl
theorem d_J_init_1 : decode prog_1_method_4_code 1 = .ok (.invokespecial 5, 3) := fx_dat dk_J_init 1 rfl
theorem d_J_init_4 : decode prog_1_method_4_code 4 = .ok (.aload_n 0, 1) := fx_dat dk_J_init 2 rfl
theorem d_J_init_5 : decode prog_1_method_4_code 5 = .ok (.new 11, 3) := fx_dat dk_J_init 3 rfl
theorem d_J_init_8 : decode prog_1_method_4_code 8 = .ok (.dup, 1) := fx_dat dk_J_init 4 rfl
theorem d_J_init_9 : decode prog_1_method_4_code 9 = .ok (.invokespecial 13, 3) := fx_dat dk_J_init 5 rfl
theorem d_J_init_12 : decode prog_1_method_4_code 12 = .ok (.putfield 14, 3) := fx_dat dk_J_init 6 rfl
theorem d_J_init_15 : decode prog_1_method_4_code 15 = .ok (.aload_n 0, 1) := fx_dat dk_J_init 7 rfl
theorem d_J_init_16 : decode prog_1_method_4_code 16 = .ok (.new 11, 3) := fx_dat dk_J_init 8 rfl
theorem d_J_init_19 : decode prog_1_method_4_code 19 = .ok (.dup, 1) := fx_dat dk_J_init 9 rfl
theorem d_J_init_20 : decode prog_1_method_4_code 20 = .ok (.invokespecial 13, 3) := fx_dat dk_J_init 10 rfl
theorem d_J_init_23 : decode prog_1_method_4_code 23 = .ok (.putfield 20, 3) := fx_dat dk_J_init 11 rfl
theorem d_J_init_26 : decode prog_1_method_4_code 26 = .ok (.aload_n 0, 1) := fx_dat dk_J_init 12 rfl
theorem d_J_init_27 : decode prog_1_method_4_code 27 = .ok (.bipush 100, 2) := fx_dat dk_J_init 13 rfl
theorem d_J_init_29 : decode prog_1_method_4_code 29 = .ok (.anewarray 23, 3) := fx_dat dk_J_init 14 rfl
theorem d_J_init_32 : decode prog_1_method_4_code 32 = .ok (.putfield 25, 3) := fx_dat dk_J_init 15 rfl
theorem d_J_init_35 : decode prog_1_method_4_code 35 = .ok (.aload_n 0, 1) := fx_dat dk_J_init 16 rfl
theorem d_J_init_36 : decode prog_1_method_4_code 36 = .ok (.iconst 0, 1) := fx_dat dk_J_init 17 rfl
theorem d_J_init_37 : decode prog_1_method_4_code 37 = .ok (.putfield 29, 3) := fx_dat dk_J_init 18 rfl
theorem d_J_init_40 : decode prog_1_method_4_code 40 = .ok (.aload_n 0, 1) := fx_dat dk_J_init 19 rfl
theorem d_J_init_41 : decode prog_1_method_4_code 41 = .ok (.new 33, 3) := fx_dat dk_J_init 20 rfl
theorem d_J_init_44 : decode prog_1_method_4_code 44 = .ok (.dup, 1) := fx_dat dk_J_init 21 rfl
theorem d_J_init_45 : decode prog_1_method_4_code 45 = .ok (.invokespecial 35, 3) := fx_dat dk_J_init 22 rfl
theorem d_J_init_48 : decode prog_1_method_4_code 48 = .ok (.putfield 36, 3) := fx_dat dk_J_init 23 rfl
theorem d_J_init_51 : decode prog_1_method_4_code 51 = .ok (.aload_n 0, 1) := fx_dat dk_J_init 24 rfl
theorem d_J_init_52 : decode prog_1_method_4_code 52 = .ok (.new 40, 3) := fx_dat dk_J_init 25 rfl
theorem d_J_init_55 : decode prog_1_method_4_code 55 = .ok (.dup, 1) := fx_dat dk_J_init 26 rfl
theorem d_J_init_56 : decode prog_1_method_4_code 56 = .ok (.invokespecial 42, 3) := fx_dat dk_J_init 27 rfl
theorem d_J_init_59 : decode prog_1_method_4_code 59 = .ok (.putfield 43, 3) := fx_dat dk_J_init 28 rfl
theorem d_J_init_62 : decode prog_1_method_4_code 62 = .ok (.aload_n 0, 1) := fx_dat dk_J_init 29 rfl
theorem d_J_init_63 : decode prog_1_method_4_code 63 = .ok (.new 47, 3) := fx_dat dk_J_init 30 rfl
theorem d_J_init_66 : decode prog_1_method_4_code 66 = .ok (.dup, 1) := fx_dat dk_J_init 31 rfl
theorem d_J_init_67 : decode prog_1_method_4_code 67 = .ok (.aload_n 0, 1) := fx_dat dk_J_init 32 rfl
theorem d_J_init_68 : decode prog_1_method_4_code 68 = .ok (.getfield 43, 3) := fx_dat dk_J_init 33 rfl
theorem d_J_init_71 : decode prog_1_method_4_code 71 = .ok (.invokespecial 49, 3) := fx_dat dk_J_init 34 rfl
theorem d_J_init_74 : decode prog_1_method_4_code 74 = .ok (.putfield 52, 3) := fx_dat dk_J_init 35 rfl
theorem d_J_init_77 : decode prog_1_method_4_code 77 = .ok (.aload_n 0, 1) := fx_dat dk_J_init 36 rfl
theorem d_J_init_78 : decode prog_1_method_4_code 78 = .ok (.new 56, 3) := fx_dat dk_J_init 37 rfl
theorem d_J_init_81 : decode prog_1_method_4_code 81 = .ok (.dup, 1) := fx_dat dk_J_init 38 rfl
theorem d_J_init_82 : decode prog_1_method_4_code 82 = .ok (.aload_n 0, 1) := fx_dat dk_J_init 39 rfl
theorem d_J_init_83 : decode prog_1_method_4_code 83 = .ok (.getfield 43, 3) := fx_dat dk_J_init 40 rfl
theorem d_J_init_86 : decode prog_1_method_4_code 86 = .ok (.invokespecial 58, 3) := fx_dat dk_J_init 41 rfl
theorem d_J_init_89 : decode prog_1_method_4_code 89 = .ok (.putfield 59, 3) := fx_dat dk_J_init 42 rfl
theorem d_J_init_92 : decode prog_1_method_4_code 92 = .ok (.aload_n 0, 1) := fx_dat dk_J_init 43 rfl
theorem d_J_init_93 : decode prog_1_method_4_code 93 = .ok (.new 63, 3) := fx_dat dk_J_init 44 rfl
theorem d_J_init_96 : decode prog_1_method_4_code 96 = .ok (.dup, 1) := fx_dat dk_J_init 45 rfl
theorem d_J_init_97 : decode prog_1_method_4_code 97 = .ok (.invokespecial 65, 3) := fx_dat dk_J_init 46 rfl
theorem d_J_init_100 : decode prog_1_method_4_code 100 = .ok (.putfield 66, 3) := fx_dat dk_J_init 47 rfl
theorem d_J_init_103 : decode prog_1_method_4_code 103 = .ok (.aload_n 0, 1) := fx_dat dk_J_init 48 rfl
theorem d_J_init_104 : decode prog_1_method_4_code 104 = .ok (.new 70, 3) := fx_dat dk_J_init 49 rfl
theorem d_J_init_107 : decode prog_1_method_4_code 107 = .ok (.dup, 1) := fx_dat dk_J_init 50 rfl
theorem d_J_init_108 : decode prog_1_method_4_code 108 = .ok (.invokespecial 72, 3) := fx_dat dk_J_init 51 rfl
theorem d_J_init_111 : decode prog_1_method_4_code 111 = .ok (.putfield 73, 3) := fx_dat dk_J_init 52 rfl
theorem d_J_init_114 : decode prog_1_method_4_code 114 = .ok (.aload_n 0, 1) := fx_dat dk_J_init 53 rfl
theorem d_J_init_115 : decode prog_1_method_4_code 115 = .ok (.bipush 16, 2) := fx_dat dk_J_init 54 rfl
theorem d_J_init_117 : decode prog_1_method_4_code 117 = .ok (.newarray .int, 2) := fx_dat dk_J_init 55 rfl
theorem d_J_init_119 : decode prog_1_method_4_code 119 = .ok (.putfield 77, 3) := fx_dat dk_J_init 56 rfl
theorem d_J_init_122 : decode prog_1_method_4_code 122 = .ok (.aload_n 0, 1) := fx_dat dk_J_init 57 rfl
theorem d_J_init_123 : decode prog_1_method_4_code 123 = .ok (.iconst 0, 1) := fx_dat dk_J_init 58 rfl
theorem d_J_init_124 : decode prog_1_method_4_code 124 = .ok (.putfield 81, 3) := fx_dat dk_J_init 59 rfl
theorem d_J_init_127 : decode prog_1_method_4_code 127 = .ok (.aload_n 0, 1) := fx_dat dk_J_init 60 rfl
theorem d_J_init_128 : decode prog_1_method_4_code 128 = .ok (.iconst (-1), 1) := fx_dat dk_J_init 61 rfl
theorem d_J_init_129 : decode prog_1_method_4_code 129 = .ok (.putfield 84, 3) := fx_dat dk_J_init 62 rfl
theorem d_J_init_132 : decode prog_1_method_4_code 132 = .ok (.aload_n 0, 1) := fx_dat dk_J_init 63 rfl
theorem d_J_init_133 : decode prog_1_method_4_code 133 = .ok (.iconst 0, 1) := fx_dat dk_J_init 64 rfl
theorem d_J_init_134 : decode prog_1_method_4_code 134 = .ok (.putfield 87, 3) := fx_dat dk_J_init 65 rfl
theorem d_J_init_137 : decode prog_1_method_4_code 137 = .ok (.aload_n 0, 1) := fx_dat dk_J_init 66 rfl
theorem d_J_init_138 : decode prog_1_method_4_code 138 = .ok (.iconst 0, 1) := fx_dat dk_J_init 67 rfl
theorem d_J_init_139 : decode prog_1_method_4_code 139 = .ok (.putfield 90, 3) := fx_dat dk_J_init 68 rfl
theorem d_J_init_142 : decode prog_1_method_4_code 142 = .ok (.aload_n 0, 1) := fx_dat dk_J_init 69 rfl
theorem d_J_init_143 : decode prog_1_method_4_code 143 = .ok (.iconst 0, 1) := fx_dat dk_J_init 70 rfl
theorem d_J_init_144 : decode prog_1_method_4_code 144 = .ok (.putfield 93, 3) := fx_dat dk_J_init 71 rfl
theorem d_J_init_147 : decode prog_1_method_4_code 147 = .ok (.return_, 1) := fx_dat dk_J_init 72 rfl
def m_J_init (Q : AH → Prop) (r0 : Nat) (h : AH) : Prop := fx_has h 2 ∧ ∀ (_ : fx_wf h) (q1 : Nat), q1 = hp_z h → ∀ h1 : AH, h1 = up_N h 2 0 2 → m_Row_init (fun h2 => fx_ext h1 h2 → hp_k h2 r0 = 1 ∧ ∀ h3 : AH, h3 = up_R h2 r0 0 (some q1) → fx_has h3 2 ∧ ∀ (_ : fx_wf h3) (q2 : Nat), q2 = hp_z h3 → ∀ h4 : AH, h4 = up_N h3 2 0 2 → m_Row_init (fun h5 => fx_ext h4 h5 → ∀ h6 : AH, h6 = up_R h5 r0 1 (some q2) → fx_has h6 100 ∧ ∀ (_ : fx_wf h6) (q3 : Nat), q3 = hp_z h6 → ∀ h7 : AH, h7 = up_N h6 105 100 100 → ∀ h8 : AH, h8 = up_R h7 r0 2 (some q3) → ∀ h9 : AH, h9 = up_I h8 r0 3 (0 : Int32) → fx_has h9 3 ∧ ∀ (_ : fx_wf h9) (q4 : Nat), q4 = hp_z h9 → ∀ h10 : AH, h10 = up_N h9 12 0 3 → m_AL_init (fun h11 => fx_ext h10 h11 → ∀ h12 : AH, h12 = up_R h11 r0 4 (some q4) → fx_has h12 2 ∧ ∀ (_ : fx_wf h12) (q5 : Nat), q5 = hp_z h12 → ∀ h13 : AH, h13 = up_N h12 4 0 2 → m_KM_init (fun h14 => fx_ext h13 h14 → ∀ h15 : AH, h15 = up_R h14 r0 5 (some q5) → fx_has h15 8 ∧ ∀ (_ : fx_wf h15) (q6 : Nat), q6 = hp_z h15 → ∀ h16 : AH, h16 = up_N h15 7 0 8 → ∃ b1, hp_R h16 r0 5 = some b1 ∧ m_Paths_init (fun h17 => fx_ext h16 h17 → ∀ h18 : AH, h18 = up_R h17 r0 6 (some q6) → fx_has h18 29 ∧ ∀ (_ : fx_wf h18) (q7 : Nat), q7 = hp_z h18 → ∀ h19 : AH, h19 = up_N h18 8 0 29 → ∃ b2, hp_R h19 r0 5 = some b2 ∧ m_Cert_init (fun h20 => fx_ext h19 h20 → ∀ h21 : AH, h21 = up_R h20 r0 7 (some q7) → fx_has h21 2 ∧ ∀ (_ : fx_wf h21) (q8 : Nat), q8 = hp_z h21 → ∀ h22 : AH, h22 = up_N h21 10 0 2 → m_Iss_init (fun h23 => fx_ext h22 h23 → ∀ h24 : AH, h24 = up_R h23 r0 8 (some q8) → fx_has h24 2 ∧ ∀ (_ : fx_wf h24) (q9 : Nat), q9 = hp_z h24 → ∀ h25 : AH, h25 = up_N h24 11 0 2 → m_Wr_init (fun h26 => fx_ext h25 h26 → ∀ h27 : AH, h27 = up_R h26 r0 9 (some q9) → fx_has h27 16 ∧ ∀ (_ : fx_wf h27) (q10 : Nat), q10 = hp_z h27 → ∀ h28 : AH, h28 = up_N h27 102 16 16 → ∀ h29 : AH, h29 = up_R h28 r0 10 (some q10) → ∀ h30 : AH, h30 = up_I h29 r0 11 (0 : Int32) → ∀ h31 : AH, h31 = up_I h30 r0 12 (-1 : Int32) → ∀ h32 : AH, h32 = up_I h31 r0 13 (0 : Int32) → ∀ h33 : AH, h33 = up_I h32 r0 14 (0 : Int32) → ∀ h34 : AH, h34 = up_I h33 r0 15 (0 : Int32) → Q h34) q9 h25) q8 h22) q7 b2 h19) q6 b1 h16) q5 h13) q4 h10) q2 h4) q1 h1
theorem b_J_init_0 {p : Program} {l : Launch} {e : Env} {R : Room} {s : State} {m : MethodId} {args : Array Value} {below : List Frame} {meth : Method} {c : Code} {D : DD} {h0 : AH} {Q : AH → Prop} (C : fx_CX D y_J_init prog_1_method_4_code 1 5 65 (none) [] h0 p R s m meth c) (hl : l.flags = flags0) (r0 : Nat) (h : AH) (hw : m_J_init Q r0 h) : ∀ (ls : Array Slot) (H : Heap) (locs : List Loc) (cells slots : Nat), lv_has ls 1 [(0, .ref r0)] → fx_F D h0 h H locs cells slots → W p l e R s m args below meth c H locs cells slots (fx_Z D below s h0 (fx_oV Q fx_no)) (F0 m 0 ls []) := by
  unfold m_J_init at hw
  intro ls H locs cells slots hv F
  refine lv_aload_n C.ex C.by d_J_init_0 rfl (lv_at hv 0 rfl) ?_
  refine fx_objI C (fx_m1 (List.mem_of_getElem? (i := 37) rfl)) (fx_m1 (List.mem_of_getElem? (i := 38) rfl)) (fx_m1 (List.mem_of_getElem? (i := 39) rfl)) hv.1 d_J_init_1 (by decide) (Nat.le_of_ble_eq_true rfl) ?_
  refine lv_aload_n C.ex C.by d_J_init_4 rfl (lv_at hv 0 rfl) ?_
  obtain ⟨hs, hw⟩ := hw
  let q1 : Nat := hp_z h
  let h1 : AH := up_N h 2 0 2
  replace hw := hw F.wf q1 rfl h1 rfl
  have hkq1 : hp_k h1 q1 = 2 := fx_nk _ _ _ _
  refine fx_new (ci := 1) (r := ("ChainJudge$Row", fx_T1, 2)) C F rfl (fx_m1 (List.mem_of_getElem? (i := 40) rfl)) (fx_m1 (List.mem_of_getElem? (i := 41) rfl)) (fx_m1 (List.mem_of_getElem? (i := 2) rfl)) hs d_J_init_5 (fun H cells slots (F : fx_F D h0 h1 H locs cells slots) => ?_)
  refine lv_dup C.ex C.by d_J_init_8 rfl ?_
  refine fx_callV C F (c_Row_init hl hw) hm_Row_init hi_Row_init hv.1 (by decide) (Nat.le_of_ble_eq_true rfl) (iv_Row_init C F lm_J_13 d_J_init_9) (fx_out0 _) fx_eno (fun h2 H locs cells slots hw hx1 F => ?_)
  replace hw := hw hx1
  have hkq1 := (hx1).k hkq1
  obtain ⟨hk1, hw⟩ := hw
  let h3 : AH := up_R h2 r0 0 (some q1)
  replace hw := hw h3 rfl
  refine fx_putR C F lf_J_14 hk1 rfl rfl (fx_mayF.ini rfl rfl rfl) d_J_init_12 (fun H locs (F : fx_F D h0 h3 H locs _ _) => ?_)
  refine lv_aload_n C.ex C.by d_J_init_15 rfl (lv_at hv 0 rfl) ?_
  obtain ⟨hs, hw⟩ := hw
  let q2 : Nat := hp_z h3
  let h4 : AH := up_N h3 2 0 2
  replace hw := hw F.wf q2 rfl h4 rfl
  have hkq1 := (F.xN (k := 2) (n := 0) (m := 2)).k hkq1
  have hk1 := (F.xN (k := 2) (n := 0) (m := 2)).k hk1
  have hkq2 : hp_k h4 q2 = 2 := fx_nk _ _ _ _
  refine fx_new (ci := 1) (r := ("ChainJudge$Row", fx_T1, 2)) C F rfl (fx_m1 (List.mem_of_getElem? (i := 40) rfl)) (fx_m1 (List.mem_of_getElem? (i := 41) rfl)) (fx_m1 (List.mem_of_getElem? (i := 2) rfl)) hs d_J_init_16 (fun H cells slots (F : fx_F D h0 h4 H locs cells slots) => ?_)
  refine lv_dup C.ex C.by d_J_init_19 rfl ?_
  refine fx_callV C F (c_Row_init hl hw) hm_Row_init hi_Row_init hv.1 (by decide) (Nat.le_of_ble_eq_true rfl) (iv_Row_init C F lm_J_13 d_J_init_20) (fx_out0 _) fx_eno (fun h5 H locs cells slots hw hx2 F => ?_)
  replace hw := hw hx2
  have hkq1 := (hx2).k hkq1
  have hkq2 := (hx2).k hkq2
  have hk1 := (hx2).k hk1
  let h6 : AH := up_R h5 r0 1 (some q2)
  replace hw := hw h6 rfl
  refine fx_putR C F lf_J_20 hk1 rfl rfl (fx_mayF.ini rfl rfl rfl) d_J_init_23 (fun H locs (F : fx_F D h0 h6 H locs _ _) => ?_)
  refine lv_aload_n C.ex C.by d_J_init_26 rfl (lv_at hv 0 rfl) ?_
  refine lv_bipush (v := (100 : Int32)) C.ex C.by d_J_init_27 (by decide) ?_
  obtain ⟨hs, hw⟩ := hw
  let q3 : Nat := hp_z h6
  let h7 : AH := up_N h6 105 100 100
  replace hw := hw F.wf q3 rfl h7 rfl
  have hkq1 := (F.xN (k := 105) (n := 100) (m := 100)).k hkq1
  have hkq2 := (F.xN (k := 105) (n := 100) (m := 100)).k hkq2
  have hk1 := (F.xN (k := 105) (n := 100) (m := 100)).k hk1
  have hkq3 : hp_k h7 q3 = 105 := fx_nk _ _ _ _
  refine fx_anewB (n := (100 : Int32)) C F (fx_m1 (List.mem_of_getElem? (i := 56) rfl)) (fx_m1 (List.mem_of_getElem? (i := 57) rfl)) (by decide) (by decide) hs d_J_init_29 (fun H cells slots (F : fx_F D h0 h7 H locs cells slots) => ?_)
  let h8 : AH := up_R h7 r0 2 (some q3)
  replace hw := hw h8 rfl
  refine fx_putR C F lf_J_25 hk1 rfl rfl (fx_mayF.ini rfl rfl rfl) d_J_init_32 (fun H locs (F : fx_F D h0 h8 H locs _ _) => ?_)
  refine lv_aload_n C.ex C.by d_J_init_35 rfl (lv_at hv 0 rfl) ?_
  refine lv_iconst (v := (0 : Int32)) C.ex C.by d_J_init_36 (by decide) ?_
  let h9 : AH := up_I h8 r0 3 (0 : Int32)
  replace hw := hw h9 rfl
  refine fx_putI C F lf_J_29 hk1 rfl rfl (fx_mayF.no rfl rfl) d_J_init_37 (fun H locs (F : fx_F D h0 h9 H locs _ _) => ?_)
  refine lv_aload_n C.ex C.by d_J_init_40 rfl (lv_at hv 0 rfl) ?_
  obtain ⟨hs, hw⟩ := hw
  let q4 : Nat := hp_z h9
  let h10 : AH := up_N h9 12 0 3
  replace hw := hw F.wf q4 rfl h10 rfl
  have hkq1 := (F.xN (k := 12) (n := 0) (m := 3)).k hkq1
  have hkq2 := (F.xN (k := 12) (n := 0) (m := 3)).k hkq2
  have hkq3 := (F.xN (k := 12) (n := 0) (m := 3)).k hkq3
  have hk1 := (F.xN (k := 12) (n := 0) (m := 3)).k hk1
  have hkq4 : hp_k h10 q4 = 12 := fx_nk _ _ _ _
  refine fx_new (ci := 11) (r := ("java/util/ArrayList", fx_T11, 3)) C F rfl (fx_m1 (List.mem_of_getElem? (i := 58) rfl)) (fx_m1 (List.mem_of_getElem? (i := 59) rfl)) (fx_m1 (List.mem_of_getElem? (i := 5) rfl)) hs d_J_init_41 (fun H cells slots (F : fx_F D h0 h10 H locs cells slots) => ?_)
  refine lv_dup C.ex C.by d_J_init_44 rfl ?_
  refine fx_callV C F (c_AL_init hl hw) hm_AL_init hi_AL_init hv.1 (by decide) (Nat.le_of_ble_eq_true rfl) (iv_AL_init C F lm_J_35 d_J_init_45) (fx_out0 _) fx_eno (fun h11 H locs cells slots hw hx3 F => ?_)
  replace hw := hw hx3
  have hkq1 := (hx3).k hkq1
  have hkq2 := (hx3).k hkq2
  have hkq3 := (hx3).k hkq3
  have hkq4 := (hx3).k hkq4
  have hk1 := (hx3).k hk1
  let h12 : AH := up_R h11 r0 4 (some q4)
  replace hw := hw h12 rfl
  refine fx_putR C F lf_J_36 hk1 rfl rfl (fx_mayF.ini rfl rfl rfl) d_J_init_48 (fun H locs (F : fx_F D h0 h12 H locs _ _) => ?_)
  refine lv_aload_n C.ex C.by d_J_init_51 rfl (lv_at hv 0 rfl) ?_
  obtain ⟨hs, hw⟩ := hw
  let q5 : Nat := hp_z h12
  let h13 : AH := up_N h12 4 0 2
  replace hw := hw F.wf q5 rfl h13 rfl
  have hkq1 := (F.xN (k := 4) (n := 0) (m := 2)).k hkq1
  have hkq2 := (F.xN (k := 4) (n := 0) (m := 2)).k hkq2
  have hkq3 := (F.xN (k := 4) (n := 0) (m := 2)).k hkq3
  have hkq4 := (F.xN (k := 4) (n := 0) (m := 2)).k hkq4
  have hk1 := (F.xN (k := 4) (n := 0) (m := 2)).k hk1
  have hkq5 : hp_k h13 q5 = 4 := fx_nk _ _ _ _
  refine fx_new (ci := 3) (r := ("ChainJudge$KeyedMarks", fx_T3, 2)) C F rfl (fx_m1 (List.mem_of_getElem? (i := 84) rfl)) (fx_m1 (List.mem_of_getElem? (i := 85) rfl)) (fx_m1 (List.mem_of_getElem? (i := 6) rfl)) hs d_J_init_52 (fun H cells slots (F : fx_F D h0 h13 H locs cells slots) => ?_)
  refine lv_dup C.ex C.by d_J_init_55 rfl ?_
  refine fx_callV C F (c_KM_init hl hw) hm_KM_init hi_KM_init hv.1 (by decide) (Nat.le_of_ble_eq_true rfl) (iv_KM_init C F lm_J_42 d_J_init_56) (fx_out0 _) fx_eno (fun h14 H locs cells slots hw hx4 F => ?_)
  replace hw := hw hx4
  have hkq1 := (hx4).k hkq1
  have hkq2 := (hx4).k hkq2
  have hkq3 := (hx4).k hkq3
  have hkq4 := (hx4).k hkq4
  have hkq5 := (hx4).k hkq5
  have hk1 := (hx4).k hk1
  let h15 : AH := up_R h14 r0 5 (some q5)
  replace hw := hw h15 rfl
  refine fx_putR C F lf_J_43 hk1 rfl rfl (fx_mayF.ini rfl rfl rfl) d_J_init_59 (fun H locs (F : fx_F D h0 h15 H locs _ _) => ?_)
  refine lv_aload_n C.ex C.by d_J_init_62 rfl (lv_at hv 0 rfl) ?_
  obtain ⟨hs, hw⟩ := hw
  let q6 : Nat := hp_z h15
  let h16 : AH := up_N h15 7 0 8
  replace hw := hw F.wf q6 rfl h16 rfl
  have hkq1 := (F.xN (k := 7) (n := 0) (m := 8)).k hkq1
  have hkq2 := (F.xN (k := 7) (n := 0) (m := 8)).k hkq2
  have hkq3 := (F.xN (k := 7) (n := 0) (m := 8)).k hkq3
  have hkq4 := (F.xN (k := 7) (n := 0) (m := 8)).k hkq4
  have hkq5 := (F.xN (k := 7) (n := 0) (m := 8)).k hkq5
  have hk1 := (F.xN (k := 7) (n := 0) (m := 8)).k hk1
  have hkq6 : hp_k h16 q6 = 7 := fx_nk _ _ _ _
  refine fx_new (ci := 6) (r := ("ChainJudge$Paths", fx_T6, 8)) C F rfl (fx_m1 (List.mem_of_getElem? (i := 159) rfl)) (fx_m1 (List.mem_of_getElem? (i := 160) rfl)) (fx_m1 (List.mem_of_getElem? (i := 10) rfl)) hs d_J_init_63 (fun H cells slots (F : fx_F D h0 h16 H locs cells slots) => ?_)
  refine lv_dup C.ex C.by d_J_init_66 rfl ?_
  refine lv_aload_n C.ex C.by d_J_init_67 rfl (lv_at hv 0 rfl) ?_
  obtain ⟨b1, hb1, hw⟩ := hw
  refine fx_getR C F lf_J_43 hk1 rfl hb1 d_J_init_68 ?_
  refine fx_callV C F (c_Paths_init hl hw) hm_Paths_init hi_Paths_init hv.1 (by decide) (Nat.le_of_ble_eq_true rfl) (iv_Paths_init C F lm_J_49 d_J_init_71) (fx_out0 _) fx_eno (fun h17 H locs cells slots hw hx5 F => ?_)
  replace hw := hw hx5
  have hkq1 := (hx5).k hkq1
  have hkq2 := (hx5).k hkq2
  have hkq3 := (hx5).k hkq3
  have hkq4 := (hx5).k hkq4
  have hkq5 := (hx5).k hkq5
  have hkq6 := (hx5).k hkq6
  have hk1 := (hx5).k hk1
  let h18 : AH := up_R h17 r0 6 (some q6)
  replace hw := hw h18 rfl
  refine fx_putR C F lf_J_52 hk1 rfl rfl (fx_mayF.ini rfl rfl rfl) d_J_init_74 (fun H locs (F : fx_F D h0 h18 H locs _ _) => ?_)
  refine lv_aload_n C.ex C.by d_J_init_77 rfl (lv_at hv 0 rfl) ?_
  obtain ⟨hs, hw⟩ := hw
  let q7 : Nat := hp_z h18
  let h19 : AH := up_N h18 8 0 29
  replace hw := hw F.wf q7 rfl h19 rfl
  have hkq1 := (F.xN (k := 8) (n := 0) (m := 29)).k hkq1
  have hkq2 := (F.xN (k := 8) (n := 0) (m := 29)).k hkq2
  have hkq3 := (F.xN (k := 8) (n := 0) (m := 29)).k hkq3
  have hkq4 := (F.xN (k := 8) (n := 0) (m := 29)).k hkq4
  have hkq5 := (F.xN (k := 8) (n := 0) (m := 29)).k hkq5
  have hkq6 := (F.xN (k := 8) (n := 0) (m := 29)).k hkq6
  have hk1 := (F.xN (k := 8) (n := 0) (m := 29)).k hk1
  have hkq7 : hp_k h19 q7 = 8 := fx_nk _ _ _ _
  refine fx_new (ci := 7) (r := ("ChainJudge$Certificate", fx_T7, 29)) C F rfl (fx_m1 (List.mem_of_getElem? (i := 196) rfl)) (fx_m1 (List.mem_of_getElem? (i := 197) rfl)) (fx_m1 (List.mem_of_getElem? (i := 11) rfl)) hs d_J_init_78 (fun H cells slots (F : fx_F D h0 h19 H locs cells slots) => ?_)
  refine lv_dup C.ex C.by d_J_init_81 rfl ?_
  refine lv_aload_n C.ex C.by d_J_init_82 rfl (lv_at hv 0 rfl) ?_
  obtain ⟨b2, hb2, hw⟩ := hw
  refine fx_getR C F lf_J_43 hk1 rfl hb2 d_J_init_83 ?_
  refine fx_callV C F (c_Cert_init hl hw) hm_Cert_init hi_Cert_init hv.1 (by decide) (Nat.le_of_ble_eq_true rfl) (iv_Cert_init C F lm_J_58 d_J_init_86) (fx_out0 _) fx_eno (fun h20 H locs cells slots hw hx6 F => ?_)
  replace hw := hw hx6
  have hkq1 := (hx6).k hkq1
  have hkq2 := (hx6).k hkq2
  have hkq3 := (hx6).k hkq3
  have hkq4 := (hx6).k hkq4
  have hkq5 := (hx6).k hkq5
  have hkq6 := (hx6).k hkq6
  have hkq7 := (hx6).k hkq7
  have hk1 := (hx6).k hk1
  let h21 : AH := up_R h20 r0 7 (some q7)
  replace hw := hw h21 rfl
  refine fx_putR C F lf_J_59 hk1 rfl rfl (fx_mayF.ini rfl rfl rfl) d_J_init_89 (fun H locs (F : fx_F D h0 h21 H locs _ _) => ?_)
  refine lv_aload_n C.ex C.by d_J_init_92 rfl (lv_at hv 0 rfl) ?_
  obtain ⟨hs, hw⟩ := hw
  let q8 : Nat := hp_z h21
  let h22 : AH := up_N h21 10 0 2
  replace hw := hw F.wf q8 rfl h22 rfl
  have hkq1 := (F.xN (k := 10) (n := 0) (m := 2)).k hkq1
  have hkq2 := (F.xN (k := 10) (n := 0) (m := 2)).k hkq2
  have hkq3 := (F.xN (k := 10) (n := 0) (m := 2)).k hkq3
  have hkq4 := (F.xN (k := 10) (n := 0) (m := 2)).k hkq4
  have hkq5 := (F.xN (k := 10) (n := 0) (m := 2)).k hkq5
  have hkq6 := (F.xN (k := 10) (n := 0) (m := 2)).k hkq6
  have hkq7 := (F.xN (k := 10) (n := 0) (m := 2)).k hkq7
  have hk1 := (F.xN (k := 10) (n := 0) (m := 2)).k hk1
  have hkq8 : hp_k h22 q8 = 10 := fx_nk _ _ _ _
  refine fx_new (ci := 9) (r := ("ChainJudge$Issuer", fx_T9, 2)) C F rfl (fx_m2 (List.mem_of_getElem? (i := 84) rfl)) (fx_m2 (List.mem_of_getElem? (i := 85) rfl)) (fx_m1 (List.mem_of_getElem? (i := 13) rfl)) hs d_J_init_93 (fun H cells slots (F : fx_F D h0 h22 H locs cells slots) => ?_)
  refine lv_dup C.ex C.by d_J_init_96 rfl ?_
  refine fx_callV C F (c_Iss_init hl hw) hm_Iss_init hi_Iss_init hv.1 (by decide) (Nat.le_of_ble_eq_true rfl) (iv_Iss_init C F lm_J_65 d_J_init_97) (fx_out0 _) fx_eno (fun h23 H locs cells slots hw hx7 F => ?_)
  replace hw := hw hx7
  have hkq1 := (hx7).k hkq1
  have hkq2 := (hx7).k hkq2
  have hkq3 := (hx7).k hkq3
  have hkq4 := (hx7).k hkq4
  have hkq5 := (hx7).k hkq5
  have hkq6 := (hx7).k hkq6
  have hkq7 := (hx7).k hkq7
  have hkq8 := (hx7).k hkq8
  have hk1 := (hx7).k hk1
  let h24 : AH := up_R h23 r0 8 (some q8)
  replace hw := hw h24 rfl
  refine fx_putR C F lf_J_66 hk1 rfl rfl (fx_mayF.ini rfl rfl rfl) d_J_init_100 (fun H locs (F : fx_F D h0 h24 H locs _ _) => ?_)
  refine lv_aload_n C.ex C.by d_J_init_103 rfl (lv_at hv 0 rfl) ?_
  obtain ⟨hs, hw⟩ := hw
  let q9 : Nat := hp_z h24
  let h25 : AH := up_N h24 11 0 2
  replace hw := hw F.wf q9 rfl h25 rfl
  have hkq1 := (F.xN (k := 11) (n := 0) (m := 2)).k hkq1
  have hkq2 := (F.xN (k := 11) (n := 0) (m := 2)).k hkq2
  have hkq3 := (F.xN (k := 11) (n := 0) (m := 2)).k hkq3
  have hkq4 := (F.xN (k := 11) (n := 0) (m := 2)).k hkq4
  have hkq5 := (F.xN (k := 11) (n := 0) (m := 2)).k hkq5
  have hkq6 := (F.xN (k := 11) (n := 0) (m := 2)).k hkq6
  have hkq7 := (F.xN (k := 11) (n := 0) (m := 2)).k hkq7
  have hkq8 := (F.xN (k := 11) (n := 0) (m := 2)).k hkq8
  have hk1 := (F.xN (k := 11) (n := 0) (m := 2)).k hk1
  have hkq9 : hp_k h25 q9 = 11 := fx_nk _ _ _ _
  refine fx_new (ci := 10) (r := ("ChainJudge$Writer", fx_T10, 2)) C F rfl (fx_m2 (List.mem_of_getElem? (i := 113) rfl)) (fx_m2 (List.mem_of_getElem? (i := 91) rfl)) (fx_m1 (List.mem_of_getElem? (i := 14) rfl)) hs d_J_init_104 (fun H cells slots (F : fx_F D h0 h25 H locs cells slots) => ?_)
  refine lv_dup C.ex C.by d_J_init_107 rfl ?_
  refine fx_callV C F (c_Wr_init hl hw) hm_Wr_init hi_Wr_init hv.1 (by decide) (Nat.le_of_ble_eq_true rfl) (iv_Wr_init C F lm_J_72 d_J_init_108) (fx_out0 _) fx_eno (fun h26 H locs cells slots hw hx8 F => ?_)
  replace hw := hw hx8
  have hkq1 := (hx8).k hkq1
  have hkq2 := (hx8).k hkq2
  have hkq3 := (hx8).k hkq3
  have hkq4 := (hx8).k hkq4
  have hkq5 := (hx8).k hkq5
  have hkq6 := (hx8).k hkq6
  have hkq7 := (hx8).k hkq7
  have hkq8 := (hx8).k hkq8
  have hkq9 := (hx8).k hkq9
  have hk1 := (hx8).k hk1
  let h27 : AH := up_R h26 r0 9 (some q9)
  replace hw := hw h27 rfl
  refine fx_putR C F lf_J_73 hk1 rfl rfl (fx_mayF.ini rfl rfl rfl) d_J_init_111 (fun H locs (F : fx_F D h0 h27 H locs _ _) => ?_)
  refine lv_aload_n C.ex C.by d_J_init_114 rfl (lv_at hv 0 rfl) ?_
  refine lv_bipush (v := (16 : Int32)) C.ex C.by d_J_init_115 (by decide) ?_
  obtain ⟨hs, hw⟩ := hw
  let q10 : Nat := hp_z h27
  let h28 : AH := up_N h27 102 16 16
  replace hw := hw F.wf q10 rfl h28 rfl
  have hkq1 := (F.xN (k := 102) (n := 16) (m := 16)).k hkq1
  have hkq2 := (F.xN (k := 102) (n := 16) (m := 16)).k hkq2
  have hkq3 := (F.xN (k := 102) (n := 16) (m := 16)).k hkq3
  have hkq4 := (F.xN (k := 102) (n := 16) (m := 16)).k hkq4
  have hkq5 := (F.xN (k := 102) (n := 16) (m := 16)).k hkq5
  have hkq6 := (F.xN (k := 102) (n := 16) (m := 16)).k hkq6
  have hkq7 := (F.xN (k := 102) (n := 16) (m := 16)).k hkq7
  have hkq8 := (F.xN (k := 102) (n := 16) (m := 16)).k hkq8
  have hkq9 := (F.xN (k := 102) (n := 16) (m := 16)).k hkq9
  have hk1 := (F.xN (k := 102) (n := 16) (m := 16)).k hk1
  have hkq10 : hp_k h28 q10 = 102 := fx_nk _ _ _ _
  refine fx_newaI (n := (16 : Int32)) C F (fx_m1 (List.mem_of_getElem? (i := 128) rfl)) (by decide) (by decide) hs d_J_init_117 (fun H cells slots (F : fx_F D h0 h28 H locs cells slots) => ?_)
  let h29 : AH := up_R h28 r0 10 (some q10)
  replace hw := hw h29 rfl
  refine fx_putR C F lf_J_77 hk1 rfl rfl (fx_mayF.ini rfl rfl rfl) d_J_init_119 (fun H locs (F : fx_F D h0 h29 H locs _ _) => ?_)
  refine lv_aload_n C.ex C.by d_J_init_122 rfl (lv_at hv 0 rfl) ?_
  refine lv_iconst (v := (0 : Int32)) C.ex C.by d_J_init_123 (by decide) ?_
  let h30 : AH := up_I h29 r0 11 (0 : Int32)
  replace hw := hw h30 rfl
  refine fx_putI C F lf_J_81 hk1 rfl rfl (fx_mayF.no rfl rfl) d_J_init_124 (fun H locs (F : fx_F D h0 h30 H locs _ _) => ?_)
  refine lv_aload_n C.ex C.by d_J_init_127 rfl (lv_at hv 0 rfl) ?_
  refine lv_iconst (v := (-1 : Int32)) C.ex C.by d_J_init_128 (by decide) ?_
  let h31 : AH := up_I h30 r0 12 (-1 : Int32)
  replace hw := hw h31 rfl
  refine fx_putI C F lf_J_84 hk1 rfl rfl (fx_mayF.no rfl rfl) d_J_init_129 (fun H locs (F : fx_F D h0 h31 H locs _ _) => ?_)
  refine lv_aload_n C.ex C.by d_J_init_132 rfl (lv_at hv 0 rfl) ?_
  refine lv_iconst (v := (0 : Int32)) C.ex C.by d_J_init_133 (by decide) ?_
  let h32 : AH := up_I h31 r0 13 (0 : Int32)
  replace hw := hw h32 rfl
  refine fx_putI C F lf_J_87 hk1 rfl rfl (fx_mayF.no rfl rfl) d_J_init_134 (fun H locs (F : fx_F D h0 h32 H locs _ _) => ?_)
  refine lv_aload_n C.ex C.by d_J_init_137 rfl (lv_at hv 0 rfl) ?_
  refine lv_iconst (v := (0 : Int32)) C.ex C.by d_J_init_138 (by decide) ?_
  let h33 : AH := up_I h32 r0 14 (0 : Int32)
  replace hw := hw h33 rfl
  refine fx_putI C F lf_J_90 hk1 rfl rfl (fx_mayF.no rfl rfl) d_J_init_139 (fun H locs (F : fx_F D h0 h33 H locs _ _) => ?_)
  refine lv_aload_n C.ex C.by d_J_init_142 rfl (lv_at hv 0 rfl) ?_
  refine lv_iconst (v := (0 : Int32)) C.ex C.by d_J_init_143 (by decide) ?_
  let h34 : AH := up_I h33 r0 15 (0 : Int32)
  replace hw := hw h34 rfl
  refine fx_putI C F lf_J_93 hk1 rfl rfl (fx_mayF.no rfl rfl) d_J_init_144 (fun H locs (F : fx_F D h0 h34 H locs _ _) => ?_)
  exact fx_vret C F d_J_init_147 (Or.inl ⟨rfl, hw⟩)
theorem hm_J_init : fx_hd y_J_init prog_1_method_4_code 1 (none) [] ∈ tables_1 := (fx_m1 (List.mem_of_getElem? (i := 36) rfl))
theorem hi_J_init : Cond.initialized y_J_init.cls ∈ tables_1 := (fx_m1 (List.mem_of_getElem? (i := 1) rfl))
theorem c_J_init {l : Launch} (hl : l.flags = flags0) {D : DD} {Q : AH → Prop} {r0 : Nat} {h : AH} (hw : m_J_init Q r0 h) : fx_Mt l D y_J_init (fx_hd y_J_init prog_1_method_4_code 1 (none) []) 5 65 [.ref r0] h (fx_oV Q fx_no) := by
  refine fx_ofW (plainFor_of_name (by decide)) (fun p e s m below meth c C F => ?_)
  have hv := lv_entry ([.ref r0]) (n := 1) (Nat.le_of_ble_eq_true rfl)
  rw [lg_entry_eq]
  generalize (lg_sl ([.ref r0]) ++ List.replicate (1 - (lg_sl ([.ref r0])).length) Slot.unset).toArray = ls at hv ⊢
  have hv : lv_has ls 1 [(0, .ref r0)] := hv
  exact b_J_init_0 C hl _ _ hw _ _ _ _ _ hv F
/-! ChainJudge.clear()V: frames 0, words 0 -/
abbrev y_J_clear : MethodName := ⟨"ChainJudge", "clear", "()V"⟩
def dl_J_clear : List (Nat × Instr × Nat) := [(0, .aload_n 0, 1), (1, .iconst 0, 1), (2, .putfield 81, 3), (5, .return_, 1)]
theorem dk_J_clear : fx_dec prog_1_method_21_code dl_J_clear = true := by decide +kernel
theorem d_J_clear_0 : decode prog_1_method_21_code 0 = .ok (.aload_n 0, 1) := fx_dat dk_J_clear 0 rfl
theorem d_J_clear_1 : decode prog_1_method_21_code 1 = .ok (.iconst 0, 1) := fx_dat dk_J_clear 1 rfl
theorem d_J_clear_2 : decode prog_1_method_21_code 2 = .ok (.putfield 81, 3) := fx_dat dk_J_clear 2 rfl
theorem d_J_clear_5 : decode prog_1_method_21_code 5 = .ok (.return_, 1) := fx_dat dk_J_clear 3 rfl
def m_J_clear (Q : AH → Prop) (r0 : Nat) (h : AH) : Prop := hp_k h r0 = 1 ∧ ∀ h1 : AH, h1 = up_I h r0 11 (0 : Int32) → Q h1
theorem b_J_clear_0 {p : Program} {l : Launch} {e : Env} {R : Room} {s : State} {m : MethodId} {args : Array Value} {below : List Frame} {meth : Method} {c : Code} {D : DD} {h0 : AH} {Q : AH → Prop} (C : fx_CX D y_J_clear prog_1_method_21_code 1 0 0 (none) [] h0 p R s m meth c) (hl : l.flags = flags0) (r0 : Nat) (h : AH) (hw : m_J_clear Q r0 h) : ∀ (ls : Array Slot) (H : Heap) (locs : List Loc) (cells slots : Nat), lv_has ls 1 [(0, .ref r0)] → fx_F D h0 h H locs cells slots → W p l e R s m args below meth c H locs cells slots (fx_Z D below s h0 (fx_oV Q fx_no)) (F0 m 0 ls []) := by
  unfold m_J_clear at hw
  intro ls H locs cells slots hv F
  refine lv_aload_n C.ex C.by d_J_clear_0 rfl (lv_at hv 0 rfl) ?_
  refine lv_iconst (v := (0 : Int32)) C.ex C.by d_J_clear_1 (by decide) ?_
  obtain ⟨hk1, hw⟩ := hw
  let h1 : AH := up_I h r0 11 (0 : Int32)
  replace hw := hw h1 rfl
  refine fx_putI C F lf_J_81 hk1 rfl rfl (fx_mayF.no rfl rfl) d_J_clear_2 (fun H locs (F : fx_F D h0 h1 H locs _ _) => ?_)
  exact fx_vret C F d_J_clear_5 (Or.inl ⟨rfl, hw⟩)
theorem hm_J_clear : fx_hd y_J_clear prog_1_method_21_code 1 (none) [] ∈ tables_1 := (fx_m2 (List.mem_of_getElem? (i := 167) rfl))
theorem hi_J_clear : Cond.initialized y_J_clear.cls ∈ tables_1 := (fx_m1 (List.mem_of_getElem? (i := 1) rfl))
theorem c_J_clear {l : Launch} (hl : l.flags = flags0) {D : DD} {Q : AH → Prop} {r0 : Nat} {h : AH} (hw : m_J_clear Q r0 h) : fx_Mt l D y_J_clear (fx_hd y_J_clear prog_1_method_21_code 1 (none) []) 0 0 [.ref r0] h (fx_oV Q fx_no) := by
  refine fx_ofW (plainFor_of_name (by decide)) (fun p e s m below meth c C F => ?_)
  have hv := lv_entry ([.ref r0]) (n := 1) (Nat.le_of_ble_eq_true rfl)
  rw [lg_entry_eq]
  generalize (lg_sl ([.ref r0]) ++ List.replicate (1 - (lg_sl ([.ref r0])).length) Slot.unset).toArray = ls at hv ⊢
  have hv : lv_has ls 1 [(0, .ref r0)] := hv
  exact b_J_clear_0 C hl _ _ hw _ _ _ _ _ hv F
/-! java/util/ArrayList.size()I: frames 0, words 0 -/
abbrev y_AL_size : MethodName := ⟨"java/util/ArrayList", "size", "()I"⟩
theorem lf_AL_48 : fx_Lk "java/util/ArrayList" 48 11 1 := fx_Lk.mk (C := "java/util/ArrayList") (T := fx_T11) (N := 3) rfl (by decide) (by decide) (fx_m1 (List.mem_of_getElem? (i := 73) rfl))
def dl_AL_size : List (Nat × Instr × Nat) := [(0, .aload_n 0, 1), (1, .getfield 48, 3), (4, .ireturn, 1)]
theorem dk_AL_size : fx_dec prog_31_method_8_code dl_AL_size = true := by decide +kernel
theorem d_AL_size_0 : decode prog_31_method_8_code 0 = .ok (.aload_n 0, 1) := fx_dat dk_AL_size 0 rfl
theorem d_AL_size_1 : decode prog_31_method_8_code 1 = .ok (.getfield 48, 3) := fx_dat dk_AL_size 1 rfl
theorem d_AL_size_4 : decode prog_31_method_8_code 4 = .ok (.ireturn, 1) := fx_dat dk_AL_size 2 rfl
def m_AL_size (Q : Int32 → AH → Prop) (r0 : Nat) (h : AH) : Prop := hp_k h r0 = 12 ∧ Q (hp_I h r0 1) h
theorem b_AL_size_0 {p : Program} {l : Launch} {e : Env} {R : Room} {s : State} {m : MethodId} {args : Array Value} {below : List Frame} {meth : Method} {c : Code} {D : DD} {h0 : AH} {Q : Int32 → AH → Prop} (C : fx_CX D y_AL_size prog_31_method_8_code 1 0 0 (Option.some FieldType.int) [] h0 p R s m meth c) (hl : l.flags = flags0) (r0 : Nat) (h : AH) (hw : m_AL_size Q r0 h) : ∀ (ls : Array Slot) (H : Heap) (locs : List Loc) (cells slots : Nat), lv_has ls 1 [(0, .ref r0)] → fx_F D h0 h H locs cells slots → W p l e R s m args below meth c H locs cells slots (fx_Z D below s h0 (fx_oI Q fx_no)) (F0 m 0 ls []) := by
  unfold m_AL_size at hw
  intro ls H locs cells slots hv F
  refine lv_aload_n C.ex C.by d_AL_size_0 rfl (lv_at hv 0 rfl) ?_
  obtain ⟨hk1, hw⟩ := hw
  refine fx_getI C F lf_AL_48 hk1 rfl d_AL_size_1 ?_
  exact fx_iret C F d_AL_size_4 (Or.inl ⟨_, rfl, hw⟩)
theorem hm_AL_size : fx_hd y_AL_size prog_31_method_8_code 1 (Option.some FieldType.int) [] ∈ tables_1 := (fx_m2 (List.mem_of_getElem? (i := 175) rfl))
theorem hi_AL_size : Cond.initialized y_AL_size.cls ∈ tables_1 := (fx_m1 (List.mem_of_getElem? (i := 5) rfl))
theorem c_AL_size {l : Launch} (hl : l.flags = flags0) {D : DD} {Q : Int32 → AH → Prop} {r0 : Nat} {h : AH} (hw : m_AL_size Q r0 h) : fx_Mt l D y_AL_size (fx_hd y_AL_size prog_31_method_8_code 1 (Option.some FieldType.int) []) 0 0 [.ref r0] h (fx_oI Q fx_no) := by
  refine fx_ofW (by decide +kernel) (fun p e s m below meth c C F => ?_)
  have hv := lv_entry ([.ref r0]) (n := 1) (Nat.le_of_ble_eq_true rfl)
  rw [lg_entry_eq]
  generalize (lg_sl ([.ref r0]) ++ List.replicate (1 - (lg_sl ([.ref r0])).length) Slot.unset).toArray = ls at hv ⊢
  have hv : lv_has ls 1 [(0, .ref r0)] := hv
  exact b_AL_size_0 C hl _ _ hw _ _ _ _ _ hv F
/-! ChainJudge.count(I)I: frames 1, words 12 -/
abbrev y_J_count : MethodName := ⟨"ChainJudge", "count", "(I)I"⟩
theorem lf_J_96 : fx_Lk "ChainJudge" 96 1 1 := fx_Lk.mk (C := "ChainJudge$Row") (T := fx_T1) (N := 2) rfl (by decide) (by decide) (fx_m1 (List.mem_of_getElem? (i := 49) rfl))
theorem lf_J_275 : fx_Lk "ChainJudge" 275 6 2 := fx_Lk.mk (C := "ChainJudge$Paths") (T := fx_T6) (N := 8) rfl (by decide) (by decide) (fx_m1 (List.mem_of_getElem? (i := 170) rfl))
theorem lf_J_293 : fx_Lk "ChainJudge" 293 6 6 := fx_Lk.mk (C := "ChainJudge$Paths") (T := fx_T6) (N := 8) rfl (by decide) (by decide) (fx_m1 (List.mem_of_getElem? (i := 176) rfl))
theorem lm_J_125 : Cond.methodLink "ChainJudge" 125 y_AL_size ∈ tables_1 ∨ ∃ host, Cond.methodLinkNest "ChainJudge" 125 y_AL_size host ∈ tables_1 := Or.inl (fx_m2 (List.mem_of_getElem? (i := 172) rfl))
section
variable {p : Program} {l : Launch} {e : Env} {R : Room} {s : State} {m : MethodId} {args : Array Value} {below : List Frame} {meth : Method} {c : Code} {H : Heap} {locs : List Loc} {cells slots : Nat}
variable {D : DD} {y : MethodName} {cc : ByteArray} {nL kf kw : Nat} {ret : Option FieldType} {hh : List (Nat × Nat × Nat × Nat)} {h0 h : AH} {pc : Nat} {ls : Array Slot} {rest : List Value} {b idx : Nat}
theorem iv_AL_size (C : fx_CX D y cc nL kf kw ret hh h0 p R s m meth c) (F : fx_F D h0 h H locs cells slots) (hw1 : Cond.methodLink y.cls idx y_AL_size ∈ tables_1 ∨ ∃ host, Cond.methodLinkNest y.cls idx y_AL_size host ∈ tables_1) (hk : hp_k h b = 12) (hd : decode cc pc = .ok (.invokevirtual idx, 3)) : fx_IV p l e R s m args below meth c H locs cells slots (F0 m pc ls (.ref b :: rest)) rest y_AL_size [.ref b] 3 := fun T hT X => fx_invV (As := []) (Cn := "java/util/ArrayList") C X hw1 (fx_m2 (List.mem_of_getElem? (i := 173) rfl)) (fx_selW C (fx_m2 (List.mem_of_getElem? (i := 174) rfl))) hm_AL_size ⟨by decide, by decide⟩ (by rw [hT]; exact fx_clsO (ci := 11) (r := ("java/util/ArrayList", fx_T11, 3)) C F rfl (by decide) hk) rfl (n := 0) (by decide +kernel) rfl rfl hd
end
def dl_J_count : List (Nat × Instr × Nat) := [(0, .iload_n 1, 1), (1, .tableswitch 114 0 8 #[51, 59, 64, 72, 77, 88, 96, 101, 106], 51), (52, .aload_n 0, 1), (53, .getfield 14, 3), (56, .getfield 96, 3), (59, .ireturn, 1), (60, .aload_n 0, 1), (61, .getfield 29, 3), (64, .ireturn, 1), (65, .aload_n 0, 1), (66, .getfield 36, 3), (69, .invokevirtual 125, 3), (72, .ireturn, 1), (73, .aload_n 0, 1), (74, .getfield 81, 3), (77, .ireturn, 1), (78, .aload_n 0, 1), (79, .getfield 52, 3), (82, .getfield 275, 3), (85, .invokevirtual 125, 3), (88, .ireturn, 1), (89, .aload_n 0, 1), (90, .getfield 20, 3), (93, .getfield 96, 3), (96, .ireturn, 1), (97, .aload_n 0, 1), (98, .getfield 87, 3), (101, .ireturn, 1), (102, .aload_n 0, 1), (103, .getfield 90, 3), (106, .ireturn, 1), (107, .aload_n 0, 1), (108, .getfield 52, 3), (111, .getfield 293, 3), (114, .ireturn, 1), (115, .iconst (-1), 1), (116, .ireturn, 1)]
theorem dk_J_count : fx_dec prog_1_method_26_code dl_J_count = true := by decide +kernel
theorem d_J_count_0 : decode prog_1_method_26_code 0 = .ok (.iload_n 1, 1) := fx_dat dk_J_count 0 rfl
theorem d_J_count_1 : decode prog_1_method_26_code 1 = .ok (.tableswitch 114 0 8 #[51, 59, 64, 72, 77, 88, 96, 101, 106], 51) := fx_dat dk_J_count 1 rfl
theorem d_J_count_52 : decode prog_1_method_26_code 52 = .ok (.aload_n 0, 1) := fx_dat dk_J_count 2 rfl
theorem d_J_count_53 : decode prog_1_method_26_code 53 = .ok (.getfield 14, 3) := fx_dat dk_J_count 3 rfl
theorem d_J_count_56 : decode prog_1_method_26_code 56 = .ok (.getfield 96, 3) := fx_dat dk_J_count 4 rfl
theorem d_J_count_59 : decode prog_1_method_26_code 59 = .ok (.ireturn, 1) := fx_dat dk_J_count 5 rfl
theorem d_J_count_60 : decode prog_1_method_26_code 60 = .ok (.aload_n 0, 1) := fx_dat dk_J_count 6 rfl
theorem d_J_count_61 : decode prog_1_method_26_code 61 = .ok (.getfield 29, 3) := fx_dat dk_J_count 7 rfl
theorem d_J_count_64 : decode prog_1_method_26_code 64 = .ok (.ireturn, 1) := fx_dat dk_J_count 8 rfl
theorem d_J_count_65 : decode prog_1_method_26_code 65 = .ok (.aload_n 0, 1) := fx_dat dk_J_count 9 rfl
theorem d_J_count_66 : decode prog_1_method_26_code 66 = .ok (.getfield 36, 3) := fx_dat dk_J_count 10 rfl
theorem d_J_count_69 : decode prog_1_method_26_code 69 = .ok (.invokevirtual 125, 3) := fx_dat dk_J_count 11 rfl
theorem d_J_count_72 : decode prog_1_method_26_code 72 = .ok (.ireturn, 1) := fx_dat dk_J_count 12 rfl
theorem d_J_count_73 : decode prog_1_method_26_code 73 = .ok (.aload_n 0, 1) := fx_dat dk_J_count 13 rfl
theorem d_J_count_74 : decode prog_1_method_26_code 74 = .ok (.getfield 81, 3) := fx_dat dk_J_count 14 rfl
theorem d_J_count_77 : decode prog_1_method_26_code 77 = .ok (.ireturn, 1) := fx_dat dk_J_count 15 rfl
theorem d_J_count_78 : decode prog_1_method_26_code 78 = .ok (.aload_n 0, 1) := fx_dat dk_J_count 16 rfl
theorem d_J_count_79 : decode prog_1_method_26_code 79 = .ok (.getfield 52, 3) := fx_dat dk_J_count 17 rfl
theorem d_J_count_82 : decode prog_1_method_26_code 82 = .ok (.getfield 275, 3) := fx_dat dk_J_count 18 rfl
theorem d_J_count_85 : decode prog_1_method_26_code 85 = .ok (.invokevirtual 125, 3) := fx_dat dk_J_count 19 rfl
theorem d_J_count_88 : decode prog_1_method_26_code 88 = .ok (.ireturn, 1) := fx_dat dk_J_count 20 rfl
theorem d_J_count_89 : decode prog_1_method_26_code 89 = .ok (.aload_n 0, 1) := fx_dat dk_J_count 21 rfl
theorem d_J_count_90 : decode prog_1_method_26_code 90 = .ok (.getfield 20, 3) := fx_dat dk_J_count 22 rfl
theorem d_J_count_93 : decode prog_1_method_26_code 93 = .ok (.getfield 96, 3) := fx_dat dk_J_count 23 rfl
theorem d_J_count_96 : decode prog_1_method_26_code 96 = .ok (.ireturn, 1) := fx_dat dk_J_count 24 rfl
theorem d_J_count_97 : decode prog_1_method_26_code 97 = .ok (.aload_n 0, 1) := fx_dat dk_J_count 25 rfl
theorem d_J_count_98 : decode prog_1_method_26_code 98 = .ok (.getfield 87, 3) := fx_dat dk_J_count 26 rfl
theorem d_J_count_101 : decode prog_1_method_26_code 101 = .ok (.ireturn, 1) := fx_dat dk_J_count 27 rfl
theorem d_J_count_102 : decode prog_1_method_26_code 102 = .ok (.aload_n 0, 1) := fx_dat dk_J_count 28 rfl
theorem d_J_count_103 : decode prog_1_method_26_code 103 = .ok (.getfield 90, 3) := fx_dat dk_J_count 29 rfl
theorem d_J_count_106 : decode prog_1_method_26_code 106 = .ok (.ireturn, 1) := fx_dat dk_J_count 30 rfl
theorem d_J_count_107 : decode prog_1_method_26_code 107 = .ok (.aload_n 0, 1) := fx_dat dk_J_count 31 rfl
theorem d_J_count_108 : decode prog_1_method_26_code 108 = .ok (.getfield 52, 3) := fx_dat dk_J_count 32 rfl
theorem d_J_count_111 : decode prog_1_method_26_code 111 = .ok (.getfield 293, 3) := fx_dat dk_J_count 33 rfl
theorem d_J_count_114 : decode prog_1_method_26_code 114 = .ok (.ireturn, 1) := fx_dat dk_J_count 34 rfl
theorem d_J_count_115 : decode prog_1_method_26_code 115 = .ok (.iconst (-1), 1) := fx_dat dk_J_count 35 rfl
theorem d_J_count_116 : decode prog_1_method_26_code 116 = .ok (.ireturn, 1) := fx_dat dk_J_count 36 rfl
def m_J_count_52 (Q : Int32 → AH → Prop) (r0 : Nat) (h : AH) : Prop := hp_k h r0 = 1 ∧ ∃ b1, hp_R h r0 0 = some b1 ∧ hp_k h b1 = 2 ∧ Q (hp_I h b1 1) h
def m_J_count_60 (Q : Int32 → AH → Prop) (r0 : Nat) (h : AH) : Prop := hp_k h r0 = 1 ∧ Q (hp_I h r0 3) h
def m_J_count_65 (Q : Int32 → AH → Prop) (r0 : Nat) (h : AH) : Prop := hp_k h r0 = 1 ∧ ∃ b1, hp_R h r0 4 = some b1 ∧ hp_k h b1 = 12 ∧ m_AL_size (fun v1 h1 => fx_ext h h1 → Q v1 h1) b1 h
def m_J_count_73 (Q : Int32 → AH → Prop) (r0 : Nat) (h : AH) : Prop := hp_k h r0 = 1 ∧ Q (hp_I h r0 11) h
def m_J_count_78 (Q : Int32 → AH → Prop) (r0 : Nat) (h : AH) : Prop := hp_k h r0 = 1 ∧ ∃ b1, hp_R h r0 6 = some b1 ∧ hp_k h b1 = 7 ∧ ∃ b2, hp_R h b1 2 = some b2 ∧ hp_k h b2 = 12 ∧ m_AL_size (fun v1 h1 => fx_ext h h1 → Q v1 h1) b2 h
def m_J_count_89 (Q : Int32 → AH → Prop) (r0 : Nat) (h : AH) : Prop := hp_k h r0 = 1 ∧ ∃ b1, hp_R h r0 1 = some b1 ∧ hp_k h b1 = 2 ∧ Q (hp_I h b1 1) h
def m_J_count_97 (Q : Int32 → AH → Prop) (r0 : Nat) (h : AH) : Prop := hp_k h r0 = 1 ∧ Q (hp_I h r0 13) h
def m_J_count_102 (Q : Int32 → AH → Prop) (r0 : Nat) (h : AH) : Prop := hp_k h r0 = 1 ∧ Q (hp_I h r0 14) h
def m_J_count_107 (Q : Int32 → AH → Prop) (r0 : Nat) (h : AH) : Prop := hp_k h r0 = 1 ∧ ∃ b1, hp_R h r0 6 = some b1 ∧ hp_k h b1 = 7 ∧ Q (hp_I h b1 6) h
def m_J_count_115 (Q : Int32 → AH → Prop) (h : AH) : Prop := Q (-1 : Int32) h
def m_J_count (Q : Int32 → AH → Prop) (r0 : Nat) (x1 : Int32) (h : AH) : Prop := (x1 = (0 : Int32) → m_J_count_52 Q r0 h) ∧ (x1 = (1 : Int32) → m_J_count_60 Q r0 h) ∧ (x1 = (2 : Int32) → m_J_count_65 Q r0 h) ∧ (x1 = (3 : Int32) → m_J_count_73 Q r0 h) ∧ (x1 = (4 : Int32) → m_J_count_78 Q r0 h) ∧ (x1 = (5 : Int32) → m_J_count_89 Q r0 h) ∧ (x1 = (6 : Int32) → m_J_count_97 Q r0 h) ∧ (x1 = (7 : Int32) → m_J_count_102 Q r0 h) ∧ (x1 = (8 : Int32) → m_J_count_107 Q r0 h) ∧ ((∀ k ∈ ([(0 : Int32), (1 : Int32), (2 : Int32), (3 : Int32), (4 : Int32), (5 : Int32), (6 : Int32), (7 : Int32), (8 : Int32)] : List Int32), ¬ x1 = k) → m_J_count_115 Q h)
theorem b_J_count_52 {p : Program} {l : Launch} {e : Env} {R : Room} {s : State} {m : MethodId} {args : Array Value} {below : List Frame} {meth : Method} {c : Code} {D : DD} {h0 : AH} {Q : Int32 → AH → Prop} (C : fx_CX D y_J_count prog_1_method_26_code 2 1 12 (Option.some FieldType.int) [] h0 p R s m meth c) (hl : l.flags = flags0) (r0 : Nat) (h : AH) (hw : m_J_count_52 Q r0 h) : ∀ (ls : Array Slot) (H : Heap) (locs : List Loc) (cells slots : Nat), lv_has ls 2 [(0, .ref r0)] → fx_F D h0 h H locs cells slots → W p l e R s m args below meth c H locs cells slots (fx_Z D below s h0 (fx_oI Q fx_no)) (F0 m 52 ls []) := by
  unfold m_J_count_52 at hw
  intro ls H locs cells slots hv F
  refine lv_aload_n C.ex C.by d_J_count_52 rfl (lv_at hv 0 rfl) ?_
  obtain ⟨hk1, hw⟩ := hw
  obtain ⟨b1, hb1, hw⟩ := hw
  refine fx_getR C F lf_J_14 hk1 rfl hb1 d_J_count_53 ?_
  obtain ⟨hk2, hw⟩ := hw
  refine fx_getI C F lf_J_96 hk2 rfl d_J_count_56 ?_
  exact fx_iret C F d_J_count_59 (Or.inl ⟨_, rfl, hw⟩)
theorem b_J_count_60 {p : Program} {l : Launch} {e : Env} {R : Room} {s : State} {m : MethodId} {args : Array Value} {below : List Frame} {meth : Method} {c : Code} {D : DD} {h0 : AH} {Q : Int32 → AH → Prop} (C : fx_CX D y_J_count prog_1_method_26_code 2 1 12 (Option.some FieldType.int) [] h0 p R s m meth c) (hl : l.flags = flags0) (r0 : Nat) (h : AH) (hw : m_J_count_60 Q r0 h) : ∀ (ls : Array Slot) (H : Heap) (locs : List Loc) (cells slots : Nat), lv_has ls 2 [(0, .ref r0)] → fx_F D h0 h H locs cells slots → W p l e R s m args below meth c H locs cells slots (fx_Z D below s h0 (fx_oI Q fx_no)) (F0 m 60 ls []) := by
  unfold m_J_count_60 at hw
  intro ls H locs cells slots hv F
  refine lv_aload_n C.ex C.by d_J_count_60 rfl (lv_at hv 0 rfl) ?_
  obtain ⟨hk1, hw⟩ := hw
  refine fx_getI C F lf_J_29 hk1 rfl d_J_count_61 ?_
  exact fx_iret C F d_J_count_64 (Or.inl ⟨_, rfl, hw⟩)
theorem b_J_count_65 {p : Program} {l : Launch} {e : Env} {R : Room} {s : State} {m : MethodId} {args : Array Value} {below : List Frame} {meth : Method} {c : Code} {D : DD} {h0 : AH} {Q : Int32 → AH → Prop} (C : fx_CX D y_J_count prog_1_method_26_code 2 1 12 (Option.some FieldType.int) [] h0 p R s m meth c) (hl : l.flags = flags0) (r0 : Nat) (h : AH) (hw : m_J_count_65 Q r0 h) : ∀ (ls : Array Slot) (H : Heap) (locs : List Loc) (cells slots : Nat), lv_has ls 2 [(0, .ref r0)] → fx_F D h0 h H locs cells slots → W p l e R s m args below meth c H locs cells slots (fx_Z D below s h0 (fx_oI Q fx_no)) (F0 m 65 ls []) := by
  unfold m_J_count_65 at hw
  intro ls H locs cells slots hv F
  refine lv_aload_n C.ex C.by d_J_count_65 rfl (lv_at hv 0 rfl) ?_
  obtain ⟨hk1, hw⟩ := hw
  obtain ⟨b1, hb1, hw⟩ := hw
  refine fx_getR C F lf_J_36 hk1 rfl hb1 d_J_count_66 ?_
  obtain ⟨hk2, hw⟩ := hw
  refine fx_callI C F (c_AL_size hl hw) hm_AL_size hi_AL_size hv.1 (by decide) (Nat.le_of_ble_eq_true rfl) (iv_AL_size C F lm_J_125 hk2 d_J_count_69) (fx_out0 _) fx_eno (fun v1 h1 H locs cells slots hw hx1 F => ?_)
  replace hw := hw hx1
  have hk2 := (hx1).k hk2
  have hk1 := (hx1).k hk1
  exact fx_iret C F d_J_count_72 (Or.inl ⟨_, rfl, hw⟩)
theorem b_J_count_73 {p : Program} {l : Launch} {e : Env} {R : Room} {s : State} {m : MethodId} {args : Array Value} {below : List Frame} {meth : Method} {c : Code} {D : DD} {h0 : AH} {Q : Int32 → AH → Prop} (C : fx_CX D y_J_count prog_1_method_26_code 2 1 12 (Option.some FieldType.int) [] h0 p R s m meth c) (hl : l.flags = flags0) (r0 : Nat) (h : AH) (hw : m_J_count_73 Q r0 h) : ∀ (ls : Array Slot) (H : Heap) (locs : List Loc) (cells slots : Nat), lv_has ls 2 [(0, .ref r0)] → fx_F D h0 h H locs cells slots → W p l e R s m args below meth c H locs cells slots (fx_Z D below s h0 (fx_oI Q fx_no)) (F0 m 73 ls []) := by
  unfold m_J_count_73 at hw
  intro ls H locs cells slots hv F
  refine lv_aload_n C.ex C.by d_J_count_73 rfl (lv_at hv 0 rfl) ?_
  obtain ⟨hk1, hw⟩ := hw
  refine fx_getI C F lf_J_81 hk1 rfl d_J_count_74 ?_
  exact fx_iret C F d_J_count_77 (Or.inl ⟨_, rfl, hw⟩)
theorem b_J_count_78 {p : Program} {l : Launch} {e : Env} {R : Room} {s : State} {m : MethodId} {args : Array Value} {below : List Frame} {meth : Method} {c : Code} {D : DD} {h0 : AH} {Q : Int32 → AH → Prop} (C : fx_CX D y_J_count prog_1_method_26_code 2 1 12 (Option.some FieldType.int) [] h0 p R s m meth c) (hl : l.flags = flags0) (r0 : Nat) (h : AH) (hw : m_J_count_78 Q r0 h) : ∀ (ls : Array Slot) (H : Heap) (locs : List Loc) (cells slots : Nat), lv_has ls 2 [(0, .ref r0)] → fx_F D h0 h H locs cells slots → W p l e R s m args below meth c H locs cells slots (fx_Z D below s h0 (fx_oI Q fx_no)) (F0 m 78 ls []) := by
  unfold m_J_count_78 at hw
  intro ls H locs cells slots hv F
  refine lv_aload_n C.ex C.by d_J_count_78 rfl (lv_at hv 0 rfl) ?_
  obtain ⟨hk1, hw⟩ := hw
  obtain ⟨b1, hb1, hw⟩ := hw
  refine fx_getR C F lf_J_52 hk1 rfl hb1 d_J_count_79 ?_
  obtain ⟨hk2, hw⟩ := hw
  obtain ⟨b2, hb2, hw⟩ := hw
  refine fx_getR C F lf_J_275 hk2 rfl hb2 d_J_count_82 ?_
  obtain ⟨hk3, hw⟩ := hw
  refine fx_callI C F (c_AL_size hl hw) hm_AL_size hi_AL_size hv.1 (by decide) (Nat.le_of_ble_eq_true rfl) (iv_AL_size C F lm_J_125 hk3 d_J_count_85) (fx_out0 _) fx_eno (fun v1 h1 H locs cells slots hw hx1 F => ?_)
  replace hw := hw hx1
  have hk2 := (hx1).k hk2
  have hk3 := (hx1).k hk3
  have hk1 := (hx1).k hk1
  exact fx_iret C F d_J_count_88 (Or.inl ⟨_, rfl, hw⟩)
theorem b_J_count_89 {p : Program} {l : Launch} {e : Env} {R : Room} {s : State} {m : MethodId} {args : Array Value} {below : List Frame} {meth : Method} {c : Code} {D : DD} {h0 : AH} {Q : Int32 → AH → Prop} (C : fx_CX D y_J_count prog_1_method_26_code 2 1 12 (Option.some FieldType.int) [] h0 p R s m meth c) (hl : l.flags = flags0) (r0 : Nat) (h : AH) (hw : m_J_count_89 Q r0 h) : ∀ (ls : Array Slot) (H : Heap) (locs : List Loc) (cells slots : Nat), lv_has ls 2 [(0, .ref r0)] → fx_F D h0 h H locs cells slots → W p l e R s m args below meth c H locs cells slots (fx_Z D below s h0 (fx_oI Q fx_no)) (F0 m 89 ls []) := by
  unfold m_J_count_89 at hw
  intro ls H locs cells slots hv F
  refine lv_aload_n C.ex C.by d_J_count_89 rfl (lv_at hv 0 rfl) ?_
  obtain ⟨hk1, hw⟩ := hw
  obtain ⟨b1, hb1, hw⟩ := hw
  refine fx_getR C F lf_J_20 hk1 rfl hb1 d_J_count_90 ?_
  obtain ⟨hk2, hw⟩ := hw
  refine fx_getI C F lf_J_96 hk2 rfl d_J_count_93 ?_
  exact fx_iret C F d_J_count_96 (Or.inl ⟨_, rfl, hw⟩)
theorem b_J_count_97 {p : Program} {l : Launch} {e : Env} {R : Room} {s : State} {m : MethodId} {args : Array Value} {below : List Frame} {meth : Method} {c : Code} {D : DD} {h0 : AH} {Q : Int32 → AH → Prop} (C : fx_CX D y_J_count prog_1_method_26_code 2 1 12 (Option.some FieldType.int) [] h0 p R s m meth c) (hl : l.flags = flags0) (r0 : Nat) (h : AH) (hw : m_J_count_97 Q r0 h) : ∀ (ls : Array Slot) (H : Heap) (locs : List Loc) (cells slots : Nat), lv_has ls 2 [(0, .ref r0)] → fx_F D h0 h H locs cells slots → W p l e R s m args below meth c H locs cells slots (fx_Z D below s h0 (fx_oI Q fx_no)) (F0 m 97 ls []) := by
  unfold m_J_count_97 at hw
  intro ls H locs cells slots hv F
  refine lv_aload_n C.ex C.by d_J_count_97 rfl (lv_at hv 0 rfl) ?_
  obtain ⟨hk1, hw⟩ := hw
  refine fx_getI C F lf_J_87 hk1 rfl d_J_count_98 ?_
  exact fx_iret C F d_J_count_101 (Or.inl ⟨_, rfl, hw⟩)
theorem b_J_count_102 {p : Program} {l : Launch} {e : Env} {R : Room} {s : State} {m : MethodId} {args : Array Value} {below : List Frame} {meth : Method} {c : Code} {D : DD} {h0 : AH} {Q : Int32 → AH → Prop} (C : fx_CX D y_J_count prog_1_method_26_code 2 1 12 (Option.some FieldType.int) [] h0 p R s m meth c) (hl : l.flags = flags0) (r0 : Nat) (h : AH) (hw : m_J_count_102 Q r0 h) : ∀ (ls : Array Slot) (H : Heap) (locs : List Loc) (cells slots : Nat), lv_has ls 2 [(0, .ref r0)] → fx_F D h0 h H locs cells slots → W p l e R s m args below meth c H locs cells slots (fx_Z D below s h0 (fx_oI Q fx_no)) (F0 m 102 ls []) := by
  unfold m_J_count_102 at hw
  intro ls H locs cells slots hv F
  refine lv_aload_n C.ex C.by d_J_count_102 rfl (lv_at hv 0 rfl) ?_
  obtain ⟨hk1, hw⟩ := hw
  refine fx_getI C F lf_J_90 hk1 rfl d_J_count_103 ?_
  exact fx_iret C F d_J_count_106 (Or.inl ⟨_, rfl, hw⟩)
theorem b_J_count_107 {p : Program} {l : Launch} {e : Env} {R : Room} {s : State} {m : MethodId} {args : Array Value} {below : List Frame} {meth : Method} {c : Code} {D : DD} {h0 : AH} {Q : Int32 → AH → Prop} (C : fx_CX D y_J_count prog_1_method_26_code 2 1 12 (Option.some FieldType.int) [] h0 p R s m meth c) (hl : l.flags = flags0) (r0 : Nat) (h : AH) (hw : m_J_count_107 Q r0 h) : ∀ (ls : Array Slot) (H : Heap) (locs : List Loc) (cells slots : Nat), lv_has ls 2 [(0, .ref r0)] → fx_F D h0 h H locs cells slots → W p l e R s m args below meth c H locs cells slots (fx_Z D below s h0 (fx_oI Q fx_no)) (F0 m 107 ls []) := by
  unfold m_J_count_107 at hw
  intro ls H locs cells slots hv F
  refine lv_aload_n C.ex C.by d_J_count_107 rfl (lv_at hv 0 rfl) ?_
  obtain ⟨hk1, hw⟩ := hw
  obtain ⟨b1, hb1, hw⟩ := hw
  refine fx_getR C F lf_J_52 hk1 rfl hb1 d_J_count_108 ?_
  obtain ⟨hk2, hw⟩ := hw
  refine fx_getI C F lf_J_293 hk2 rfl d_J_count_111 ?_
  exact fx_iret C F d_J_count_114 (Or.inl ⟨_, rfl, hw⟩)
theorem b_J_count_115 {p : Program} {l : Launch} {e : Env} {R : Room} {s : State} {m : MethodId} {args : Array Value} {below : List Frame} {meth : Method} {c : Code} {D : DD} {h0 : AH} {Q : Int32 → AH → Prop} (C : fx_CX D y_J_count prog_1_method_26_code 2 1 12 (Option.some FieldType.int) [] h0 p R s m meth c) (hl : l.flags = flags0) (h : AH) (hw : m_J_count_115 Q h) : ∀ (ls : Array Slot) (H : Heap) (locs : List Loc) (cells slots : Nat), lv_has ls 2 [] → fx_F D h0 h H locs cells slots → W p l e R s m args below meth c H locs cells slots (fx_Z D below s h0 (fx_oI Q fx_no)) (F0 m 115 ls []) := by
  unfold m_J_count_115 at hw
  intro ls H locs cells slots hv F
  refine lv_iconst (v := (-1 : Int32)) C.ex C.by d_J_count_115 (by decide) ?_
  exact fx_iret C F d_J_count_116 (Or.inl ⟨_, rfl, hw⟩)
theorem b_J_count_0 {p : Program} {l : Launch} {e : Env} {R : Room} {s : State} {m : MethodId} {args : Array Value} {below : List Frame} {meth : Method} {c : Code} {D : DD} {h0 : AH} {Q : Int32 → AH → Prop} (C : fx_CX D y_J_count prog_1_method_26_code 2 1 12 (Option.some FieldType.int) [] h0 p R s m meth c) (hl : l.flags = flags0) (r0 : Nat) (x1 : Int32) (h : AH) (hw : m_J_count Q r0 x1 h) : ∀ (ls : Array Slot) (H : Heap) (locs : List Loc) (cells slots : Nat), lv_has ls 2 [(0, .ref r0), (1, .int x1)] → fx_F D h0 h H locs cells slots → W p l e R s m args below meth c H locs cells slots (fx_Z D below s h0 (fx_oI Q fx_no)) (F0 m 0 ls []) := by
  unfold m_J_count at hw
  intro ls H locs cells slots hv F
  refine lv_iload_n C.ex C.by d_J_count_0 rfl (lv_at hv 1 rfl) ?_
  by_cases hs0 : x1 = (0 : Int32)
  · replace hw := hw.1 hs0
    refine lv_tableIn (off := 51) (tgt := 52) C.ex C.by d_J_count_1 (by rw [hs0]; decide) (by rw [hs0]; decide) (by rw [hs0]; rfl) rfl ?_
    exact b_J_count_52 C hl _ _ hw _ _ _ _ _ (lv_sub hv [0] rfl) F
  by_cases hs1 : x1 = (1 : Int32)
  · replace hw := hw.2.1 hs1
    refine lv_tableIn (off := 59) (tgt := 60) C.ex C.by d_J_count_1 (by rw [hs1]; decide) (by rw [hs1]; decide) (by rw [hs1]; rfl) rfl ?_
    exact b_J_count_60 C hl _ _ hw _ _ _ _ _ (lv_sub hv [0] rfl) F
  by_cases hs2 : x1 = (2 : Int32)
  · replace hw := hw.2.2.1 hs2
    refine lv_tableIn (off := 64) (tgt := 65) C.ex C.by d_J_count_1 (by rw [hs2]; decide) (by rw [hs2]; decide) (by rw [hs2]; rfl) rfl ?_
    exact b_J_count_65 C hl _ _ hw _ _ _ _ _ (lv_sub hv [0] rfl) F
  by_cases hs3 : x1 = (3 : Int32)
  · replace hw := hw.2.2.2.1 hs3
    refine lv_tableIn (off := 72) (tgt := 73) C.ex C.by d_J_count_1 (by rw [hs3]; decide) (by rw [hs3]; decide) (by rw [hs3]; rfl) rfl ?_
    exact b_J_count_73 C hl _ _ hw _ _ _ _ _ (lv_sub hv [0] rfl) F
  by_cases hs4 : x1 = (4 : Int32)
  · replace hw := hw.2.2.2.2.1 hs4
    refine lv_tableIn (off := 77) (tgt := 78) C.ex C.by d_J_count_1 (by rw [hs4]; decide) (by rw [hs4]; decide) (by rw [hs4]; rfl) rfl ?_
    exact b_J_count_78 C hl _ _ hw _ _ _ _ _ (lv_sub hv [0] rfl) F
  by_cases hs5 : x1 = (5 : Int32)
  · replace hw := hw.2.2.2.2.2.1 hs5
    refine lv_tableIn (off := 88) (tgt := 89) C.ex C.by d_J_count_1 (by rw [hs5]; decide) (by rw [hs5]; decide) (by rw [hs5]; rfl) rfl ?_
    exact b_J_count_89 C hl _ _ hw _ _ _ _ _ (lv_sub hv [0] rfl) F
  by_cases hs6 : x1 = (6 : Int32)
  · replace hw := hw.2.2.2.2.2.2.1 hs6
    refine lv_tableIn (off := 96) (tgt := 97) C.ex C.by d_J_count_1 (by rw [hs6]; decide) (by rw [hs6]; decide) (by rw [hs6]; rfl) rfl ?_
    exact b_J_count_97 C hl _ _ hw _ _ _ _ _ (lv_sub hv [0] rfl) F
  by_cases hs7 : x1 = (7 : Int32)
  · replace hw := hw.2.2.2.2.2.2.2.1 hs7
    refine lv_tableIn (off := 101) (tgt := 102) C.ex C.by d_J_count_1 (by rw [hs7]; decide) (by rw [hs7]; decide) (by rw [hs7]; rfl) rfl ?_
    exact b_J_count_102 C hl _ _ hw _ _ _ _ _ (lv_sub hv [0] rfl) F
  by_cases hs8 : x1 = (8 : Int32)
  · replace hw := hw.2.2.2.2.2.2.2.2.1 hs8
    refine lv_tableIn (off := 106) (tgt := 107) C.ex C.by d_J_count_1 (by rw [hs8]; decide) (by rw [hs8]; decide) (by rw [hs8]; rfl) rfl ?_
    exact b_J_count_107 C hl _ _ hw _ _ _ _ _ (lv_sub hv [0] rfl) F
  have hno : ∀ k ∈ ([(0 : Int32), (1 : Int32), (2 : Int32), (3 : Int32), (4 : Int32), (5 : Int32), (6 : Int32), (7 : Int32), (8 : Int32)] : List Int32), ¬ x1 = k := by
    intro k hk
    simp only [List.mem_cons, List.not_mem_nil, or_false] at hk
    rcases hk with rfl | rfl | rfl | rfl | rfl | rfl | rfl | rfl | rfl
    · exact hs0
    · exact hs1
    · exact hs2
    · exact hs3
    · exact hs4
    · exact hs5
    · exact hs6
    · exact hs7
    · exact hs8
  replace hw := hw.2.2.2.2.2.2.2.2.2 hno
  refine lv_tableOut (tgt := 115) C.ex C.by d_J_count_1 (fx_sw [(0 : Int32), (1 : Int32), (2 : Int32), (3 : Int32), (4 : Int32), (5 : Int32), (6 : Int32), (7 : Int32), (8 : Int32)] (by intro z h1 h2; rcases (show z = 0 ∨ z = 1 ∨ z = 2 ∨ z = 3 ∨ z = 4 ∨ z = 5 ∨ z = 6 ∨ z = 7 ∨ z = 8 by omega) with rfl | rfl | rfl | rfl | rfl | rfl | rfl | rfl | rfl; exact ⟨(0 : Int32), by decide, by decide⟩; exact ⟨(1 : Int32), by decide, by decide⟩; exact ⟨(2 : Int32), by decide, by decide⟩; exact ⟨(3 : Int32), by decide, by decide⟩; exact ⟨(4 : Int32), by decide, by decide⟩; exact ⟨(5 : Int32), by decide, by decide⟩; exact ⟨(6 : Int32), by decide, by decide⟩; exact ⟨(7 : Int32), by decide, by decide⟩; exact ⟨(8 : Int32), by decide, by decide⟩) hno) rfl ?_
  exact b_J_count_115 C hl _ hw _ _ _ _ _ (lv_sub hv [] rfl) F
theorem hm_J_count : fx_hd y_J_count prog_1_method_26_code 2 (Option.some FieldType.int) [] ∈ tables_1 := (fx_m2 (List.mem_of_getElem? (i := 171) rfl))
theorem hi_J_count : Cond.initialized y_J_count.cls ∈ tables_1 := (fx_m1 (List.mem_of_getElem? (i := 1) rfl))
theorem c_J_count {l : Launch} (hl : l.flags = flags0) {D : DD} {Q : Int32 → AH → Prop} {r0 : Nat} {x1 : Int32} {h : AH} (hw : m_J_count Q r0 x1 h) : fx_Mt l D y_J_count (fx_hd y_J_count prog_1_method_26_code 2 (Option.some FieldType.int) []) 1 12 [.ref r0, .int x1] h (fx_oI Q fx_no) := by
  refine fx_ofW (plainFor_of_name (by decide)) (fun p e s m below meth c C F => ?_)
  have hv := lv_entry ([.ref r0, .int x1]) (n := 2) (Nat.le_of_ble_eq_true rfl)
  rw [lg_entry_eq]
  generalize (lg_sl ([.ref r0, .int x1]) ++ List.replicate (2 - (lg_sl ([.ref r0, .int x1])).length) Slot.unset).toArray = ls at hv ⊢
  have hv : lv_has ls 2 [(0, .ref r0), (1, .int x1)] := hv
  exact b_J_count_0 C hl _ _ _ hw _ _ _ _ _ hv F
/-! java/lang/Math.max(II)I: frames 0, words 0 -/
abbrev y_Math_max : MethodName := ⟨"java/lang/Math", "max", "(II)I"⟩
def dl_Math_max : List (Nat × Instr × Nat) := [(0, .iload_n 0, 1), (1, .iload_n 1, 1), (2, .if_icmp .lt 7, 3), (5, .iload_n 0, 1), (6, .goto 4, 3), (9, .iload_n 1, 1), (10, .ireturn, 1)]
theorem dk_Math_max : fx_dec prog_24_method_65_code dl_Math_max = true := by decide +kernel
theorem d_Math_max_0 : decode prog_24_method_65_code 0 = .ok (.iload_n 0, 1) := fx_dat dk_Math_max 0 rfl
theorem d_Math_max_1 : decode prog_24_method_65_code 1 = .ok (.iload_n 1, 1) := fx_dat dk_Math_max 1 rfl
theorem d_Math_max_2 : decode prog_24_method_65_code 2 = .ok (.if_icmp .lt 7, 3) := fx_dat dk_Math_max 2 rfl
theorem d_Math_max_5 : decode prog_24_method_65_code 5 = .ok (.iload_n 0, 1) := fx_dat dk_Math_max 3 rfl
theorem d_Math_max_6 : decode prog_24_method_65_code 6 = .ok (.goto 4, 3) := fx_dat dk_Math_max 4 rfl
theorem d_Math_max_9 : decode prog_24_method_65_code 9 = .ok (.iload_n 1, 1) := fx_dat dk_Math_max 5 rfl
theorem d_Math_max_10 : decode prog_24_method_65_code 10 = .ok (.ireturn, 1) := fx_dat dk_Math_max 6 rfl
def m_Math_max_10 (Q : Int32 → AH → Prop) (sx0 : Int32) (h : AH) : Prop := Q sx0 h
def m_Math_max (Q : Int32 → AH → Prop) (x0 : Int32) (x1 : Int32) (h : AH) : Prop := (x0 < x1 → m_Math_max_10 Q x1 h) ∧ (¬ x0 < x1 → m_Math_max_10 Q x0 h)
theorem b_Math_max_10 {p : Program} {l : Launch} {e : Env} {R : Room} {s : State} {m : MethodId} {args : Array Value} {below : List Frame} {meth : Method} {c : Code} {D : DD} {h0 : AH} {Q : Int32 → AH → Prop} (C : fx_CX D y_Math_max prog_24_method_65_code 2 0 0 (Option.some FieldType.int) [] h0 p R s m meth c) (hl : l.flags = flags0) (sx0 : Int32) (h : AH) (hw : m_Math_max_10 Q sx0 h) : ∀ (ls : Array Slot) (H : Heap) (locs : List Loc) (cells slots : Nat), lv_has ls 2 [] → fx_F D h0 h H locs cells slots → W p l e R s m args below meth c H locs cells slots (fx_Z D below s h0 (fx_oI Q fx_no)) (F0 m 10 ls [.int sx0]) := by
  unfold m_Math_max_10 at hw
  intro ls H locs cells slots hv F
  exact fx_iret C F d_Math_max_10 (Or.inl ⟨_, rfl, hw⟩)
theorem b_Math_max_0 {p : Program} {l : Launch} {e : Env} {R : Room} {s : State} {m : MethodId} {args : Array Value} {below : List Frame} {meth : Method} {c : Code} {D : DD} {h0 : AH} {Q : Int32 → AH → Prop} (C : fx_CX D y_Math_max prog_24_method_65_code 2 0 0 (Option.some FieldType.int) [] h0 p R s m meth c) (hl : l.flags = flags0) (x0 : Int32) (x1 : Int32) (h : AH) (hw : m_Math_max Q x0 x1 h) : ∀ (ls : Array Slot) (H : Heap) (locs : List Loc) (cells slots : Nat), lv_has ls 2 [(0, .int x0), (1, .int x1)] → fx_F D h0 h H locs cells slots → W p l e R s m args below meth c H locs cells slots (fx_Z D below s h0 (fx_oI Q fx_no)) (F0 m 0 ls []) := by
  unfold m_Math_max at hw
  intro ls H locs cells slots hv F
  refine lv_iload_n C.ex C.by d_Math_max_0 rfl (lv_at hv 0 rfl) ?_
  refine lv_iload_n C.ex C.by d_Math_max_1 rfl (lv_at hv 1 rfl) ?_
  refine lv_icmp_lt C.ex C.by d_Math_max_2 rfl (fun hc => ?_) (fun hc => ?_)
  · replace hw := hw.1 hc
    refine lv_iload_n C.ex C.by d_Math_max_9 rfl (lv_at hv 1 rfl) ?_
    exact b_Math_max_10 C hl _ _ hw _ _ _ _ _ (lv_sub hv [] rfl) F
  · replace hw := hw.2 hc
    refine lv_iload_n C.ex C.by d_Math_max_5 rfl (lv_at hv 0 rfl) ?_
    refine lv_goto C.ex C.by d_Math_max_6 rfl ?_
    exact b_Math_max_10 C hl _ _ hw _ _ _ _ _ (lv_sub hv [] rfl) F
theorem hm_Math_max : fx_hd y_Math_max prog_24_method_65_code 2 (Option.some FieldType.int) [] ∈ tables_1 := (fx_m3 (List.mem_of_getElem? (i := 24) rfl))
theorem hi_Math_max : Cond.initialized y_Math_max.cls ∈ tables_1 := (fx_m1 (List.mem_of_getElem? (i := 20) rfl))
theorem c_Math_max {l : Launch} (hl : l.flags = flags0) {D : DD} {Q : Int32 → AH → Prop} {x0 : Int32} {x1 : Int32} {h : AH} (hw : m_Math_max Q x0 x1 h) : fx_Mt l D y_Math_max (fx_hd y_Math_max prog_24_method_65_code 2 (Option.some FieldType.int) []) 0 0 [.int x0, .int x1] h (fx_oI Q fx_no) := by
  refine fx_ofW (by decide +kernel) (fun p e s m below meth c C F => ?_)
  have hv := lv_entry ([.int x0, .int x1]) (n := 2) (Nat.le_of_ble_eq_true rfl)
  rw [lg_entry_eq]
  generalize (lg_sl ([.int x0, .int x1]) ++ List.replicate (2 - (lg_sl ([.int x0, .int x1])).length) Slot.unset).toArray = ls at hv ⊢
  have hv : lv_has ls 2 [(0, .int x0), (1, .int x1)] := hv
  exact b_Math_max_0 C hl _ _ _ hw _ _ _ _ _ hv F
/-! ChainJudge$Row.room(I)V: frames 1, words 18 -/
abbrev y_Row_room : MethodName := ⟨"ChainJudge$Row", "room", "(I)V"⟩
theorem lm_Row_17 : Cond.methodLink "ChainJudge$Row" 17 y_Math_max ∈ tables_1 ∨ ∃ host, Cond.methodLinkNest "ChainJudge$Row" 17 y_Math_max host ∈ tables_1 := Or.inl (fx_m3 (List.mem_of_getElem? (i := 22) rfl))
section
variable {p : Program} {l : Launch} {e : Env} {R : Room} {s : State} {m : MethodId} {args : Array Value} {below : List Frame} {meth : Method} {c : Code} {H : Heap} {locs : List Loc} {cells slots : Nat}
variable {D : DD} {y : MethodName} {cc : ByteArray} {nL kf kw : Nat} {ret : Option FieldType} {hh : List (Nat × Nat × Nat × Nat)} {h0 h : AH} {pc : Nat} {ls : Array Slot} {rest : List Value} {b idx : Nat}
theorem iv_Math_max {x0 : Int32} {x1 : Int32} (C : fx_CX D y cc nL kf kw ret hh h0 p R s m meth c) (F : fx_F D h0 h H locs cells slots) (hw1 : Cond.methodLink y.cls idx y_Math_max ∈ tables_1 ∨ ∃ host, Cond.methodLinkNest y.cls idx y_Math_max host ∈ tables_1) (hd : decode cc pc = .ok (.invokestatic idx, 3)) : fx_IV p l e R s m args below meth c H locs cells slots (F0 m pc ls (.int x1 :: .int x0 :: rest)) rest y_Math_max [.int x0, .int x1] 3 := fun T hT X => fx_invS (As := [.int x0, .int x1]) C X hw1 (fx_m3 (List.mem_of_getElem? (i := 23) rfl)) hi_Math_max hm_Math_max ⟨by decide, by decide⟩ rfl (n := 2) (by decide +kernel) rfl rfl hd
end
def dl_Row_room : List (Nat × Instr × Nat) := [(0, .aload_n 0, 1), (1, .getfield 13, 3), (4, .iload_n 1, 1), (5, .iadd, 1), (6, .aload_n 0, 1), (7, .getfield 7, 3), (10, .arraylength, 1), (11, .if_icmp .gt 4, 3), (14, .return_, 1), (15, .iconst 2, 1), (16, .aload_n 0, 1), (17, .getfield 7, 3), (20, .arraylength, 1), (21, .imul, 1), (22, .aload_n 0, 1), (23, .getfield 13, 3), (26, .iload_n 1, 1), (27, .iadd, 1), (28, .invokestatic 17, 3), (31, .newarray .byte, 2), (33, .astore_n 2, 1), (34, .aload_n 0, 1), (35, .getfield 7, 3), (38, .iconst 0, 1), (39, .aload_n 2, 1), (40, .iconst 0, 1), (41, .aload_n 0, 1), (42, .getfield 13, 3), (45, .invokestatic 23, 3), (48, .aload_n 0, 1), (49, .aload_n 2, 1), (50, .putfield 7, 3), (53, .return_, 1)]
theorem dk_Row_room : fx_dec prog_11_method_2_code dl_Row_room = true := by decide +kernel
theorem d_Row_room_0 : decode prog_11_method_2_code 0 = .ok (.aload_n 0, 1) := fx_dat dk_Row_room 0 rfl
theorem d_Row_room_1 : decode prog_11_method_2_code 1 = .ok (.getfield 13, 3) := fx_dat dk_Row_room 1 rfl
theorem d_Row_room_4 : decode prog_11_method_2_code 4 = .ok (.iload_n 1, 1) := fx_dat dk_Row_room 2 rfl
theorem d_Row_room_5 : decode prog_11_method_2_code 5 = .ok (.iadd, 1) := fx_dat dk_Row_room 3 rfl
theorem d_Row_room_6 : decode prog_11_method_2_code 6 = .ok (.aload_n 0, 1) := fx_dat dk_Row_room 4 rfl
theorem d_Row_room_7 : decode prog_11_method_2_code 7 = .ok (.getfield 7, 3) := fx_dat dk_Row_room 5 rfl
theorem d_Row_room_10 : decode prog_11_method_2_code 10 = .ok (.arraylength, 1) := fx_dat dk_Row_room 6 rfl
theorem d_Row_room_11 : decode prog_11_method_2_code 11 = .ok (.if_icmp .gt 4, 3) := fx_dat dk_Row_room 7 rfl
theorem d_Row_room_14 : decode prog_11_method_2_code 14 = .ok (.return_, 1) := fx_dat dk_Row_room 8 rfl
theorem d_Row_room_15 : decode prog_11_method_2_code 15 = .ok (.iconst 2, 1) := fx_dat dk_Row_room 9 rfl
theorem d_Row_room_16 : decode prog_11_method_2_code 16 = .ok (.aload_n 0, 1) := fx_dat dk_Row_room 10 rfl
theorem d_Row_room_17 : decode prog_11_method_2_code 17 = .ok (.getfield 7, 3) := fx_dat dk_Row_room 11 rfl
theorem d_Row_room_20 : decode prog_11_method_2_code 20 = .ok (.arraylength, 1) := fx_dat dk_Row_room 12 rfl
theorem d_Row_room_21 : decode prog_11_method_2_code 21 = .ok (.imul, 1) := fx_dat dk_Row_room 13 rfl
theorem d_Row_room_22 : decode prog_11_method_2_code 22 = .ok (.aload_n 0, 1) := fx_dat dk_Row_room 14 rfl
theorem d_Row_room_23 : decode prog_11_method_2_code 23 = .ok (.getfield 13, 3) := fx_dat dk_Row_room 15 rfl
theorem d_Row_room_26 : decode prog_11_method_2_code 26 = .ok (.iload_n 1, 1) := fx_dat dk_Row_room 16 rfl
theorem d_Row_room_27 : decode prog_11_method_2_code 27 = .ok (.iadd, 1) := fx_dat dk_Row_room 17 rfl
theorem d_Row_room_28 : decode prog_11_method_2_code 28 = .ok (.invokestatic 17, 3) := fx_dat dk_Row_room 18 rfl
theorem d_Row_room_31 : decode prog_11_method_2_code 31 = .ok (.newarray .byte, 2) := fx_dat dk_Row_room 19 rfl
theorem d_Row_room_33 : decode prog_11_method_2_code 33 = .ok (.astore_n 2, 1) := fx_dat dk_Row_room 20 rfl
theorem d_Row_room_34 : decode prog_11_method_2_code 34 = .ok (.aload_n 0, 1) := fx_dat dk_Row_room 21 rfl
theorem d_Row_room_35 : decode prog_11_method_2_code 35 = .ok (.getfield 7, 3) := fx_dat dk_Row_room 22 rfl
theorem d_Row_room_38 : decode prog_11_method_2_code 38 = .ok (.iconst 0, 1) := fx_dat dk_Row_room 23 rfl
theorem d_Row_room_39 : decode prog_11_method_2_code 39 = .ok (.aload_n 2, 1) := fx_dat dk_Row_room 24 rfl
theorem d_Row_room_40 : decode prog_11_method_2_code 40 = .ok (.iconst 0, 1) := fx_dat dk_Row_room 25 rfl
theorem d_Row_room_41 : decode prog_11_method_2_code 41 = .ok (.aload_n 0, 1) := fx_dat dk_Row_room 26 rfl
theorem d_Row_room_42 : decode prog_11_method_2_code 42 = .ok (.getfield 13, 3) := fx_dat dk_Row_room 27 rfl
theorem d_Row_room_45 : decode prog_11_method_2_code 45 = .ok (.invokestatic 23, 3) := fx_dat dk_Row_room 28 rfl
theorem d_Row_room_48 : decode prog_11_method_2_code 48 = .ok (.aload_n 0, 1) := fx_dat dk_Row_room 29 rfl
theorem d_Row_room_49 : decode prog_11_method_2_code 49 = .ok (.aload_n 2, 1) := fx_dat dk_Row_room 30 rfl
theorem d_Row_room_50 : decode prog_11_method_2_code 50 = .ok (.putfield 7, 3) := fx_dat dk_Row_room 31 rfl
theorem d_Row_room_53 : decode prog_11_method_2_code 53 = .ok (.return_, 1) := fx_dat dk_Row_room 32 rfl
def m_Row_room (Q : AH → Prop) (r0 : Nat) (x1 : Int32) (h : AH) : Prop := hp_k h r0 = 2 ∧ ∃ b1, hp_R h r0 0 = some b1 ∧ bk (hp_k h b1) ∧ ((nI (hp_n h b1)) < ((hp_I h r0 1) + x1) → m_Math_max (fun v1 h1 => fx_ext h h1 → ¬ v1 < 0 ∧ (v1).toNatClampNeg ≤ 536870912 ∧ fx_has h1 (v1).toNatClampNeg ∧ ∀ (_ : fx_wf h1) (q1 : Nat), q1 = hp_z h1 → ∀ h2 : AH, h2 = up_N h1 101 (v1).toNatClampNeg (v1).toNatClampNeg → ∃ b2, hp_R h2 r0 0 = some b2 ∧ bk (hp_k h2 b2) ∧ ¬ (0 : Int32) < 0 ∧ ¬ (0 : Int32) < 0 ∧ ¬ (hp_I h2 r0 1) < 0 ∧ (0 : Int32).toNatClampNeg + (hp_I h2 r0 1).toNatClampNeg ≤ hp_n h2 b2 ∧ (0 : Int32).toNatClampNeg + (hp_I h2 r0 1).toNatClampNeg ≤ hp_n h2 q1 ∧ ∀ h3 : AH, h3 = up_CI h2 b2 (0 : Int32).toNatClampNeg q1 (0 : Int32).toNatClampNeg (hp_I h2 r0 1).toNatClampNeg → ∀ h4 : AH, h4 = up_R h3 r0 0 (some q1) → Q h4) ((2 : Int32) * (nI (hp_n h b1))) ((hp_I h r0 1) + x1) h) ∧ (¬ (nI (hp_n h b1)) < ((hp_I h r0 1) + x1) → Q h)
theorem b_Row_room_0 {p : Program} {l : Launch} {e : Env} {R : Room} {s : State} {m : MethodId} {args : Array Value} {below : List Frame} {meth : Method} {c : Code} {D : DD} {h0 : AH} {Q : AH → Prop} (C : fx_CX D y_Row_room prog_11_method_2_code 3 1 18 (none) [] h0 p R s m meth c) (hl : l.flags = flags0) (r0 : Nat) (x1 : Int32) (h : AH) (hw : m_Row_room Q r0 x1 h) : ∀ (ls : Array Slot) (H : Heap) (locs : List Loc) (cells slots : Nat), lv_has ls 3 [(0, .ref r0), (1, .int x1)] → fx_F D h0 h H locs cells slots → W p l e R s m args below meth c H locs cells slots (fx_Z D below s h0 (fx_oV Q fx_no)) (F0 m 0 ls []) := by
  unfold m_Row_room at hw
  intro ls H locs cells slots hv F
  refine lv_aload_n C.ex C.by d_Row_room_0 rfl (lv_at hv 0 rfl) ?_
  obtain ⟨hk1, hw⟩ := hw
  refine fx_getI C F lf_Row_13 hk1 rfl d_Row_room_1 ?_
  refine lv_iload_n C.ex C.by d_Row_room_4 rfl (lv_at hv 1 rfl) ?_
  refine lv_iadd C.ex C.by d_Row_room_5 ?_
  refine lv_aload_n C.ex C.by d_Row_room_6 rfl (lv_at hv 0 rfl) ?_
  obtain ⟨b1, hb1, hw⟩ := hw
  refine fx_getR C F lf_Row_7 hk1 rfl hb1 d_Row_room_7 ?_
  obtain ⟨hk2, hw⟩ := hw
  refine fx_alen C F hk2.gt d_Row_room_10 ?_
  refine lv_icmp_gt C.ex C.by d_Row_room_11 rfl (fun hc => ?_) (fun hc => ?_)
  · replace hw := hw.1 hc
    refine lv_iconst (v := (2 : Int32)) C.ex C.by d_Row_room_15 (by decide) ?_
    refine lv_aload_n C.ex C.by d_Row_room_16 rfl (lv_at hv 0 rfl) ?_
    refine fx_getR C F lf_Row_7 hk1 rfl hb1 d_Row_room_17 ?_
    refine fx_alen C F hk2.gt d_Row_room_20 ?_
    refine lv_imul C.ex C.by d_Row_room_21 ?_
    refine lv_aload_n C.ex C.by d_Row_room_22 rfl (lv_at hv 0 rfl) ?_
    refine fx_getI C F lf_Row_13 hk1 rfl d_Row_room_23 ?_
    refine lv_iload_n C.ex C.by d_Row_room_26 rfl (lv_at hv 1 rfl) ?_
    refine lv_iadd C.ex C.by d_Row_room_27 ?_
    refine fx_callI C F (c_Math_max hl hw) hm_Math_max hi_Math_max hv.1 (by decide) (Nat.le_of_ble_eq_true rfl) (iv_Math_max C F lm_Row_17 d_Row_room_28) (fx_out0 _) fx_eno (fun v1 h1 H locs cells slots hw hx1 F => ?_)
    replace hw := hw hx1
    have hk2 := (hx1).gb hk2
    have hk1 := (hx1).k hk1
    obtain ⟨hn0, hn1, hs, hw⟩ := hw
    let q1 : Nat := hp_z h1
    let h2 : AH := up_N h1 101 (v1).toNatClampNeg (v1).toNatClampNeg
    replace hw := hw F.wf q1 rfl h2 rfl
    have hk2 := (F.xN (k := 101) (n := (v1).toNatClampNeg) (m := (v1).toNatClampNeg)).gb hk2
    have hk1 := (F.xN (k := 101) (n := (v1).toNatClampNeg) (m := (v1).toNatClampNeg)).k hk1
    have hkq1 : hp_k h2 q1 = 101 := fx_nk _ _ _ _
    refine fx_newaB  C F (fx_m1 (List.mem_of_getElem? (i := 55) rfl)) hn0 hn1 hs d_Row_room_31 (fun H cells slots (F : fx_F D h0 h2 H locs cells slots) => ?_)
    refine lv_astore_n (lv' := [(2, .ref q1), (0, .ref r0), (1, .int x1)]) C.ex C.by d_Row_room_33 rfl hv (by decide) rfl (fun ls hv => ?_)
    refine lv_aload_n C.ex C.by d_Row_room_34 rfl (lv_at hv 1 rfl) ?_
    obtain ⟨b2, hb2, hw⟩ := hw
    refine fx_getR C F lf_Row_7 hk1 rfl hb2 d_Row_room_35 ?_
    refine lv_iconst (v := (0 : Int32)) C.ex C.by d_Row_room_38 (by decide) ?_
    refine lv_aload_n C.ex C.by d_Row_room_39 rfl (lv_at hv 0 rfl) ?_
    refine lv_iconst (v := (0 : Int32)) C.ex C.by d_Row_room_40 (by decide) ?_
    refine lv_aload_n C.ex C.by d_Row_room_41 rfl (lv_at hv 1 rfl) ?_
    refine fx_getI C F lf_Row_13 hk1 rfl d_Row_room_42 ?_
    obtain ⟨hk3, hw⟩ := hw
    obtain ⟨g1, g2, g3, g4, g5, hw⟩ := hw
    let h3 : AH := up_CI h2 b2 (0 : Int32).toNatClampNeg q1 (0 : Int32).toNatClampNeg (hp_I h2 r0 1).toNatClampNeg
    replace hw := hw h3 rfl
    refine fx_copyB C F (fx_m3 (List.mem_of_getElem? (i := 25) rfl)) (fx_m3 (List.mem_of_getElem? (i := 27) rfl)) (fx_m3 (List.mem_of_getElem? (i := 26) rfl)) (fx_m1 (List.mem_of_getElem? (i := 21) rfl)) hv.1 hk3 hkq1 g1 g2 g3 g4 g5 (by decide) (Nat.le_of_ble_eq_true rfl) d_Row_room_45 (fun H locs (F : fx_F D h0 h3 H locs _ _) => ?_)
    refine lv_aload_n C.ex C.by d_Row_room_48 rfl (lv_at hv 1 rfl) ?_
    refine lv_aload_n C.ex C.by d_Row_room_49 rfl (lv_at hv 0 rfl) ?_
    let h4 : AH := up_R h3 r0 0 (some q1)
    replace hw := hw h4 rfl
    refine fx_putR C F lf_Row_7 hk1 rfl rfl (fx_mayF.no rfl rfl) d_Row_room_50 (fun H locs (F : fx_F D h0 h4 H locs _ _) => ?_)
    exact fx_vret C F d_Row_room_53 (Or.inl ⟨rfl, hw⟩)
  · replace hw := hw.2 hc
    exact fx_vret C F d_Row_room_14 (Or.inl ⟨rfl, hw⟩)
theorem hm_Row_room : fx_hd y_Row_room prog_11_method_2_code 3 (none) [] ∈ tables_1 := (fx_m3 (List.mem_of_getElem? (i := 21) rfl))
theorem hi_Row_room : Cond.initialized y_Row_room.cls ∈ tables_1 := (fx_m1 (List.mem_of_getElem? (i := 2) rfl))
theorem c_Row_room {l : Launch} (hl : l.flags = flags0) {D : DD} {Q : AH → Prop} {r0 : Nat} {x1 : Int32} {h : AH} (hw : m_Row_room Q r0 x1 h) : fx_Mt l D y_Row_room (fx_hd y_Row_room prog_11_method_2_code 3 (none) []) 1 18 [.ref r0, .int x1] h (fx_oV Q fx_no) := by
  refine fx_ofW (plainFor_of_name (by decide)) (fun p e s m below meth c C F => ?_)
  have hv := lv_entry ([.ref r0, .int x1]) (n := 3) (Nat.le_of_ble_eq_true rfl)
  rw [lg_entry_eq]
  generalize (lg_sl ([.ref r0, .int x1]) ++ List.replicate (3 - (lg_sl ([.ref r0, .int x1])).length) Slot.unset).toArray = ls at hv ⊢
  have hv : lv_has ls 3 [(0, .ref r0), (1, .int x1)] := hv
  exact b_Row_room_0 C hl _ _ _ hw _ _ _ _ _ hv F
/-! ChainJudge$Row.put(I)V: frames 2, words 32 -/
abbrev y_Row_put_I : MethodName := ⟨"ChainJudge$Row", "put", "(I)V"⟩
theorem lm_Row_29 : Cond.methodLink "ChainJudge$Row" 29 y_Row_room ∈ tables_1 ∨ ∃ host, Cond.methodLinkNest "ChainJudge$Row" 29 y_Row_room host ∈ tables_1 := Or.inl (fx_m3 (List.mem_of_getElem? (i := 18) rfl))
section
variable {p : Program} {l : Launch} {e : Env} {R : Room} {s : State} {m : MethodId} {args : Array Value} {below : List Frame} {meth : Method} {c : Code} {H : Heap} {locs : List Loc} {cells slots : Nat}
variable {D : DD} {y : MethodName} {cc : ByteArray} {nL kf kw : Nat} {ret : Option FieldType} {hh : List (Nat × Nat × Nat × Nat)} {h0 h : AH} {pc : Nat} {ls : Array Slot} {rest : List Value} {b idx : Nat}
theorem iv_Row_room {x1 : Int32} (C : fx_CX D y cc nL kf kw ret hh h0 p R s m meth c) (F : fx_F D h0 h H locs cells slots) (hw1 : Cond.methodLink y.cls idx y_Row_room ∈ tables_1 ∨ ∃ host, Cond.methodLinkNest y.cls idx y_Row_room host ∈ tables_1) (hk : hp_k h b = 2) (hd : decode cc pc = .ok (.invokevirtual idx, 3)) : fx_IV p l e R s m args below meth c H locs cells slots (F0 m pc ls (.int x1 :: .ref b :: rest)) rest y_Row_room [.ref b, .int x1] 3 := fun T hT X => fx_invV (As := [.int x1]) (Cn := "ChainJudge$Row") C X hw1 (fx_m3 (List.mem_of_getElem? (i := 19) rfl)) (fx_selW C (fx_m3 (List.mem_of_getElem? (i := 20) rfl))) hm_Row_room ⟨by decide, by decide⟩ (by rw [hT]; exact fx_clsO (ci := 1) (r := ("ChainJudge$Row", fx_T1, 2)) C F rfl (by decide) hk) rfl (n := 1) (by decide +kernel) rfl rfl hd
end
def dl_Row_put_I : List (Nat × Instr × Nat) := [(0, .aload_n 0, 1), (1, .iconst 1, 1), (2, .invokevirtual 29, 3), (5, .aload_n 0, 1), (6, .getfield 7, 3), (9, .aload_n 0, 1), (10, .dup, 1), (11, .getfield 13, 3), (14, .dup_x1, 1), (15, .iconst 1, 1), (16, .iadd, 1), (17, .putfield 13, 3), (20, .iload_n 1, 1), (21, .i2b, 1), (22, .bastore, 1), (23, .return_, 1)]
theorem dk_Row_put_I : fx_dec prog_11_method_3_code dl_Row_put_I = true := by decide +kernel
theorem d_Row_put_I_0 : decode prog_11_method_3_code 0 = .ok (.aload_n 0, 1) := fx_dat dk_Row_put_I 0 rfl
theorem d_Row_put_I_1 : decode prog_11_method_3_code 1 = .ok (.iconst 1, 1) := fx_dat dk_Row_put_I 1 rfl
theorem d_Row_put_I_2 : decode prog_11_method_3_code 2 = .ok (.invokevirtual 29, 3) := fx_dat dk_Row_put_I 2 rfl
theorem d_Row_put_I_5 : decode prog_11_method_3_code 5 = .ok (.aload_n 0, 1) := fx_dat dk_Row_put_I 3 rfl
theorem d_Row_put_I_6 : decode prog_11_method_3_code 6 = .ok (.getfield 7, 3) := fx_dat dk_Row_put_I 4 rfl
theorem d_Row_put_I_9 : decode prog_11_method_3_code 9 = .ok (.aload_n 0, 1) := fx_dat dk_Row_put_I 5 rfl
theorem d_Row_put_I_10 : decode prog_11_method_3_code 10 = .ok (.dup, 1) := fx_dat dk_Row_put_I 6 rfl
theorem d_Row_put_I_11 : decode prog_11_method_3_code 11 = .ok (.getfield 13, 3) := fx_dat dk_Row_put_I 7 rfl
theorem d_Row_put_I_14 : decode prog_11_method_3_code 14 = .ok (.dup_x1, 1) := fx_dat dk_Row_put_I 8 rfl
theorem d_Row_put_I_15 : decode prog_11_method_3_code 15 = .ok (.iconst 1, 1) := fx_dat dk_Row_put_I 9 rfl
theorem d_Row_put_I_16 : decode prog_11_method_3_code 16 = .ok (.iadd, 1) := fx_dat dk_Row_put_I 10 rfl
theorem d_Row_put_I_17 : decode prog_11_method_3_code 17 = .ok (.putfield 13, 3) := fx_dat dk_Row_put_I 11 rfl
theorem d_Row_put_I_20 : decode prog_11_method_3_code 20 = .ok (.iload_n 1, 1) := fx_dat dk_Row_put_I 12 rfl
theorem d_Row_put_I_21 : decode prog_11_method_3_code 21 = .ok (.i2b, 1) := fx_dat dk_Row_put_I 13 rfl
theorem d_Row_put_I_22 : decode prog_11_method_3_code 22 = .ok (.bastore, 1) := fx_dat dk_Row_put_I 14 rfl
theorem d_Row_put_I_23 : decode prog_11_method_3_code 23 = .ok (.return_, 1) := fx_dat dk_Row_put_I 15 rfl
def m_Row_put_I (Q : AH → Prop) (r0 : Nat) (x1 : Int32) (h : AH) : Prop := hp_k h r0 = 2 ∧ m_Row_room (fun h1 => fx_ext h h1 → ∃ b1, hp_R h1 r0 0 = some b1 ∧ ∀ h2 : AH, h2 = up_I h1 r0 1 ((hp_I h1 r0 1) + (1 : Int32)) → hp_k h2 b1 = 101 ∧ vp_in (hp_I h1 r0 1) (hp_n h2 b1) ∧ ∀ h3 : AH, h3 = up_I h2 b1 ((hp_I h1 r0 1)).toNatClampNeg (((x1).toInt8.toInt32)).toInt8.toInt32 → Q h3) r0 (1 : Int32) h
theorem b_Row_put_I_0 {p : Program} {l : Launch} {e : Env} {R : Room} {s : State} {m : MethodId} {args : Array Value} {below : List Frame} {meth : Method} {c : Code} {D : DD} {h0 : AH} {Q : AH → Prop} (C : fx_CX D y_Row_put_I prog_11_method_3_code 2 2 32 (none) [] h0 p R s m meth c) (hl : l.flags = flags0) (r0 : Nat) (x1 : Int32) (h : AH) (hw : m_Row_put_I Q r0 x1 h) : ∀ (ls : Array Slot) (H : Heap) (locs : List Loc) (cells slots : Nat), lv_has ls 2 [(0, .ref r0), (1, .int x1)] → fx_F D h0 h H locs cells slots → W p l e R s m args below meth c H locs cells slots (fx_Z D below s h0 (fx_oV Q fx_no)) (F0 m 0 ls []) := by
  unfold m_Row_put_I at hw
  intro ls H locs cells slots hv F
  refine lv_aload_n C.ex C.by d_Row_put_I_0 rfl (lv_at hv 0 rfl) ?_
  refine lv_iconst (v := (1 : Int32)) C.ex C.by d_Row_put_I_1 (by decide) ?_
  obtain ⟨hk1, hw⟩ := hw
  refine fx_callV C F (c_Row_room hl hw) hm_Row_room hi_Row_room hv.1 (by decide) (Nat.le_of_ble_eq_true rfl) (iv_Row_room C F lm_Row_29 hk1 d_Row_put_I_2) (fx_out0 _) fx_eno (fun h1 H locs cells slots hw hx1 F => ?_)
  replace hw := hw hx1
  have hk1 := (hx1).k hk1
  refine lv_aload_n C.ex C.by d_Row_put_I_5 rfl (lv_at hv 0 rfl) ?_
  obtain ⟨b1, hb1, hw⟩ := hw
  refine fx_getR C F lf_Row_7 hk1 rfl hb1 d_Row_put_I_6 ?_
  refine lv_aload_n C.ex C.by d_Row_put_I_9 rfl (lv_at hv 0 rfl) ?_
  refine lv_dup C.ex C.by d_Row_put_I_10 rfl ?_
  refine fx_getI C F lf_Row_13 hk1 rfl d_Row_put_I_11 ?_
  refine lv_dup_x1 C.ex C.by d_Row_put_I_14 rfl rfl ?_
  refine lv_iconst (v := (1 : Int32)) C.ex C.by d_Row_put_I_15 (by decide) ?_
  refine lv_iadd C.ex C.by d_Row_put_I_16 ?_
  let h2 : AH := up_I h1 r0 1 ((hp_I h1 r0 1) + (1 : Int32))
  replace hw := hw h2 rfl
  refine fx_putI C F lf_Row_13 hk1 rfl rfl (fx_mayF.no rfl rfl) d_Row_put_I_17 (fun H locs (F : fx_F D h0 h2 H locs _ _) => ?_)
  refine lv_iload_n C.ex C.by d_Row_put_I_20 rfl (lv_at hv 1 rfl) ?_
  refine lv_i2b (v := ((x1).toInt8.toInt32)) C.ex C.by d_Row_put_I_21 rfl ?_
  obtain ⟨hk2, hw⟩ := hw
  obtain ⟨hi1, hw⟩ := hw
  let h3 : AH := up_I h2 b1 ((hp_I h1 r0 1)).toNatClampNeg (((x1).toInt8.toInt32)).toInt8.toInt32
  replace hw := hw h3 rfl
  refine fx_bast C F hk2 hi1 d_Row_put_I_22 (fun H locs (F : fx_F D h0 h3 H locs _ _) => ?_)
  exact fx_vret C F d_Row_put_I_23 (Or.inl ⟨rfl, hw⟩)
theorem hm_Row_put_I : fx_hd y_Row_put_I prog_11_method_3_code 2 (none) [] ∈ tables_1 := (fx_m3 (List.mem_of_getElem? (i := 17) rfl))
theorem hi_Row_put_I : Cond.initialized y_Row_put_I.cls ∈ tables_1 := (fx_m1 (List.mem_of_getElem? (i := 2) rfl))
theorem c_Row_put_I {l : Launch} (hl : l.flags = flags0) {D : DD} {Q : AH → Prop} {r0 : Nat} {x1 : Int32} {h : AH} (hw : m_Row_put_I Q r0 x1 h) : fx_Mt l D y_Row_put_I (fx_hd y_Row_put_I prog_11_method_3_code 2 (none) []) 2 32 [.ref r0, .int x1] h (fx_oV Q fx_no) := by
  refine fx_ofW (plainFor_of_name (by decide)) (fun p e s m below meth c C F => ?_)
  have hv := lv_entry ([.ref r0, .int x1]) (n := 2) (Nat.le_of_ble_eq_true rfl)
  rw [lg_entry_eq]
  generalize (lg_sl ([.ref r0, .int x1]) ++ List.replicate (2 - (lg_sl ([.ref r0, .int x1])).length) Slot.unset).toArray = ls at hv ⊢
  have hv : lv_has ls 2 [(0, .ref r0), (1, .int x1)] := hv
  exact b_Row_put_I_0 C hl _ _ _ hw _ _ _ _ _ hv F
/-! ChainJudge$Row.four(I)V: frames 3, words 45 -/
abbrev y_Row_four : MethodName := ⟨"ChainJudge$Row", "four", "(I)V"⟩
theorem lm_Row_33 : Cond.methodLink "ChainJudge$Row" 33 y_Row_put_I ∈ tables_1 ∨ ∃ host, Cond.methodLinkNest "ChainJudge$Row" 33 y_Row_put_I host ∈ tables_1 := Or.inl (fx_m3 (List.mem_of_getElem? (i := 14) rfl))
section
variable {p : Program} {l : Launch} {e : Env} {R : Room} {s : State} {m : MethodId} {args : Array Value} {below : List Frame} {meth : Method} {c : Code} {H : Heap} {locs : List Loc} {cells slots : Nat}
variable {D : DD} {y : MethodName} {cc : ByteArray} {nL kf kw : Nat} {ret : Option FieldType} {hh : List (Nat × Nat × Nat × Nat)} {h0 h : AH} {pc : Nat} {ls : Array Slot} {rest : List Value} {b idx : Nat}
theorem iv_Row_put_I {x1 : Int32} (C : fx_CX D y cc nL kf kw ret hh h0 p R s m meth c) (F : fx_F D h0 h H locs cells slots) (hw1 : Cond.methodLink y.cls idx y_Row_put_I ∈ tables_1 ∨ ∃ host, Cond.methodLinkNest y.cls idx y_Row_put_I host ∈ tables_1) (hk : hp_k h b = 2) (hd : decode cc pc = .ok (.invokevirtual idx, 3)) : fx_IV p l e R s m args below meth c H locs cells slots (F0 m pc ls (.int x1 :: .ref b :: rest)) rest y_Row_put_I [.ref b, .int x1] 3 := fun T hT X => fx_invV (As := [.int x1]) (Cn := "ChainJudge$Row") C X hw1 (fx_m3 (List.mem_of_getElem? (i := 15) rfl)) (fx_selW C (fx_m3 (List.mem_of_getElem? (i := 16) rfl))) hm_Row_put_I ⟨by decide, by decide⟩ (by rw [hT]; exact fx_clsO (ci := 1) (r := ("ChainJudge$Row", fx_T1, 2)) C F rfl (by decide) hk) rfl (n := 1) (by decide +kernel) rfl rfl hd
end
def dl_Row_four : List (Nat × Instr × Nat) := [(0, .bipush 24, 2), (2, .istore_n 2, 1), (3, .iload_n 2, 1), (4, .ifCond .lt 16, 3), (7, .aload_n 0, 1), (8, .iload_n 1, 1), (9, .iload_n 2, 1), (10, .iushr, 1), (11, .invokevirtual 33, 3), (14, .iinc 2 (-8), 3), (17, .goto (-14), 3), (20, .return_, 1)]
theorem dk_Row_four : fx_dec prog_11_method_5_code dl_Row_four = true := by decide +kernel
theorem d_Row_four_0 : decode prog_11_method_5_code 0 = .ok (.bipush 24, 2) := fx_dat dk_Row_four 0 rfl
theorem d_Row_four_2 : decode prog_11_method_5_code 2 = .ok (.istore_n 2, 1) := fx_dat dk_Row_four 1 rfl
theorem d_Row_four_3 : decode prog_11_method_5_code 3 = .ok (.iload_n 2, 1) := fx_dat dk_Row_four 2 rfl
theorem d_Row_four_4 : decode prog_11_method_5_code 4 = .ok (.ifCond .lt 16, 3) := fx_dat dk_Row_four 3 rfl
theorem d_Row_four_7 : decode prog_11_method_5_code 7 = .ok (.aload_n 0, 1) := fx_dat dk_Row_four 4 rfl
theorem d_Row_four_8 : decode prog_11_method_5_code 8 = .ok (.iload_n 1, 1) := fx_dat dk_Row_four 5 rfl
theorem d_Row_four_9 : decode prog_11_method_5_code 9 = .ok (.iload_n 2, 1) := fx_dat dk_Row_four 6 rfl
theorem d_Row_four_10 : decode prog_11_method_5_code 10 = .ok (.iushr, 1) := fx_dat dk_Row_four 7 rfl
theorem d_Row_four_11 : decode prog_11_method_5_code 11 = .ok (.invokevirtual 33, 3) := fx_dat dk_Row_four 8 rfl
theorem d_Row_four_14 : decode prog_11_method_5_code 14 = .ok (.iinc 2 (-8), 3) := fx_dat dk_Row_four 9 rfl
theorem d_Row_four_17 : decode prog_11_method_5_code 17 = .ok (.goto (-14), 3) := fx_dat dk_Row_four 10 rfl
theorem d_Row_four_20 : decode prog_11_method_5_code 20 = .ok (.return_, 1) := fx_dat dk_Row_four 11 rfl
def m_Row_four_3_b (Q : AH → Prop) (X3 : Int32 × AH → Prop) (r0 : Nat) (x1 : Int32) (x2 : Int32) (h : AH) : Prop := (x2 < 0 → Q h) ∧ (¬ x2 < 0 → hp_k h r0 = 2 ∧ m_Row_put_I (fun h1 => fx_ext h h1 → ∀ v1 : Int32, v1 = (x2 + (-8 : Int32)) → X3 (v1, h1)) r0 (sh_iu x1 x2) h)
def m_Row_four_3 (Q : AH → Prop) (r0 : Nat) (x1 : Int32) (x2 : Int32) (h : AH) : Prop := fx_loop (fun (X3 : Int32 × AH → Prop) (st : Int32 × AH) => m_Row_four_3_b Q X3 r0 x1 st.1 st.2) (x2, h)
def m_Row_four (Q : AH → Prop) (r0 : Nat) (x1 : Int32) (h : AH) : Prop := m_Row_four_3 Q r0 x1 (24 : Int32) h
theorem b_Row_four_3 {p : Program} {l : Launch} {e : Env} {R : Room} {s : State} {m : MethodId} {args : Array Value} {below : List Frame} {meth : Method} {c : Code} {D : DD} {h0 : AH} {Q : AH → Prop} (C : fx_CX D y_Row_four prog_11_method_5_code 3 3 45 (none) [] h0 p R s m meth c) (hl : l.flags = flags0) (r0 : Nat) (x1 : Int32) (x2 : Int32) (h : AH) (hw : m_Row_four_3 Q r0 x1 x2 h) : ∀ (ls : Array Slot) (H : Heap) (locs : List Loc) (cells slots : Nat), lv_has ls 3 [(0, .ref r0), (1, .int x1), (2, .int x2)] → fx_F D h0 h H locs cells slots → W p l e R s m args below meth c H locs cells slots (fx_Z D below s h0 (fx_oV Q fx_no)) (F0 m 3 ls []) := by
  refine fx_loop.use hw (fun st => ∀ (ls : Array Slot) (H : Heap) (locs : List Loc) (cells slots : Nat), lv_has ls 3 [(0, .ref r0), (1, .int x1), (2, .int st.1)] → fx_F D h0 st.2 H locs cells slots → W p l e R s m args below meth c H locs cells slots (fx_Z D below s h0 (fx_oV Q fx_no)) (F0 m 3 ls [])) (fun X3 st hX3 hw => ?_)
  obtain ⟨x2, h⟩ := st
  replace hw : m_Row_four_3_b Q X3 r0 x1 x2 h := hw
  unfold m_Row_four_3_b at hw
  intro ls H locs cells slots hv F
  refine lv_iload_n C.ex C.by d_Row_four_3 rfl (lv_at hv 2 rfl) ?_
  refine lv_if_lt C.ex C.by d_Row_four_4 rfl (fun hc => ?_) (fun hc => ?_)
  · replace hw := hw.1 hc
    exact fx_vret C F d_Row_four_20 (Or.inl ⟨rfl, hw⟩)
  · replace hw := hw.2 hc
    refine lv_aload_n C.ex C.by d_Row_four_7 rfl (lv_at hv 0 rfl) ?_
    refine lv_iload_n C.ex C.by d_Row_four_8 rfl (lv_at hv 1 rfl) ?_
    refine lv_iload_n C.ex C.by d_Row_four_9 rfl (lv_at hv 2 rfl) ?_
    refine lv_iushr (v := (sh_iu x1 x2)) C.ex C.by d_Row_four_10 rfl ?_
    obtain ⟨hk1, hw⟩ := hw
    refine fx_callV C F (c_Row_put_I hl hw) hm_Row_put_I hi_Row_put_I hv.1 (by decide) (Nat.le_of_ble_eq_true rfl) (iv_Row_put_I C F lm_Row_33 hk1 d_Row_four_11) (fx_out0 _) fx_eno (fun h1 H locs cells slots hw hx1 F => ?_)
    replace hw := hw hx1
    have hk1 := (hx1).k hk1
    let v1 : Int32 := (x2 + (-8 : Int32))
    replace hw := hw v1 rfl
    refine lv_iinc (v := v1) (k := 2) (lv' := [(2, .int v1), (0, .ref r0), (1, .int x1)]) C.ex C.by d_Row_four_14 hv rfl (congrArg (fun z => x2 + z) (by decide)) (by decide) rfl (fun ls hv => ?_)
    refine lv_goto C.ex C.by d_Row_four_17 rfl ?_
    exact hX3 _ hw _ _ _ _ _ (lv_sub hv [1, 2, 0] rfl) F
theorem b_Row_four_0 {p : Program} {l : Launch} {e : Env} {R : Room} {s : State} {m : MethodId} {args : Array Value} {below : List Frame} {meth : Method} {c : Code} {D : DD} {h0 : AH} {Q : AH → Prop} (C : fx_CX D y_Row_four prog_11_method_5_code 3 3 45 (none) [] h0 p R s m meth c) (hl : l.flags = flags0) (r0 : Nat) (x1 : Int32) (h : AH) (hw : m_Row_four Q r0 x1 h) : ∀ (ls : Array Slot) (H : Heap) (locs : List Loc) (cells slots : Nat), lv_has ls 3 [(0, .ref r0), (1, .int x1)] → fx_F D h0 h H locs cells slots → W p l e R s m args below meth c H locs cells slots (fx_Z D below s h0 (fx_oV Q fx_no)) (F0 m 0 ls []) := by
  unfold m_Row_four at hw
  intro ls H locs cells slots hv F
  refine lv_bipush (v := (24 : Int32)) C.ex C.by d_Row_four_0 (by decide) ?_
  refine lv_istore_n (lv' := [(2, .int (24 : Int32)), (0, .ref r0), (1, .int x1)]) C.ex C.by d_Row_four_2 rfl hv (by decide) rfl (fun ls hv => ?_)
  exact b_Row_four_3 C hl _ _ _ _ hw _ _ _ _ _ (lv_sub hv [1, 2, 0] rfl) F
theorem hm_Row_four : fx_hd y_Row_four prog_11_method_5_code 3 (none) [] ∈ tables_1 := (fx_m3 (List.mem_of_getElem? (i := 13) rfl))
theorem hi_Row_four : Cond.initialized y_Row_four.cls ∈ tables_1 := (fx_m1 (List.mem_of_getElem? (i := 2) rfl))
theorem c_Row_four {l : Launch} (hl : l.flags = flags0) {D : DD} {Q : AH → Prop} {r0 : Nat} {x1 : Int32} {h : AH} (hw : m_Row_four Q r0 x1 h) : fx_Mt l D y_Row_four (fx_hd y_Row_four prog_11_method_5_code 3 (none) []) 3 45 [.ref r0, .int x1] h (fx_oV Q fx_no) := by
  refine fx_ofW (plainFor_of_name (by decide)) (fun p e s m below meth c C F => ?_)
  have hv := lv_entry ([.ref r0, .int x1]) (n := 3) (Nat.le_of_ble_eq_true rfl)
  rw [lg_entry_eq]
  generalize (lg_sl ([.ref r0, .int x1]) ++ List.replicate (3 - (lg_sl ([.ref r0, .int x1])).length) Slot.unset).toArray = ls at hv ⊢
  have hv : lv_has ls 3 [(0, .ref r0), (1, .int x1)] := hv
  exact b_Row_four_0 C hl _ _ _ hw _ _ _ _ _ hv F
