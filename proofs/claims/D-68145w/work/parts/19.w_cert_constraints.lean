set_option maxRecDepth 10000
/-! ChainJudge$Certificate.constraints(I)V: frames 9, words 123, throws -/
abbrev y_Cert_constraints : MethodName := ⟨"ChainJudge$Certificate", "constraints", "(I)V"⟩
theorem lm_Cert_201 : Cond.methodLink "ChainJudge$Certificate" 201 y_Rd_truth ∈ tables_1 ∨ ∃ host, Cond.methodLinkNest "ChainJudge$Certificate" 201 y_Rd_truth host ∈ tables_1 := Or.inl (fx_m4 (List.mem_of_getElem? (i := 2) rfl))
section
variable {p : Program} {l : Launch} {e : Env} {R : Room} {s : State} {m : MethodId} {args : Array Value} {below : List Frame} {meth : Method} {c : Code} {H : Heap} {locs : List Loc} {cells slots : Nat}
variable {D : DD} {y : MethodName} {cc : ByteArray} {nL kf kw : Nat} {ret : Option FieldType} {hh : List (Nat × Nat × Nat × Nat)} {h0 h : AH} {pc : Nat} {ls : Array Slot} {rest : List Value} {b idx : Nat}
theorem iv_Rd_truth {x1 : Int32} (C : fx_CX D y cc nL kf kw ret hh h0 p R s m meth c) (F : fx_F D h0 h H locs cells slots) (hw1 : Cond.methodLink y.cls idx y_Rd_truth ∈ tables_1 ∨ ∃ host, Cond.methodLinkNest y.cls idx y_Rd_truth host ∈ tables_1) (hk : hp_k h b = 9) (hd : decode cc pc = .ok (.invokevirtual idx, 3)) : fx_IV p l e R s m args below meth c H locs cells slots (F0 m pc ls (.int x1 :: .ref b :: rest)) rest y_Rd_truth [.ref b, .int x1] 3 := fun T hT X => fx_invV (As := [.int x1]) (Cn := "ChainJudge$Reader") C X hw1 (fx_m4 (List.mem_of_getElem? (i := 3) rfl)) (fx_selW C (fx_m4 (List.mem_of_getElem? (i := 4) rfl))) hm_Rd_truth ⟨by decide, by decide⟩ (by rw [hT]; exact fx_clsO (ci := 8) (r := ("ChainJudge$Reader", fx_T8, 2)) C F rfl (by decide) hk) rfl (n := 1) (by decide +kernel) rfl rfl hd
end
def dl_Cert_constraints : List (Nat × Instr × Nat) := [(0, .aload_n 0, 1), (1, .getfield 10, 3), (4, .bipush 48, 2), (6, .iload_n 1, 1), (7, .invokevirtual 115, 3), (10, .istore_n 2, 1), (11, .aload_n 0, 1), (12, .aload_n 0, 1), (13, .getfield 10, 3), (16, .iload_n 2, 1), (17, .invokevirtual 201, 3), (20, .putfield 67, 3), (23, .aload_n 0, 1), (24, .getfield 67, 3), (27, .ifCond .eq 80, 3), (30, .aload_n 0, 1), (31, .getfield 10, 3), (34, .getfield 106, 3), (37, .iload_n 2, 1), (38, .if_icmp .ge 69, 3), (41, .aload_n 0, 1), (42, .getfield 10, 3), (45, .iconst 2, 1), (46, .iload_n 2, 1), (47, .invokevirtual 115, 3), (50, .istore_n 3, 1), (51, .iload_n 3, 1), (52, .aload_n 0, 1), (53, .getfield 10, 3), (56, .getfield 106, 3), (59, .isub, 1), (60, .iconst 1, 1), (61, .if_icmp .ne 18, 3), (64, .aload_n 0, 1), (65, .getfield 16, 3), (68, .aload_n 0, 1), (69, .getfield 10, 3), (72, .getfield 106, 3), (75, .baload, 1), (76, .ifCond .ge 7, 3), (79, .invokestatic 128, 3), (82, .athrow, 1), (83, .aload_n 0, 1), (84, .aload_n 0, 1), (85, .getfield 16, 3), (88, .aload_n 0, 1), (89, .getfield 10, 3), (92, .getfield 106, 3), (95, .baload, 1), (96, .putfield 77, 3), (99, .aload_n 0, 1), (100, .getfield 10, 3), (103, .iload_n 3, 1), (104, .putfield 106, 3), (107, .aload_n 0, 1), (108, .getfield 10, 3), (111, .iload_n 2, 1), (112, .invokevirtual 132, 3), (115, .return_, 1)]
theorem dk_Cert_constraints : fx_dec prog_2_method_11_code dl_Cert_constraints = true := by decide +kernel
theorem d_Cert_constraints_0 : decode prog_2_method_11_code 0 = .ok (.aload_n 0, 1) := fx_dat dk_Cert_constraints 0 rfl
theorem d_Cert_constraints_1 : decode prog_2_method_11_code 1 = .ok (.getfield 10, 3) := fx_dat dk_Cert_constraints 1 rfl
theorem d_Cert_constraints_4 : decode prog_2_method_11_code 4 = .ok (.bipush 48, 2) := fx_dat dk_Cert_constraints 2 rfl
theorem d_Cert_constraints_6 : decode prog_2_method_11_code 6 = .ok (.iload_n 1, 1) := fx_dat dk_Cert_constraints 3 rfl
theorem d_Cert_constraints_7 : decode prog_2_method_11_code 7 = .ok (.invokevirtual 115, 3) := fx_dat dk_Cert_constraints 4 rfl
theorem d_Cert_constraints_10 : decode prog_2_method_11_code 10 = .ok (.istore_n 2, 1) := fx_dat dk_Cert_constraints 5 rfl
theorem d_Cert_constraints_11 : decode prog_2_method_11_code 11 = .ok (.aload_n 0, 1) := fx_dat dk_Cert_constraints 6 rfl
theorem d_Cert_constraints_12 : decode prog_2_method_11_code 12 = .ok (.aload_n 0, 1) := fx_dat dk_Cert_constraints 7 rfl
theorem d_Cert_constraints_13 : decode prog_2_method_11_code 13 = .ok (.getfield 10, 3) := fx_dat dk_Cert_constraints 8 rfl
theorem d_Cert_constraints_16 : decode prog_2_method_11_code 16 = .ok (.iload_n 2, 1) := fx_dat dk_Cert_constraints 9 rfl
theorem d_Cert_constraints_17 : decode prog_2_method_11_code 17 = .ok (.invokevirtual 201, 3) := fx_dat dk_Cert_constraints 10 rfl
theorem d_Cert_constraints_20 : decode prog_2_method_11_code 20 = .ok (.putfield 67, 3) := fx_dat dk_Cert_constraints 11 rfl
theorem d_Cert_constraints_23 : decode prog_2_method_11_code 23 = .ok (.aload_n 0, 1) := fx_dat dk_Cert_constraints 12 rfl
theorem d_Cert_constraints_24 : decode prog_2_method_11_code 24 = .ok (.getfield 67, 3) := fx_dat dk_Cert_constraints 13 rfl
theorem d_Cert_constraints_27 : decode prog_2_method_11_code 27 = .ok (.ifCond .eq 80, 3) := fx_dat dk_Cert_constraints 14 rfl
theorem d_Cert_constraints_30 : decode prog_2_method_11_code 30 = .ok (.aload_n 0, 1) := fx_dat dk_Cert_constraints 15 rfl
theorem d_Cert_constraints_31 : decode prog_2_method_11_code 31 = .ok (.getfield 10, 3) := fx_dat dk_Cert_constraints 16 rfl
theorem d_Cert_constraints_34 : decode prog_2_method_11_code 34 = .ok (.getfield 106, 3) := fx_dat dk_Cert_constraints 17 rfl
theorem d_Cert_constraints_37 : decode prog_2_method_11_code 37 = .ok (.iload_n 2, 1) := fx_dat dk_Cert_constraints 18 rfl
theorem d_Cert_constraints_38 : decode prog_2_method_11_code 38 = .ok (.if_icmp .ge 69, 3) := fx_dat dk_Cert_constraints 19 rfl
theorem d_Cert_constraints_41 : decode prog_2_method_11_code 41 = .ok (.aload_n 0, 1) := fx_dat dk_Cert_constraints 20 rfl
theorem d_Cert_constraints_42 : decode prog_2_method_11_code 42 = .ok (.getfield 10, 3) := fx_dat dk_Cert_constraints 21 rfl
theorem d_Cert_constraints_45 : decode prog_2_method_11_code 45 = .ok (.iconst 2, 1) := fx_dat dk_Cert_constraints 22 rfl
theorem d_Cert_constraints_46 : decode prog_2_method_11_code 46 = .ok (.iload_n 2, 1) := fx_dat dk_Cert_constraints 23 rfl
theorem d_Cert_constraints_47 : decode prog_2_method_11_code 47 = .ok (.invokevirtual 115, 3) := fx_dat dk_Cert_constraints 24 rfl
theorem d_Cert_constraints_50 : decode prog_2_method_11_code 50 = .ok (.istore_n 3, 1) := fx_dat dk_Cert_constraints 25 rfl
theorem d_Cert_constraints_51 : decode prog_2_method_11_code 51 = .ok (.iload_n 3, 1) := fx_dat dk_Cert_constraints 26 rfl
theorem d_Cert_constraints_52 : decode prog_2_method_11_code 52 = .ok (.aload_n 0, 1) := fx_dat dk_Cert_constraints 27 rfl
theorem d_Cert_constraints_53 : decode prog_2_method_11_code 53 = .ok (.getfield 10, 3) := fx_dat dk_Cert_constraints 28 rfl
theorem d_Cert_constraints_56 : decode prog_2_method_11_code 56 = .ok (.getfield 106, 3) := fx_dat dk_Cert_constraints 29 rfl
theorem d_Cert_constraints_59 : decode prog_2_method_11_code 59 = .ok (.isub, 1) := fx_dat dk_Cert_constraints 30 rfl
theorem d_Cert_constraints_60 : decode prog_2_method_11_code 60 = .ok (.iconst 1, 1) := fx_dat dk_Cert_constraints 31 rfl
theorem d_Cert_constraints_61 : decode prog_2_method_11_code 61 = .ok (.if_icmp .ne 18, 3) := fx_dat dk_Cert_constraints 32 rfl
theorem d_Cert_constraints_64 : decode prog_2_method_11_code 64 = .ok (.aload_n 0, 1) := fx_dat dk_Cert_constraints 33 rfl
theorem d_Cert_constraints_65 : decode prog_2_method_11_code 65 = .ok (.getfield 16, 3) := fx_dat dk_Cert_constraints 34 rfl
theorem d_Cert_constraints_68 : decode prog_2_method_11_code 68 = .ok (.aload_n 0, 1) := fx_dat dk_Cert_constraints 35 rfl
theorem d_Cert_constraints_69 : decode prog_2_method_11_code 69 = .ok (.getfield 10, 3) := fx_dat dk_Cert_constraints 36 rfl
theorem d_Cert_constraints_72 : decode prog_2_method_11_code 72 = .ok (.getfield 106, 3) := fx_dat dk_Cert_constraints 37 rfl
theorem d_Cert_constraints_75 : decode prog_2_method_11_code 75 = .ok (.baload, 1) := fx_dat dk_Cert_constraints 38 rfl
theorem d_Cert_constraints_76 : decode prog_2_method_11_code 76 = .ok (.ifCond .ge 7, 3) := fx_dat dk_Cert_constraints 39 rfl
theorem d_Cert_constraints_79 : decode prog_2_method_11_code 79 = .ok (.invokestatic 128, 3) := fx_dat dk_Cert_constraints 40 rfl
theorem d_Cert_constraints_82 : decode prog_2_method_11_code 82 = .ok (.athrow, 1) := fx_dat dk_Cert_constraints 41 rfl
theorem d_Cert_constraints_83 : decode prog_2_method_11_code 83 = .ok (.aload_n 0, 1) := fx_dat dk_Cert_constraints 42 rfl
theorem d_Cert_constraints_84 : decode prog_2_method_11_code 84 = .ok (.aload_n 0, 1) := fx_dat dk_Cert_constraints 43 rfl
theorem d_Cert_constraints_85 : decode prog_2_method_11_code 85 = .ok (.getfield 16, 3) := fx_dat dk_Cert_constraints 44 rfl
theorem d_Cert_constraints_88 : decode prog_2_method_11_code 88 = .ok (.aload_n 0, 1) := fx_dat dk_Cert_constraints 45 rfl
theorem d_Cert_constraints_89 : decode prog_2_method_11_code 89 = .ok (.getfield 10, 3) := fx_dat dk_Cert_constraints 46 rfl
theorem d_Cert_constraints_92 : decode prog_2_method_11_code 92 = .ok (.getfield 106, 3) := fx_dat dk_Cert_constraints 47 rfl
theorem d_Cert_constraints_95 : decode prog_2_method_11_code 95 = .ok (.baload, 1) := fx_dat dk_Cert_constraints 48 rfl
theorem d_Cert_constraints_96 : decode prog_2_method_11_code 96 = .ok (.putfield 77, 3) := fx_dat dk_Cert_constraints 49 rfl
theorem d_Cert_constraints_99 : decode prog_2_method_11_code 99 = .ok (.aload_n 0, 1) := fx_dat dk_Cert_constraints 50 rfl
theorem d_Cert_constraints_100 : decode prog_2_method_11_code 100 = .ok (.getfield 10, 3) := fx_dat dk_Cert_constraints 51 rfl
theorem d_Cert_constraints_103 : decode prog_2_method_11_code 103 = .ok (.iload_n 3, 1) := fx_dat dk_Cert_constraints 52 rfl
theorem d_Cert_constraints_104 : decode prog_2_method_11_code 104 = .ok (.putfield 106, 3) := fx_dat dk_Cert_constraints 53 rfl
theorem d_Cert_constraints_107 : decode prog_2_method_11_code 107 = .ok (.aload_n 0, 1) := fx_dat dk_Cert_constraints 54 rfl
theorem d_Cert_constraints_108 : decode prog_2_method_11_code 108 = .ok (.getfield 10, 3) := fx_dat dk_Cert_constraints 55 rfl
theorem d_Cert_constraints_111 : decode prog_2_method_11_code 111 = .ok (.iload_n 2, 1) := fx_dat dk_Cert_constraints 56 rfl
theorem d_Cert_constraints_112 : decode prog_2_method_11_code 112 = .ok (.invokevirtual 132, 3) := fx_dat dk_Cert_constraints 57 rfl
theorem d_Cert_constraints_115 : decode prog_2_method_11_code 115 = .ok (.return_, 1) := fx_dat dk_Cert_constraints 58 rfl
def m_Cert_constraints_107 (Q : AH → Prop) (E : Nat → AH → Prop) (r0 : Nat) (x2 : Int32) (h : AH) : Prop := hp_k h r0 = 8 ∧ ∃ b1, hp_R h r0 1 = some b1 ∧ hp_k h b1 = 9 ∧ m_Rd_leave (fun h1 => fx_ext h h1 → Q h1) (fun a ht => fx_ext h ht → E a ht) b1 x2 h
def m_Cert_constraints_79 (Q : AH → Prop) (E : Nat → AH → Prop) (h : AH) : Prop := m_Rd_bad (fun q1 h1 => fx_ext h h1 → E q1 h1) h
def m_Cert_constraints (Q : AH → Prop) (E : Nat → AH → Prop) (r0 : Nat) (x1 : Int32) (h : AH) : Prop := hp_k h r0 = 8 ∧ ∃ b1, hp_R h r0 1 = some b1 ∧ hp_k h b1 = 9 ∧ m_Rd_enter (fun v1 h1 => fx_ext h h1 → ∃ b2, hp_R h1 r0 1 = some b2 ∧ hp_k h1 b2 = 9 ∧ m_Rd_truth (fun v2 h2 => fx_ext h1 h2 → zb v2 → zb v2 ∧ ∀ h3 : AH, h3 = up_I h2 r0 18 v2 → ((hp_I h3 r0 18) = 0 → m_Cert_constraints_107 Q E r0 v1 h3) ∧ (¬ (hp_I h3 r0 18) = 0 → ∃ b3, hp_R h3 r0 1 = some b3 ∧ hp_k h3 b3 = 9 ∧ (v1 ≤ (hp_I h3 b3 1) → m_Cert_constraints_107 Q E r0 v1 h3) ∧ (¬ v1 ≤ (hp_I h3 b3 1) → m_Rd_enter (fun v3 h4 => fx_ext h3 h4 → ∃ b4, hp_R h4 r0 1 = some b4 ∧ hp_k h4 b4 = 9 ∧ (¬ (v3 - (hp_I h4 b4 1)) = (1 : Int32) → m_Cert_constraints_79 Q E h4) ∧ ((v3 - (hp_I h4 b4 1)) = (1 : Int32) → ∃ b5, hp_R h4 r0 2 = some b5 ∧ bk (hp_k h4 b5) ∧ vp_in (hp_I h4 b4 1) (hp_n h4 b5) ∧ (by8 (hp_I h4 b5 ((hp_I h4 b4 1)).toNatClampNeg) → (0 ≤ (hp_I h4 b5 ((hp_I h4 b4 1)).toNatClampNeg) → vp_in (hp_I h4 b4 1) (hp_n h4 b5) ∧ (by8 (hp_I h4 b5 ((hp_I h4 b4 1)).toNatClampNeg) → ∀ h5 : AH, h5 = up_I h4 r0 21 (hp_I h4 b5 ((hp_I h4 b4 1)).toNatClampNeg) → ∀ h6 : AH, h6 = up_I h5 b4 1 v3 → m_Cert_constraints_107 Q E r0 v1 h6)) ∧ (¬ 0 ≤ (hp_I h4 b5 ((hp_I h4 b4 1)).toNatClampNeg) → m_Cert_constraints_79 Q E h4)))) (fun a ht => fx_ext h3 ht → E a ht) b3 (2 : Int32) v1 h3))) (fun a ht => fx_ext h1 ht → E a ht) b2 v1 h1) (fun a ht => fx_ext h ht → E a ht) b1 (48 : Int32) x1 h
theorem b_Cert_constraints_107 {p : Program} {l : Launch} {e : Env} {R : Room} {s : State} {m : MethodId} {args : Array Value} {below : List Frame} {meth : Method} {c : Code} {D : DD} {h0 : AH} {Q : AH → Prop} {E : Nat → AH → Prop} (C : fx_CX D y_Cert_constraints prog_2_method_11_code 4 9 123 (none) [] h0 p R s m meth c) (hl : l.flags = flags0) (r0 : Nat) (x2 : Int32) (h : AH) (hw : m_Cert_constraints_107 Q E r0 x2 h) : ∀ (ls : Array Slot) (H : Heap) (locs : List Loc) (cells slots : Nat), lv_has ls 4 [(0, .ref r0), (2, .int x2)] → fx_F D h0 h H locs cells slots → W p l e R s m args below meth c H locs cells slots (fx_Z D below s h0 (fx_oV Q E)) (F0 m 107 ls []) := by
  unfold m_Cert_constraints_107 at hw
  intro ls H locs cells slots hv F
  refine lv_aload_n C.ex C.by d_Cert_constraints_107 rfl (lv_at hv 0 rfl) ?_
  obtain ⟨hk1, hw⟩ := hw
  obtain ⟨b1, hb1, hw⟩ := hw
  refine fx_getR C F lf_Cert_10 hk1 rfl hb1 d_Cert_constraints_108 ?_
  refine lv_iload_n C.ex C.by d_Cert_constraints_111 rfl (lv_at hv 1 rfl) ?_
  obtain ⟨hk2, hw⟩ := hw
  refine fx_callV C F (c_Rd_leave hl hw) hm_Rd_leave hi_Rd_leave hv.1 (by decide) (Nat.le_of_ble_eq_true rfl) (iv_Rd_leave C F lm_Cert_132 hk2 d_Cert_constraints_112) (fx_out0 _) (fun _ _ hE hx => Or.inr ⟨_, rfl, hE hx⟩) (fun h1 H locs cells slots hw hx1 F => ?_)
  replace hw := hw hx1
  have hk2 := (hx1).k hk2
  have hk1 := (hx1).k hk1
  exact fx_vret C F d_Cert_constraints_115 (Or.inl ⟨rfl, hw⟩)
theorem b_Cert_constraints_79 {p : Program} {l : Launch} {e : Env} {R : Room} {s : State} {m : MethodId} {args : Array Value} {below : List Frame} {meth : Method} {c : Code} {D : DD} {h0 : AH} {Q : AH → Prop} {E : Nat → AH → Prop} (C : fx_CX D y_Cert_constraints prog_2_method_11_code 4 9 123 (none) [] h0 p R s m meth c) (hl : l.flags = flags0) (h : AH) (hw : m_Cert_constraints_79 Q E h) : ∀ (ls : Array Slot) (H : Heap) (locs : List Loc) (cells slots : Nat), lv_has ls 4 [] → fx_F D h0 h H locs cells slots → W p l e R s m args below meth c H locs cells slots (fx_Z D below s h0 (fx_oV Q E)) (F0 m 79 ls []) := by
  unfold m_Cert_constraints_79 at hw
  intro ls H locs cells slots hv F
  refine fx_callR C F (c_Rd_bad hl hw) hm_Rd_bad hi_Rd_bad hv.1 (by decide) (Nat.le_of_ble_eq_true rfl) (iv_Rd_bad C F lm_Cert_128 d_Cert_constraints_79) (fx_out0 _) fx_eno (fun q1 h1 H locs cells slots hw hx1 F => ?_)
  replace hw := hw hx1
  exact fx_athrow C F (fx_out0 _) d_Cert_constraints_82 (Or.inr ⟨_, rfl, hw⟩)
theorem b_Cert_constraints_0 {p : Program} {l : Launch} {e : Env} {R : Room} {s : State} {m : MethodId} {args : Array Value} {below : List Frame} {meth : Method} {c : Code} {D : DD} {h0 : AH} {Q : AH → Prop} {E : Nat → AH → Prop} (C : fx_CX D y_Cert_constraints prog_2_method_11_code 4 9 123 (none) [] h0 p R s m meth c) (hl : l.flags = flags0) (r0 : Nat) (x1 : Int32) (h : AH) (hw : m_Cert_constraints Q E r0 x1 h) : ∀ (ls : Array Slot) (H : Heap) (locs : List Loc) (cells slots : Nat), lv_has ls 4 [(0, .ref r0), (1, .int x1)] → fx_F D h0 h H locs cells slots → W p l e R s m args below meth c H locs cells slots (fx_Z D below s h0 (fx_oV Q E)) (F0 m 0 ls []) := by
  unfold m_Cert_constraints at hw
  intro ls H locs cells slots hv F
  refine lv_aload_n C.ex C.by d_Cert_constraints_0 rfl (lv_at hv 0 rfl) ?_
  obtain ⟨hk1, hw⟩ := hw
  obtain ⟨b1, hb1, hw⟩ := hw
  refine fx_getR C F lf_Cert_10 hk1 rfl hb1 d_Cert_constraints_1 ?_
  refine lv_bipush (v := (48 : Int32)) C.ex C.by d_Cert_constraints_4 (by decide) ?_
  refine lv_iload_n C.ex C.by d_Cert_constraints_6 rfl (lv_at hv 1 rfl) ?_
  obtain ⟨hk2, hw⟩ := hw
  refine fx_callI C F (c_Rd_enter hl hw) hm_Rd_enter hi_Rd_enter hv.1 (by decide) (Nat.le_of_ble_eq_true rfl) (iv_Rd_enter C F lm_Cert_115 hk2 d_Cert_constraints_7) (fx_out0 _) (fun _ _ hE hx => Or.inr ⟨_, rfl, hE hx⟩) (fun v1 h1 H locs cells slots hw hx1 F => ?_)
  replace hw := hw hx1
  have hk2 := (hx1).k hk2
  have hk1 := (hx1).k hk1
  refine lv_istore_n (lv' := [(2, .int v1), (0, .ref r0), (1, .int x1)]) C.ex C.by d_Cert_constraints_10 rfl hv (by decide) rfl (fun ls hv => ?_)
  refine lv_aload_n C.ex C.by d_Cert_constraints_11 rfl (lv_at hv 1 rfl) ?_
  refine lv_aload_n C.ex C.by d_Cert_constraints_12 rfl (lv_at hv 1 rfl) ?_
  obtain ⟨b2, hb2, hw⟩ := hw
  refine fx_getR C F lf_Cert_10 hk1 rfl hb2 d_Cert_constraints_13 ?_
  refine lv_iload_n C.ex C.by d_Cert_constraints_16 rfl (lv_at hv 0 rfl) ?_
  obtain ⟨hk3, hw⟩ := hw
  refine fx_callZ C F (c_Rd_truth hl hw) hm_Rd_truth hi_Rd_truth hv.1 (by decide) (Nat.le_of_ble_eq_true rfl) (iv_Rd_truth C F lm_Cert_201 hk3 d_Cert_constraints_17) (fx_out0 _) (fun _ _ hE hx => Or.inr ⟨_, rfl, hE hx⟩) (fun v2 h2 H locs cells slots hw hx2 hzb F => ?_)
  replace hw := hw hx2 hzb
  have hk2 := (hx2).k hk2
  have hk3 := (hx2).k hk3
  have hk1 := (hx2).k hk1
  obtain ⟨hz1, hw⟩ := hw
  let h3 : AH := up_I h2 r0 18 v2
  replace hw := hw h3 rfl
  refine fx_putZ C F lf_Cert_67 hk1 rfl rfl hz1 (fx_mayF.no rfl rfl) d_Cert_constraints_20 (fun H locs (F : fx_F D h0 h3 H locs _ _) => ?_)
  refine lv_aload_n C.ex C.by d_Cert_constraints_23 rfl (lv_at hv 1 rfl) ?_
  refine fx_getI C F lf_Cert_67 hk1 rfl d_Cert_constraints_24 ?_
  refine lv_if_eq C.ex C.by d_Cert_constraints_27 rfl (fun hc => ?_) (fun hc => ?_)
  · replace hw := hw.1 hc
    exact b_Cert_constraints_107 C hl _ _ _ hw _ _ _ _ _ (lv_sub hv [1, 0] rfl) F
  · replace hw := hw.2 hc
    refine lv_aload_n C.ex C.by d_Cert_constraints_30 rfl (lv_at hv 1 rfl) ?_
    obtain ⟨b3, hb3, hw⟩ := hw
    refine fx_getR C F lf_Cert_10 hk1 rfl hb3 d_Cert_constraints_31 ?_
    obtain ⟨hk4, hw⟩ := hw
    refine fx_getI C F lf_Cert_106 hk4 rfl d_Cert_constraints_34 ?_
    refine lv_iload_n C.ex C.by d_Cert_constraints_37 rfl (lv_at hv 0 rfl) ?_
    refine lv_icmp_ge C.ex C.by d_Cert_constraints_38 rfl (fun hc => ?_) (fun hc => ?_)
    · replace hw := hw.1 hc
      exact b_Cert_constraints_107 C hl _ _ _ hw _ _ _ _ _ (lv_sub hv [1, 0] rfl) F
    · replace hw := hw.2 hc
      refine lv_aload_n C.ex C.by d_Cert_constraints_41 rfl (lv_at hv 1 rfl) ?_
      refine fx_getR C F lf_Cert_10 hk1 rfl hb3 d_Cert_constraints_42 ?_
      refine lv_iconst (v := (2 : Int32)) C.ex C.by d_Cert_constraints_45 (by decide) ?_
      refine lv_iload_n C.ex C.by d_Cert_constraints_46 rfl (lv_at hv 0 rfl) ?_
      refine fx_callI C F (c_Rd_enter hl hw) hm_Rd_enter hi_Rd_enter hv.1 (by decide) (Nat.le_of_ble_eq_true rfl) (iv_Rd_enter C F lm_Cert_115 hk4 d_Cert_constraints_47) (fx_out0 _) (fun _ _ hE hx => Or.inr ⟨_, rfl, hE hx⟩) (fun v3 h4 H locs cells slots hw hx3 F => ?_)
      replace hw := hw hx3
      have hk2 := (hx3).k hk2
      have hk3 := (hx3).k hk3
      have hk4 := (hx3).k hk4
      have hk1 := (hx3).k hk1
      refine lv_istore_n (lv' := [(3, .int v3), (2, .int v1), (0, .ref r0), (1, .int x1)]) C.ex C.by d_Cert_constraints_50 rfl hv (by decide) rfl (fun ls hv => ?_)
      refine lv_iload_n C.ex C.by d_Cert_constraints_51 rfl (lv_at hv 0 rfl) ?_
      refine lv_aload_n C.ex C.by d_Cert_constraints_52 rfl (lv_at hv 2 rfl) ?_
      obtain ⟨b4, hb4, hw⟩ := hw
      refine fx_getR C F lf_Cert_10 hk1 rfl hb4 d_Cert_constraints_53 ?_
      obtain ⟨hk5, hw⟩ := hw
      refine fx_getI C F lf_Cert_106 hk5 rfl d_Cert_constraints_56 ?_
      refine lv_isub C.ex C.by d_Cert_constraints_59 ?_
      refine lv_iconst (v := (1 : Int32)) C.ex C.by d_Cert_constraints_60 (by decide) ?_
      refine lv_icmp_ne C.ex C.by d_Cert_constraints_61 rfl (fun hc => ?_) (fun hc => ?_)
      · replace hw := hw.1 hc
        exact b_Cert_constraints_79 C hl _ hw _ _ _ _ _ (lv_sub hv [] rfl) F
      · replace hw := hw.2 hc
        refine lv_aload_n C.ex C.by d_Cert_constraints_64 rfl (lv_at hv 2 rfl) ?_
        obtain ⟨b5, hb5, hw⟩ := hw
        refine fx_getR C F lf_Cert_16 hk1 rfl hb5 d_Cert_constraints_65 ?_
        refine lv_aload_n C.ex C.by d_Cert_constraints_68 rfl (lv_at hv 2 rfl) ?_
        refine fx_getR C F lf_Cert_10 hk1 rfl hb4 d_Cert_constraints_69 ?_
        refine fx_getI C F lf_Cert_106 hk5 rfl d_Cert_constraints_72 ?_
        obtain ⟨hk6, hw⟩ := hw
        obtain ⟨hi1, hw⟩ := hw
        refine fx_bald C F hk6 hi1 d_Cert_constraints_75 (fun h8 => ?_)
        replace hw := hw h8
        refine lv_if_ge C.ex C.by d_Cert_constraints_76 rfl (fun hc => ?_) (fun hc => ?_)
        · replace hw := hw.1 hc
          refine lv_aload_n C.ex C.by d_Cert_constraints_83 rfl (lv_at hv 2 rfl) ?_
          refine lv_aload_n C.ex C.by d_Cert_constraints_84 rfl (lv_at hv 2 rfl) ?_
          refine fx_getR C F lf_Cert_16 hk1 rfl hb5 d_Cert_constraints_85 ?_
          refine lv_aload_n C.ex C.by d_Cert_constraints_88 rfl (lv_at hv 2 rfl) ?_
          refine fx_getR C F lf_Cert_10 hk1 rfl hb4 d_Cert_constraints_89 ?_
          refine fx_getI C F lf_Cert_106 hk5 rfl d_Cert_constraints_92 ?_
          obtain ⟨hi2, hw⟩ := hw
          refine fx_bald C F hk6 hi2 d_Cert_constraints_95 (fun h8 => ?_)
          replace hw := hw h8
          let h5 : AH := up_I h4 r0 21 (hp_I h4 b5 ((hp_I h4 b4 1)).toNatClampNeg)
          replace hw := hw h5 rfl
          refine fx_putI C F lf_Cert_77 hk1 rfl rfl (fx_mayF.no rfl rfl) d_Cert_constraints_96 (fun H locs (F : fx_F D h0 h5 H locs _ _) => ?_)
          refine lv_aload_n C.ex C.by d_Cert_constraints_99 rfl (lv_at hv 2 rfl) ?_
          refine fx_getR C F lf_Cert_10 hk1 rfl hb4 d_Cert_constraints_100 ?_
          refine lv_iload_n C.ex C.by d_Cert_constraints_103 rfl (lv_at hv 0 rfl) ?_
          let h6 : AH := up_I h5 b4 1 v3
          replace hw := hw h6 rfl
          refine fx_putI C F lf_Cert_106 hk5 rfl rfl (fx_mayF.no rfl rfl) d_Cert_constraints_104 (fun H locs (F : fx_F D h0 h6 H locs _ _) => ?_)
          exact b_Cert_constraints_107 C hl _ _ _ hw _ _ _ _ _ (lv_sub hv [2, 1] rfl) F
        · replace hw := hw.2 hc
          exact b_Cert_constraints_79 C hl _ hw _ _ _ _ _ (lv_sub hv [] rfl) F
theorem hm_Cert_constraints : fx_hd y_Cert_constraints prog_2_method_11_code 4 (none) [] ∈ tables_1 := (fx_m4 (List.mem_of_getElem? (i := 9) rfl))
theorem hi_Cert_constraints : Cond.initialized y_Cert_constraints.cls ∈ tables_1 := (fx_m1 (List.mem_of_getElem? (i := 11) rfl))
theorem c_Cert_constraints {l : Launch} (hl : l.flags = flags0) {D : DD} {Q : AH → Prop} {E : Nat → AH → Prop} {r0 : Nat} {x1 : Int32} {h : AH} (hw : m_Cert_constraints Q E r0 x1 h) : fx_Mt l D y_Cert_constraints (fx_hd y_Cert_constraints prog_2_method_11_code 4 (none) []) 9 123 [.ref r0, .int x1] h (fx_oV Q E) := by
  refine fx_ofW (plainFor_of_name (by decide)) (fun p e s m below meth c C F => ?_)
  have hv := lv_entry ([.ref r0, .int x1]) (n := 4) (Nat.le_of_ble_eq_true rfl)
  rw [lg_entry_eq]
  generalize (lg_sl ([.ref r0, .int x1]) ++ List.replicate (4 - (lg_sl ([.ref r0, .int x1])).length) Slot.unset).toArray = ls at hv ⊢
  have hv : lv_has ls 4 [(0, .ref r0), (1, .int x1)] := hv
  exact b_Cert_constraints_0 C hl _ _ _ hw _ _ _ _ _ hv F
/-! java/lang/Integer.numberOfTrailingZeros(I)I: frames 0, words 0 -/
abbrev y_Int_numberOfTrailingZeros : MethodName := ⟨"java/lang/Integer", "numberOfTrailingZeros", "(I)I"⟩
def dl_Int_numberOfTrailingZeros : List (Nat × Instr × Nat) := [(0, .iload_n 0, 1), (1, .iconst (-1), 1), (2, .ixor, 1), (3, .iload_n 0, 1), (4, .iconst 1, 1), (5, .isub, 1), (6, .iand, 1), (7, .istore_n 0, 1), (8, .iload_n 0, 1), (9, .ifCond .gt 8, 3), (12, .iload_n 0, 1), (13, .bipush 32, 2), (15, .iand, 1), (16, .ireturn, 1), (17, .iconst 1, 1), (18, .istore_n 1, 1), (19, .iload_n 0, 1), (20, .ldc_w 264, 3), (23, .if_icmp .le 11, 3), (26, .iinc 1 16, 3), (29, .iload_n 0, 1), (30, .bipush 16, 2), (32, .iushr, 1), (33, .istore_n 0, 1), (34, .iload_n 0, 1), (35, .sipush 256, 3), (38, .if_icmp .le 11, 3), (41, .iinc 1 8, 3), (44, .iload_n 0, 1), (45, .bipush 8, 2), (47, .iushr, 1), (48, .istore_n 0, 1), (49, .iload_n 0, 1), (50, .bipush 16, 2), (52, .if_icmp .le 10, 3), (55, .iinc 1 4, 3), (58, .iload_n 0, 1), (59, .iconst 4, 1), (60, .iushr, 1), (61, .istore_n 0, 1), (62, .iload_n 0, 1), (63, .iconst 4, 1), (64, .if_icmp .le 10, 3), (67, .iinc 1 2, 3), (70, .iload_n 0, 1), (71, .iconst 2, 1), (72, .iushr, 1), (73, .istore_n 0, 1), (74, .iload_n 1, 1), (75, .iload_n 0, 1), (76, .iconst 1, 1), (77, .iushr, 1), (78, .iadd, 1), (79, .ireturn, 1)]
theorem dk_Int_numberOfTrailingZeros : fx_dec prog_22_method_48_code dl_Int_numberOfTrailingZeros = true := by decide +kernel
theorem d_Int_numberOfTrailingZeros_0 : decode prog_22_method_48_code 0 = .ok (.iload_n 0, 1) := fx_dat dk_Int_numberOfTrailingZeros 0 rfl
theorem d_Int_numberOfTrailingZeros_1 : decode prog_22_method_48_code 1 = .ok (.iconst (-1), 1) := fx_dat dk_Int_numberOfTrailingZeros 1 rfl
theorem d_Int_numberOfTrailingZeros_2 : decode prog_22_method_48_code 2 = .ok (.ixor, 1) := fx_dat dk_Int_numberOfTrailingZeros 2 rfl
theorem d_Int_numberOfTrailingZeros_3 : decode prog_22_method_48_code 3 = .ok (.iload_n 0, 1) := fx_dat dk_Int_numberOfTrailingZeros 3 rfl
theorem d_Int_numberOfTrailingZeros_4 : decode prog_22_method_48_code 4 = .ok (.iconst 1, 1) := fx_dat dk_Int_numberOfTrailingZeros 4 rfl
theorem d_Int_numberOfTrailingZeros_5 : decode prog_22_method_48_code 5 = .ok (.isub, 1) := fx_dat dk_Int_numberOfTrailingZeros 5 rfl
theorem d_Int_numberOfTrailingZeros_6 : decode prog_22_method_48_code 6 = .ok (.iand, 1) := fx_dat dk_Int_numberOfTrailingZeros 6 rfl
theorem d_Int_numberOfTrailingZeros_7 : decode prog_22_method_48_code 7 = .ok (.istore_n 0, 1) := fx_dat dk_Int_numberOfTrailingZeros 7 rfl
theorem d_Int_numberOfTrailingZeros_8 : decode prog_22_method_48_code 8 = .ok (.iload_n 0, 1) := fx_dat dk_Int_numberOfTrailingZeros 8 rfl
theorem d_Int_numberOfTrailingZeros_9 : decode prog_22_method_48_code 9 = .ok (.ifCond .gt 8, 3) := fx_dat dk_Int_numberOfTrailingZeros 9 rfl
theorem d_Int_numberOfTrailingZeros_12 : decode prog_22_method_48_code 12 = .ok (.iload_n 0, 1) := fx_dat dk_Int_numberOfTrailingZeros 10 rfl
theorem d_Int_numberOfTrailingZeros_13 : decode prog_22_method_48_code 13 = .ok (.bipush 32, 2) := fx_dat dk_Int_numberOfTrailingZeros 11 rfl
theorem d_Int_numberOfTrailingZeros_15 : decode prog_22_method_48_code 15 = .ok (.iand, 1) := fx_dat dk_Int_numberOfTrailingZeros 12 rfl
theorem d_Int_numberOfTrailingZeros_16 : decode prog_22_method_48_code 16 = .ok (.ireturn, 1) := fx_dat dk_Int_numberOfTrailingZeros 13 rfl
theorem d_Int_numberOfTrailingZeros_17 : decode prog_22_method_48_code 17 = .ok (.iconst 1, 1) := fx_dat dk_Int_numberOfTrailingZeros 14 rfl
theorem d_Int_numberOfTrailingZeros_18 : decode prog_22_method_48_code 18 = .ok (.istore_n 1, 1) := fx_dat dk_Int_numberOfTrailingZeros 15 rfl
theorem d_Int_numberOfTrailingZeros_19 : decode prog_22_method_48_code 19 = .ok (.iload_n 0, 1) := fx_dat dk_Int_numberOfTrailingZeros 16 rfl
theorem d_Int_numberOfTrailingZeros_20 : decode prog_22_method_48_code 20 = .ok (.ldc_w 264, 3) := fx_dat dk_Int_numberOfTrailingZeros 17 rfl
theorem d_Int_numberOfTrailingZeros_23 : decode prog_22_method_48_code 23 = .ok (.if_icmp .le 11, 3) := fx_dat dk_Int_numberOfTrailingZeros 18 rfl
theorem d_Int_numberOfTrailingZeros_26 : decode prog_22_method_48_code 26 = .ok (.iinc 1 16, 3) := fx_dat dk_Int_numberOfTrailingZeros 19 rfl
theorem d_Int_numberOfTrailingZeros_29 : decode prog_22_method_48_code 29 = .ok (.iload_n 0, 1) := fx_dat dk_Int_numberOfTrailingZeros 20 rfl
theorem d_Int_numberOfTrailingZeros_30 : decode prog_22_method_48_code 30 = .ok (.bipush 16, 2) := fx_dat dk_Int_numberOfTrailingZeros 21 rfl
theorem d_Int_numberOfTrailingZeros_32 : decode prog_22_method_48_code 32 = .ok (.iushr, 1) := fx_dat dk_Int_numberOfTrailingZeros 22 rfl
theorem d_Int_numberOfTrailingZeros_33 : decode prog_22_method_48_code 33 = .ok (.istore_n 0, 1) := fx_dat dk_Int_numberOfTrailingZeros 23 rfl
theorem d_Int_numberOfTrailingZeros_34 : decode prog_22_method_48_code 34 = .ok (.iload_n 0, 1) := fx_dat dk_Int_numberOfTrailingZeros 24 rfl
theorem d_Int_numberOfTrailingZeros_35 : decode prog_22_method_48_code 35 = .ok (.sipush 256, 3) := fx_dat dk_Int_numberOfTrailingZeros 25 rfl
theorem d_Int_numberOfTrailingZeros_38 : decode prog_22_method_48_code 38 = .ok (.if_icmp .le 11, 3) := fx_dat dk_Int_numberOfTrailingZeros 26 rfl
theorem d_Int_numberOfTrailingZeros_41 : decode prog_22_method_48_code 41 = .ok (.iinc 1 8, 3) := fx_dat dk_Int_numberOfTrailingZeros 27 rfl
theorem d_Int_numberOfTrailingZeros_44 : decode prog_22_method_48_code 44 = .ok (.iload_n 0, 1) := fx_dat dk_Int_numberOfTrailingZeros 28 rfl
theorem d_Int_numberOfTrailingZeros_45 : decode prog_22_method_48_code 45 = .ok (.bipush 8, 2) := fx_dat dk_Int_numberOfTrailingZeros 29 rfl
theorem d_Int_numberOfTrailingZeros_47 : decode prog_22_method_48_code 47 = .ok (.iushr, 1) := fx_dat dk_Int_numberOfTrailingZeros 30 rfl
theorem d_Int_numberOfTrailingZeros_48 : decode prog_22_method_48_code 48 = .ok (.istore_n 0, 1) := fx_dat dk_Int_numberOfTrailingZeros 31 rfl
theorem d_Int_numberOfTrailingZeros_49 : decode prog_22_method_48_code 49 = .ok (.iload_n 0, 1) := fx_dat dk_Int_numberOfTrailingZeros 32 rfl
theorem d_Int_numberOfTrailingZeros_50 : decode prog_22_method_48_code 50 = .ok (.bipush 16, 2) := fx_dat dk_Int_numberOfTrailingZeros 33 rfl
theorem d_Int_numberOfTrailingZeros_52 : decode prog_22_method_48_code 52 = .ok (.if_icmp .le 10, 3) := fx_dat dk_Int_numberOfTrailingZeros 34 rfl
theorem d_Int_numberOfTrailingZeros_55 : decode prog_22_method_48_code 55 = .ok (.iinc 1 4, 3) := fx_dat dk_Int_numberOfTrailingZeros 35 rfl
theorem d_Int_numberOfTrailingZeros_58 : decode prog_22_method_48_code 58 = .ok (.iload_n 0, 1) := fx_dat dk_Int_numberOfTrailingZeros 36 rfl
theorem d_Int_numberOfTrailingZeros_59 : decode prog_22_method_48_code 59 = .ok (.iconst 4, 1) := fx_dat dk_Int_numberOfTrailingZeros 37 rfl
theorem d_Int_numberOfTrailingZeros_60 : decode prog_22_method_48_code 60 = .ok (.iushr, 1) := fx_dat dk_Int_numberOfTrailingZeros 38 rfl
theorem d_Int_numberOfTrailingZeros_61 : decode prog_22_method_48_code 61 = .ok (.istore_n 0, 1) := fx_dat dk_Int_numberOfTrailingZeros 39 rfl
theorem d_Int_numberOfTrailingZeros_62 : decode prog_22_method_48_code 62 = .ok (.iload_n 0, 1) := fx_dat dk_Int_numberOfTrailingZeros 40 rfl
theorem d_Int_numberOfTrailingZeros_63 : decode prog_22_method_48_code 63 = .ok (.iconst 4, 1) := fx_dat dk_Int_numberOfTrailingZeros 41 rfl
theorem d_Int_numberOfTrailingZeros_64 : decode prog_22_method_48_code 64 = .ok (.if_icmp .le 10, 3) := fx_dat dk_Int_numberOfTrailingZeros 42 rfl
theorem d_Int_numberOfTrailingZeros_67 : decode prog_22_method_48_code 67 = .ok (.iinc 1 2, 3) := fx_dat dk_Int_numberOfTrailingZeros 43 rfl
theorem d_Int_numberOfTrailingZeros_70 : decode prog_22_method_48_code 70 = .ok (.iload_n 0, 1) := fx_dat dk_Int_numberOfTrailingZeros 44 rfl
theorem d_Int_numberOfTrailingZeros_71 : decode prog_22_method_48_code 71 = .ok (.iconst 2, 1) := fx_dat dk_Int_numberOfTrailingZeros 45 rfl
theorem d_Int_numberOfTrailingZeros_72 : decode prog_22_method_48_code 72 = .ok (.iushr, 1) := fx_dat dk_Int_numberOfTrailingZeros 46 rfl
theorem d_Int_numberOfTrailingZeros_73 : decode prog_22_method_48_code 73 = .ok (.istore_n 0, 1) := fx_dat dk_Int_numberOfTrailingZeros 47 rfl
theorem d_Int_numberOfTrailingZeros_74 : decode prog_22_method_48_code 74 = .ok (.iload_n 1, 1) := fx_dat dk_Int_numberOfTrailingZeros 48 rfl
theorem d_Int_numberOfTrailingZeros_75 : decode prog_22_method_48_code 75 = .ok (.iload_n 0, 1) := fx_dat dk_Int_numberOfTrailingZeros 49 rfl
theorem d_Int_numberOfTrailingZeros_76 : decode prog_22_method_48_code 76 = .ok (.iconst 1, 1) := fx_dat dk_Int_numberOfTrailingZeros 50 rfl
theorem d_Int_numberOfTrailingZeros_77 : decode prog_22_method_48_code 77 = .ok (.iushr, 1) := fx_dat dk_Int_numberOfTrailingZeros 51 rfl
theorem d_Int_numberOfTrailingZeros_78 : decode prog_22_method_48_code 78 = .ok (.iadd, 1) := fx_dat dk_Int_numberOfTrailingZeros 52 rfl
theorem d_Int_numberOfTrailingZeros_79 : decode prog_22_method_48_code 79 = .ok (.ireturn, 1) := fx_dat dk_Int_numberOfTrailingZeros 53 rfl
def m_Int_numberOfTrailingZeros_74 (Q : Int32 → AH → Prop) (x0 : Int32) (x1 : Int32) (h : AH) : Prop := Q (x1 + (sh_iu x0 (1 : Int32))) h
def m_Int_numberOfTrailingZeros_62 (Q : Int32 → AH → Prop) (x0 : Int32) (x1 : Int32) (h : AH) : Prop := (x0 ≤ (4 : Int32) → m_Int_numberOfTrailingZeros_74 Q x0 x1 h) ∧ (¬ x0 ≤ (4 : Int32) → ∀ v1 : Int32, v1 = (x1 + (2 : Int32)) → ∀ v2 : Int32, v2 = (sh_iu x0 (2 : Int32)) → m_Int_numberOfTrailingZeros_74 Q v2 v1 h)
def m_Int_numberOfTrailingZeros_49 (Q : Int32 → AH → Prop) (x0 : Int32) (x1 : Int32) (h : AH) : Prop := (x0 ≤ (16 : Int32) → m_Int_numberOfTrailingZeros_62 Q x0 x1 h) ∧ (¬ x0 ≤ (16 : Int32) → ∀ v1 : Int32, v1 = (x1 + (4 : Int32)) → ∀ v2 : Int32, v2 = (sh_iu x0 (4 : Int32)) → m_Int_numberOfTrailingZeros_62 Q v2 v1 h)
def m_Int_numberOfTrailingZeros_34 (Q : Int32 → AH → Prop) (x0 : Int32) (x1 : Int32) (h : AH) : Prop := (x0 ≤ (256 : Int32) → m_Int_numberOfTrailingZeros_49 Q x0 x1 h) ∧ (¬ x0 ≤ (256 : Int32) → ∀ v1 : Int32, v1 = (x1 + (8 : Int32)) → ∀ v2 : Int32, v2 = (sh_iu x0 (8 : Int32)) → m_Int_numberOfTrailingZeros_49 Q v2 v1 h)
def m_Int_numberOfTrailingZeros (Q : Int32 → AH → Prop) (x0 : Int32) (h : AH) : Prop := ∀ v1 : Int32, v1 = ((x0 ^^^ (-1 : Int32)) &&& (x0 - (1 : Int32))) → (0 < v1 → (v1 ≤ (65536 : Int32) → m_Int_numberOfTrailingZeros_34 Q v1 (1 : Int32) h) ∧ (¬ v1 ≤ (65536 : Int32) → ∀ v2 : Int32, v2 = ((1 : Int32) + (16 : Int32)) → ∀ v3 : Int32, v3 = (sh_iu v1 (16 : Int32)) → m_Int_numberOfTrailingZeros_34 Q v3 v2 h)) ∧ (¬ 0 < v1 → Q (v1 &&& (32 : Int32)) h)
theorem b_Int_numberOfTrailingZeros_74 {p : Program} {l : Launch} {e : Env} {R : Room} {s : State} {m : MethodId} {args : Array Value} {below : List Frame} {meth : Method} {c : Code} {D : DD} {h0 : AH} {Q : Int32 → AH → Prop} (C : fx_CX D y_Int_numberOfTrailingZeros prog_22_method_48_code 2 0 0 (Option.some FieldType.int) [] h0 p R s m meth c) (hl : l.flags = flags0) (x0 : Int32) (x1 : Int32) (h : AH) (hw : m_Int_numberOfTrailingZeros_74 Q x0 x1 h) : ∀ (ls : Array Slot) (H : Heap) (locs : List Loc) (cells slots : Nat), lv_has ls 2 [(0, .int x0), (1, .int x1)] → fx_F D h0 h H locs cells slots → W p l e R s m args below meth c H locs cells slots (fx_Z D below s h0 (fx_oI Q fx_no)) (F0 m 74 ls []) := by
  unfold m_Int_numberOfTrailingZeros_74 at hw
  intro ls H locs cells slots hv F
  refine lv_iload_n C.ex C.by d_Int_numberOfTrailingZeros_74 rfl (lv_at hv 1 rfl) ?_
  refine lv_iload_n C.ex C.by d_Int_numberOfTrailingZeros_75 rfl (lv_at hv 0 rfl) ?_
  refine lv_iconst (v := (1 : Int32)) C.ex C.by d_Int_numberOfTrailingZeros_76 (by decide) ?_
  refine lv_iushr (v := (sh_iu x0 (1 : Int32))) C.ex C.by d_Int_numberOfTrailingZeros_77 rfl ?_
  refine lv_iadd C.ex C.by d_Int_numberOfTrailingZeros_78 ?_
  exact fx_iret C F d_Int_numberOfTrailingZeros_79 (Or.inl ⟨_, rfl, hw⟩)
theorem b_Int_numberOfTrailingZeros_62 {p : Program} {l : Launch} {e : Env} {R : Room} {s : State} {m : MethodId} {args : Array Value} {below : List Frame} {meth : Method} {c : Code} {D : DD} {h0 : AH} {Q : Int32 → AH → Prop} (C : fx_CX D y_Int_numberOfTrailingZeros prog_22_method_48_code 2 0 0 (Option.some FieldType.int) [] h0 p R s m meth c) (hl : l.flags = flags0) (x0 : Int32) (x1 : Int32) (h : AH) (hw : m_Int_numberOfTrailingZeros_62 Q x0 x1 h) : ∀ (ls : Array Slot) (H : Heap) (locs : List Loc) (cells slots : Nat), lv_has ls 2 [(0, .int x0), (1, .int x1)] → fx_F D h0 h H locs cells slots → W p l e R s m args below meth c H locs cells slots (fx_Z D below s h0 (fx_oI Q fx_no)) (F0 m 62 ls []) := by
  unfold m_Int_numberOfTrailingZeros_62 at hw
  intro ls H locs cells slots hv F
  refine lv_iload_n C.ex C.by d_Int_numberOfTrailingZeros_62 rfl (lv_at hv 0 rfl) ?_
  refine lv_iconst (v := (4 : Int32)) C.ex C.by d_Int_numberOfTrailingZeros_63 (by decide) ?_
  refine lv_icmp_le C.ex C.by d_Int_numberOfTrailingZeros_64 rfl (fun hc => ?_) (fun hc => ?_)
  · replace hw := hw.1 hc
    exact b_Int_numberOfTrailingZeros_74 C hl _ _ _ hw _ _ _ _ _ hv F
  · replace hw := hw.2 hc
    let v1 : Int32 := (x1 + (2 : Int32))
    replace hw := hw v1 rfl
    refine lv_iinc (v := v1) (k := 1) (lv' := [(1, .int v1), (0, .int x0)]) C.ex C.by d_Int_numberOfTrailingZeros_67 hv rfl (congrArg (fun z => x1 + z) (by decide)) (by decide) rfl (fun ls hv => ?_)
    refine lv_iload_n C.ex C.by d_Int_numberOfTrailingZeros_70 rfl (lv_at hv 1 rfl) ?_
    refine lv_iconst (v := (2 : Int32)) C.ex C.by d_Int_numberOfTrailingZeros_71 (by decide) ?_
    refine lv_iushr (v := (sh_iu x0 (2 : Int32))) C.ex C.by d_Int_numberOfTrailingZeros_72 rfl ?_
    let v2 : Int32 := (sh_iu x0 (2 : Int32))
    replace hw := hw v2 rfl
    refine lv_istore_n (lv' := [(0, .int v2), (1, .int v1)]) C.ex C.by d_Int_numberOfTrailingZeros_73 rfl hv (by decide) rfl (fun ls hv => ?_)
    exact b_Int_numberOfTrailingZeros_74 C hl _ _ _ hw _ _ _ _ _ hv F
theorem b_Int_numberOfTrailingZeros_49 {p : Program} {l : Launch} {e : Env} {R : Room} {s : State} {m : MethodId} {args : Array Value} {below : List Frame} {meth : Method} {c : Code} {D : DD} {h0 : AH} {Q : Int32 → AH → Prop} (C : fx_CX D y_Int_numberOfTrailingZeros prog_22_method_48_code 2 0 0 (Option.some FieldType.int) [] h0 p R s m meth c) (hl : l.flags = flags0) (x0 : Int32) (x1 : Int32) (h : AH) (hw : m_Int_numberOfTrailingZeros_49 Q x0 x1 h) : ∀ (ls : Array Slot) (H : Heap) (locs : List Loc) (cells slots : Nat), lv_has ls 2 [(0, .int x0), (1, .int x1)] → fx_F D h0 h H locs cells slots → W p l e R s m args below meth c H locs cells slots (fx_Z D below s h0 (fx_oI Q fx_no)) (F0 m 49 ls []) := by
  unfold m_Int_numberOfTrailingZeros_49 at hw
  intro ls H locs cells slots hv F
  refine lv_iload_n C.ex C.by d_Int_numberOfTrailingZeros_49 rfl (lv_at hv 0 rfl) ?_
  refine lv_bipush (v := (16 : Int32)) C.ex C.by d_Int_numberOfTrailingZeros_50 (by decide) ?_
  refine lv_icmp_le C.ex C.by d_Int_numberOfTrailingZeros_52 rfl (fun hc => ?_) (fun hc => ?_)
  · replace hw := hw.1 hc
    exact b_Int_numberOfTrailingZeros_62 C hl _ _ _ hw _ _ _ _ _ hv F
  · replace hw := hw.2 hc
    let v1 : Int32 := (x1 + (4 : Int32))
    replace hw := hw v1 rfl
    refine lv_iinc (v := v1) (k := 1) (lv' := [(1, .int v1), (0, .int x0)]) C.ex C.by d_Int_numberOfTrailingZeros_55 hv rfl (congrArg (fun z => x1 + z) (by decide)) (by decide) rfl (fun ls hv => ?_)
    refine lv_iload_n C.ex C.by d_Int_numberOfTrailingZeros_58 rfl (lv_at hv 1 rfl) ?_
    refine lv_iconst (v := (4 : Int32)) C.ex C.by d_Int_numberOfTrailingZeros_59 (by decide) ?_
    refine lv_iushr (v := (sh_iu x0 (4 : Int32))) C.ex C.by d_Int_numberOfTrailingZeros_60 rfl ?_
    let v2 : Int32 := (sh_iu x0 (4 : Int32))
    replace hw := hw v2 rfl
    refine lv_istore_n (lv' := [(0, .int v2), (1, .int v1)]) C.ex C.by d_Int_numberOfTrailingZeros_61 rfl hv (by decide) rfl (fun ls hv => ?_)
    exact b_Int_numberOfTrailingZeros_62 C hl _ _ _ hw _ _ _ _ _ hv F
theorem b_Int_numberOfTrailingZeros_34 {p : Program} {l : Launch} {e : Env} {R : Room} {s : State} {m : MethodId} {args : Array Value} {below : List Frame} {meth : Method} {c : Code} {D : DD} {h0 : AH} {Q : Int32 → AH → Prop} (C : fx_CX D y_Int_numberOfTrailingZeros prog_22_method_48_code 2 0 0 (Option.some FieldType.int) [] h0 p R s m meth c) (hl : l.flags = flags0) (x0 : Int32) (x1 : Int32) (h : AH) (hw : m_Int_numberOfTrailingZeros_34 Q x0 x1 h) : ∀ (ls : Array Slot) (H : Heap) (locs : List Loc) (cells slots : Nat), lv_has ls 2 [(0, .int x0), (1, .int x1)] → fx_F D h0 h H locs cells slots → W p l e R s m args below meth c H locs cells slots (fx_Z D below s h0 (fx_oI Q fx_no)) (F0 m 34 ls []) := by
  unfold m_Int_numberOfTrailingZeros_34 at hw
  intro ls H locs cells slots hv F
  refine lv_iload_n C.ex C.by d_Int_numberOfTrailingZeros_34 rfl (lv_at hv 0 rfl) ?_
  refine lv_sipush (v := (256 : Int32)) C.ex C.by d_Int_numberOfTrailingZeros_35 (by decide) ?_
  refine lv_icmp_le C.ex C.by d_Int_numberOfTrailingZeros_38 rfl (fun hc => ?_) (fun hc => ?_)
  · replace hw := hw.1 hc
    exact b_Int_numberOfTrailingZeros_49 C hl _ _ _ hw _ _ _ _ _ hv F
  · replace hw := hw.2 hc
    let v1 : Int32 := (x1 + (8 : Int32))
    replace hw := hw v1 rfl
    refine lv_iinc (v := v1) (k := 1) (lv' := [(1, .int v1), (0, .int x0)]) C.ex C.by d_Int_numberOfTrailingZeros_41 hv rfl (congrArg (fun z => x1 + z) (by decide)) (by decide) rfl (fun ls hv => ?_)
    refine lv_iload_n C.ex C.by d_Int_numberOfTrailingZeros_44 rfl (lv_at hv 1 rfl) ?_
    refine lv_bipush (v := (8 : Int32)) C.ex C.by d_Int_numberOfTrailingZeros_45 (by decide) ?_
    refine lv_iushr (v := (sh_iu x0 (8 : Int32))) C.ex C.by d_Int_numberOfTrailingZeros_47 rfl ?_
    let v2 : Int32 := (sh_iu x0 (8 : Int32))
    replace hw := hw v2 rfl
    refine lv_istore_n (lv' := [(0, .int v2), (1, .int v1)]) C.ex C.by d_Int_numberOfTrailingZeros_48 rfl hv (by decide) rfl (fun ls hv => ?_)
    exact b_Int_numberOfTrailingZeros_49 C hl _ _ _ hw _ _ _ _ _ hv F
theorem b_Int_numberOfTrailingZeros_0 {p : Program} {l : Launch} {e : Env} {R : Room} {s : State} {m : MethodId} {args : Array Value} {below : List Frame} {meth : Method} {c : Code} {D : DD} {h0 : AH} {Q : Int32 → AH → Prop} (C : fx_CX D y_Int_numberOfTrailingZeros prog_22_method_48_code 2 0 0 (Option.some FieldType.int) [] h0 p R s m meth c) (hl : l.flags = flags0) (x0 : Int32) (h : AH) (hw : m_Int_numberOfTrailingZeros Q x0 h) : ∀ (ls : Array Slot) (H : Heap) (locs : List Loc) (cells slots : Nat), lv_has ls 2 [(0, .int x0)] → fx_F D h0 h H locs cells slots → W p l e R s m args below meth c H locs cells slots (fx_Z D below s h0 (fx_oI Q fx_no)) (F0 m 0 ls []) := by
  unfold m_Int_numberOfTrailingZeros at hw
  intro ls H locs cells slots hv F
  refine lv_iload_n C.ex C.by d_Int_numberOfTrailingZeros_0 rfl (lv_at hv 0 rfl) ?_
  refine lv_iconst (v := (-1 : Int32)) C.ex C.by d_Int_numberOfTrailingZeros_1 (by decide) ?_
  refine lv_ixor C.ex C.by d_Int_numberOfTrailingZeros_2 ?_
  refine lv_iload_n C.ex C.by d_Int_numberOfTrailingZeros_3 rfl (lv_at hv 0 rfl) ?_
  refine lv_iconst (v := (1 : Int32)) C.ex C.by d_Int_numberOfTrailingZeros_4 (by decide) ?_
  refine lv_isub C.ex C.by d_Int_numberOfTrailingZeros_5 ?_
  refine lv_iand C.ex C.by d_Int_numberOfTrailingZeros_6 ?_
  let v1 : Int32 := ((x0 ^^^ (-1 : Int32)) &&& (x0 - (1 : Int32)))
  replace hw := hw v1 rfl
  refine lv_istore_n (lv' := [(0, .int v1)]) C.ex C.by d_Int_numberOfTrailingZeros_7 rfl hv (by decide) rfl (fun ls hv => ?_)
  refine lv_iload_n C.ex C.by d_Int_numberOfTrailingZeros_8 rfl (lv_at hv 0 rfl) ?_
  refine lv_if_gt C.ex C.by d_Int_numberOfTrailingZeros_9 rfl (fun hc => ?_) (fun hc => ?_)
  · replace hw := hw.1 hc
    refine lv_iconst (v := (1 : Int32)) C.ex C.by d_Int_numberOfTrailingZeros_17 (by decide) ?_
    refine lv_istore_n (lv' := [(1, .int (1 : Int32)), (0, .int v1)]) C.ex C.by d_Int_numberOfTrailingZeros_18 rfl hv (by decide) rfl (fun ls hv => ?_)
    refine lv_iload_n C.ex C.by d_Int_numberOfTrailingZeros_19 rfl (lv_at hv 1 rfl) ?_
    refine lv_ldcw (v := (65536 : Int32)) C.ex C.by C.ow (C.tw.at (fx_m4 (List.mem_of_getElem? (i := 17) rfl)) rfl rfl) d_Int_numberOfTrailingZeros_20 ?_
    refine lv_icmp_le C.ex C.by d_Int_numberOfTrailingZeros_23 rfl (fun hc => ?_) (fun hc => ?_)
    · replace hw := hw.1 hc
      exact b_Int_numberOfTrailingZeros_34 C hl _ _ _ hw _ _ _ _ _ (lv_sub hv [1, 0] rfl) F
    · replace hw := hw.2 hc
      let v2 : Int32 := ((1 : Int32) + (16 : Int32))
      replace hw := hw v2 rfl
      refine lv_iinc (v := v2) (k := 0) (lv' := [(1, .int v2), (0, .int v1)]) C.ex C.by d_Int_numberOfTrailingZeros_26 hv rfl (congrArg (fun z => (1 : Int32) + z) (by decide)) (by decide) rfl (fun ls hv => ?_)
      refine lv_iload_n C.ex C.by d_Int_numberOfTrailingZeros_29 rfl (lv_at hv 1 rfl) ?_
      refine lv_bipush (v := (16 : Int32)) C.ex C.by d_Int_numberOfTrailingZeros_30 (by decide) ?_
      refine lv_iushr (v := (sh_iu v1 (16 : Int32))) C.ex C.by d_Int_numberOfTrailingZeros_32 rfl ?_
      let v3 : Int32 := (sh_iu v1 (16 : Int32))
      replace hw := hw v3 rfl
      refine lv_istore_n (lv' := [(0, .int v3), (1, .int v2)]) C.ex C.by d_Int_numberOfTrailingZeros_33 rfl hv (by decide) rfl (fun ls hv => ?_)
      exact b_Int_numberOfTrailingZeros_34 C hl _ _ _ hw _ _ _ _ _ hv F
  · replace hw := hw.2 hc
    refine lv_iload_n C.ex C.by d_Int_numberOfTrailingZeros_12 rfl (lv_at hv 0 rfl) ?_
    refine lv_bipush (v := (32 : Int32)) C.ex C.by d_Int_numberOfTrailingZeros_13 (by decide) ?_
    refine lv_iand C.ex C.by d_Int_numberOfTrailingZeros_15 ?_
    exact fx_iret C F d_Int_numberOfTrailingZeros_16 (Or.inl ⟨_, rfl, hw⟩)
theorem hm_Int_numberOfTrailingZeros : fx_hd y_Int_numberOfTrailingZeros prog_22_method_48_code 2 (Option.some FieldType.int) [] ∈ tables_1 := (fx_m4 (List.mem_of_getElem? (i := 16) rfl))
theorem hi_Int_numberOfTrailingZeros : Cond.initialized y_Int_numberOfTrailingZeros.cls ∈ tables_1 := (fx_m1 (List.mem_of_getElem? (i := 26) rfl))
theorem c_Int_numberOfTrailingZeros {l : Launch} (hl : l.flags = flags0) {D : DD} {Q : Int32 → AH → Prop} {x0 : Int32} {h : AH} (hw : m_Int_numberOfTrailingZeros Q x0 h) : fx_Mt l D y_Int_numberOfTrailingZeros (fx_hd y_Int_numberOfTrailingZeros prog_22_method_48_code 2 (Option.some FieldType.int) []) 0 0 [.int x0] h (fx_oI Q fx_no) := by
  refine fx_ofW (by decide +kernel) (fun p e s m below meth c C F => ?_)
  have hv := lv_entry ([.int x0]) (n := 2) (Nat.le_of_ble_eq_true rfl)
  rw [lg_entry_eq]
  generalize (lg_sl ([.int x0]) ++ List.replicate (2 - (lg_sl ([.int x0])).length) Slot.unset).toArray = ls at hv ⊢
  have hv : lv_has ls 2 [(0, .int x0)] := hv
  exact b_Int_numberOfTrailingZeros_0 C hl _ _ hw _ _ _ _ _ hv F
/-! ChainJudge$Certificate.usage(I)V: frames 8, words 108, throws -/
abbrev y_Cert_usage : MethodName := ⟨"ChainJudge$Certificate", "usage", "(I)V"⟩
theorem lm_Cert_214 : Cond.methodLink "ChainJudge$Certificate" 214 y_Int_numberOfTrailingZeros ∈ tables_1 ∨ ∃ host, Cond.methodLinkNest "ChainJudge$Certificate" 214 y_Int_numberOfTrailingZeros host ∈ tables_1 := Or.inl (fx_m4 (List.mem_of_getElem? (i := 14) rfl))
section
variable {p : Program} {l : Launch} {e : Env} {R : Room} {s : State} {m : MethodId} {args : Array Value} {below : List Frame} {meth : Method} {c : Code} {H : Heap} {locs : List Loc} {cells slots : Nat}
variable {D : DD} {y : MethodName} {cc : ByteArray} {nL kf kw : Nat} {ret : Option FieldType} {hh : List (Nat × Nat × Nat × Nat)} {h0 h : AH} {pc : Nat} {ls : Array Slot} {rest : List Value} {b idx : Nat}
theorem iv_Int_numberOfTrailingZeros {x0 : Int32} (C : fx_CX D y cc nL kf kw ret hh h0 p R s m meth c) (F : fx_F D h0 h H locs cells slots) (hw1 : Cond.methodLink y.cls idx y_Int_numberOfTrailingZeros ∈ tables_1 ∨ ∃ host, Cond.methodLinkNest y.cls idx y_Int_numberOfTrailingZeros host ∈ tables_1) (hd : decode cc pc = .ok (.invokestatic idx, 3)) : fx_IV p l e R s m args below meth c H locs cells slots (F0 m pc ls (.int x0 :: rest)) rest y_Int_numberOfTrailingZeros [.int x0] 3 := fun T hT X => fx_invS (As := [.int x0]) C X hw1 (fx_m4 (List.mem_of_getElem? (i := 15) rfl)) hi_Int_numberOfTrailingZeros hm_Int_numberOfTrailingZeros ⟨by decide, by decide⟩ rfl (n := 1) (by decide +kernel) rfl rfl hd
end
def dl_Cert_usage : List (Nat × Instr × Nat) := [(0, .aload_n 0, 1), (1, .getfield 10, 3), (4, .iconst 3, 1), (5, .iload_n 1, 1), (6, .invokevirtual 115, 3), (9, .istore_n 2, 1), (10, .iload_n 2, 1), (11, .aload_n 0, 1), (12, .getfield 10, 3), (15, .getfield 106, 3), (18, .isub, 1), (19, .istore_n 3, 1), (20, .iload_n 3, 1), (21, .iconst 2, 1), (22, .if_icmp .lt 32, 3), (25, .iload_n 3, 1), (26, .iconst 3, 1), (27, .if_icmp .gt 27, 3), (30, .iload_n 3, 1), (31, .iconst 3, 1), (32, .if_icmp .ne 26, 3), (35, .aload_n 0, 1), (36, .getfield 16, 3), (39, .aload_n 0, 1), (40, .getfield 10, 3), (43, .getfield 106, 3), (46, .iconst 2, 1), (47, .iadd, 1), (48, .baload, 1), (49, .bipush (-128), 2), (51, .if_icmp .eq 7, 3), (54, .invokestatic 128, 3), (57, .athrow, 1), (58, .aload_n 0, 1), (59, .getfield 16, 3), (62, .iload_n 2, 1), (63, .iconst 1, 1), (64, .isub, 1), (65, .baload, 1), (66, .sipush 255, 3), (69, .iand, 1), (70, .istore 4, 2), (72, .iload 4, 2), (74, .ifCond .eq 23, 3), (77, .aload_n 0, 1), (78, .getfield 16, 3), (81, .aload_n 0, 1), (82, .getfield 10, 3), (85, .getfield 106, 3), (88, .baload, 1), (89, .iload 4, 2), (91, .invokestatic 214, 3), (94, .if_icmp .eq 7, 3), (97, .invokestatic 128, 3), (100, .athrow, 1), (101, .aload_n 0, 1), (102, .aload_n 0, 1), (103, .getfield 16, 3), (106, .aload_n 0, 1), (107, .getfield 10, 3), (110, .getfield 106, 3), (113, .iconst 1, 1), (114, .iadd, 1), (115, .baload, 1), (116, .sipush 255, 3), (119, .iand, 1), (120, .putfield 80, 3), (123, .aload_n 0, 1), (124, .getfield 10, 3), (127, .iload_n 2, 1), (128, .putfield 106, 3), (131, .return_, 1)]
theorem dk_Cert_usage : fx_dec prog_2_method_12_code dl_Cert_usage = true := by decide +kernel
theorem d_Cert_usage_0 : decode prog_2_method_12_code 0 = .ok (.aload_n 0, 1) := fx_dat dk_Cert_usage 0 rfl
theorem d_Cert_usage_1 : decode prog_2_method_12_code 1 = .ok (.getfield 10, 3) := fx_dat dk_Cert_usage 1 rfl
theorem d_Cert_usage_4 : decode prog_2_method_12_code 4 = .ok (.iconst 3, 1) := fx_dat dk_Cert_usage 2 rfl
theorem d_Cert_usage_5 : decode prog_2_method_12_code 5 = .ok (.iload_n 1, 1) := fx_dat dk_Cert_usage 3 rfl
theorem d_Cert_usage_6 : decode prog_2_method_12_code 6 = .ok (.invokevirtual 115, 3) := fx_dat dk_Cert_usage 4 rfl
theorem d_Cert_usage_9 : decode prog_2_method_12_code 9 = .ok (.istore_n 2, 1) := fx_dat dk_Cert_usage 5 rfl
theorem d_Cert_usage_10 : decode prog_2_method_12_code 10 = .ok (.iload_n 2, 1) := fx_dat dk_Cert_usage 6 rfl
theorem d_Cert_usage_11 : decode prog_2_method_12_code 11 = .ok (.aload_n 0, 1) := fx_dat dk_Cert_usage 7 rfl
theorem d_Cert_usage_12 : decode prog_2_method_12_code 12 = .ok (.getfield 10, 3) := fx_dat dk_Cert_usage 8 rfl
theorem d_Cert_usage_15 : decode prog_2_method_12_code 15 = .ok (.getfield 106, 3) := fx_dat dk_Cert_usage 9 rfl
theorem d_Cert_usage_18 : decode prog_2_method_12_code 18 = .ok (.isub, 1) := fx_dat dk_Cert_usage 10 rfl
theorem d_Cert_usage_19 : decode prog_2_method_12_code 19 = .ok (.istore_n 3, 1) := fx_dat dk_Cert_usage 11 rfl
theorem d_Cert_usage_20 : decode prog_2_method_12_code 20 = .ok (.iload_n 3, 1) := fx_dat dk_Cert_usage 12 rfl
theorem d_Cert_usage_21 : decode prog_2_method_12_code 21 = .ok (.iconst 2, 1) := fx_dat dk_Cert_usage 13 rfl
theorem d_Cert_usage_22 : decode prog_2_method_12_code 22 = .ok (.if_icmp .lt 32, 3) := fx_dat dk_Cert_usage 14 rfl
theorem d_Cert_usage_25 : decode prog_2_method_12_code 25 = .ok (.iload_n 3, 1) := fx_dat dk_Cert_usage 15 rfl
theorem d_Cert_usage_26 : decode prog_2_method_12_code 26 = .ok (.iconst 3, 1) := fx_dat dk_Cert_usage 16 rfl
theorem d_Cert_usage_27 : decode prog_2_method_12_code 27 = .ok (.if_icmp .gt 27, 3) := fx_dat dk_Cert_usage 17 rfl
theorem d_Cert_usage_30 : decode prog_2_method_12_code 30 = .ok (.iload_n 3, 1) := fx_dat dk_Cert_usage 18 rfl
theorem d_Cert_usage_31 : decode prog_2_method_12_code 31 = .ok (.iconst 3, 1) := fx_dat dk_Cert_usage 19 rfl
theorem d_Cert_usage_32 : decode prog_2_method_12_code 32 = .ok (.if_icmp .ne 26, 3) := fx_dat dk_Cert_usage 20 rfl
theorem d_Cert_usage_35 : decode prog_2_method_12_code 35 = .ok (.aload_n 0, 1) := fx_dat dk_Cert_usage 21 rfl
theorem d_Cert_usage_36 : decode prog_2_method_12_code 36 = .ok (.getfield 16, 3) := fx_dat dk_Cert_usage 22 rfl
theorem d_Cert_usage_39 : decode prog_2_method_12_code 39 = .ok (.aload_n 0, 1) := fx_dat dk_Cert_usage 23 rfl
theorem d_Cert_usage_40 : decode prog_2_method_12_code 40 = .ok (.getfield 10, 3) := fx_dat dk_Cert_usage 24 rfl
theorem d_Cert_usage_43 : decode prog_2_method_12_code 43 = .ok (.getfield 106, 3) := fx_dat dk_Cert_usage 25 rfl
theorem d_Cert_usage_46 : decode prog_2_method_12_code 46 = .ok (.iconst 2, 1) := fx_dat dk_Cert_usage 26 rfl
theorem d_Cert_usage_47 : decode prog_2_method_12_code 47 = .ok (.iadd, 1) := fx_dat dk_Cert_usage 27 rfl
theorem d_Cert_usage_48 : decode prog_2_method_12_code 48 = .ok (.baload, 1) := fx_dat dk_Cert_usage 28 rfl
theorem d_Cert_usage_49 : decode prog_2_method_12_code 49 = .ok (.bipush (-128), 2) := fx_dat dk_Cert_usage 29 rfl
theorem d_Cert_usage_51 : decode prog_2_method_12_code 51 = .ok (.if_icmp .eq 7, 3) := fx_dat dk_Cert_usage 30 rfl
theorem d_Cert_usage_54 : decode prog_2_method_12_code 54 = .ok (.invokestatic 128, 3) := fx_dat dk_Cert_usage 31 rfl
theorem d_Cert_usage_57 : decode prog_2_method_12_code 57 = .ok (.athrow, 1) := fx_dat dk_Cert_usage 32 rfl
theorem d_Cert_usage_58 : decode prog_2_method_12_code 58 = .ok (.aload_n 0, 1) := fx_dat dk_Cert_usage 33 rfl
theorem d_Cert_usage_59 : decode prog_2_method_12_code 59 = .ok (.getfield 16, 3) := fx_dat dk_Cert_usage 34 rfl
theorem d_Cert_usage_62 : decode prog_2_method_12_code 62 = .ok (.iload_n 2, 1) := fx_dat dk_Cert_usage 35 rfl
theorem d_Cert_usage_63 : decode prog_2_method_12_code 63 = .ok (.iconst 1, 1) := fx_dat dk_Cert_usage 36 rfl
theorem d_Cert_usage_64 : decode prog_2_method_12_code 64 = .ok (.isub, 1) := fx_dat dk_Cert_usage 37 rfl
theorem d_Cert_usage_65 : decode prog_2_method_12_code 65 = .ok (.baload, 1) := fx_dat dk_Cert_usage 38 rfl
theorem d_Cert_usage_66 : decode prog_2_method_12_code 66 = .ok (.sipush 255, 3) := fx_dat dk_Cert_usage 39 rfl
theorem d_Cert_usage_69 : decode prog_2_method_12_code 69 = .ok (.iand, 1) := fx_dat dk_Cert_usage 40 rfl
theorem d_Cert_usage_70 : decode prog_2_method_12_code 70 = .ok (.istore 4, 2) := fx_dat dk_Cert_usage 41 rfl
theorem d_Cert_usage_72 : decode prog_2_method_12_code 72 = .ok (.iload 4, 2) := fx_dat dk_Cert_usage 42 rfl
theorem d_Cert_usage_74 : decode prog_2_method_12_code 74 = .ok (.ifCond .eq 23, 3) := fx_dat dk_Cert_usage 43 rfl
theorem d_Cert_usage_77 : decode prog_2_method_12_code 77 = .ok (.aload_n 0, 1) := fx_dat dk_Cert_usage 44 rfl
theorem d_Cert_usage_78 : decode prog_2_method_12_code 78 = .ok (.getfield 16, 3) := fx_dat dk_Cert_usage 45 rfl
theorem d_Cert_usage_81 : decode prog_2_method_12_code 81 = .ok (.aload_n 0, 1) := fx_dat dk_Cert_usage 46 rfl
theorem d_Cert_usage_82 : decode prog_2_method_12_code 82 = .ok (.getfield 10, 3) := fx_dat dk_Cert_usage 47 rfl
theorem d_Cert_usage_85 : decode prog_2_method_12_code 85 = .ok (.getfield 106, 3) := fx_dat dk_Cert_usage 48 rfl
theorem d_Cert_usage_88 : decode prog_2_method_12_code 88 = .ok (.baload, 1) := fx_dat dk_Cert_usage 49 rfl
theorem d_Cert_usage_89 : decode prog_2_method_12_code 89 = .ok (.iload 4, 2) := fx_dat dk_Cert_usage 50 rfl
theorem d_Cert_usage_91 : decode prog_2_method_12_code 91 = .ok (.invokestatic 214, 3) := fx_dat dk_Cert_usage 51 rfl
theorem d_Cert_usage_94 : decode prog_2_method_12_code 94 = .ok (.if_icmp .eq 7, 3) := fx_dat dk_Cert_usage 52 rfl
theorem d_Cert_usage_97 : decode prog_2_method_12_code 97 = .ok (.invokestatic 128, 3) := fx_dat dk_Cert_usage 53 rfl
theorem d_Cert_usage_100 : decode prog_2_method_12_code 100 = .ok (.athrow, 1) := fx_dat dk_Cert_usage 54 rfl
theorem d_Cert_usage_101 : decode prog_2_method_12_code 101 = .ok (.aload_n 0, 1) := fx_dat dk_Cert_usage 55 rfl
theorem d_Cert_usage_102 : decode prog_2_method_12_code 102 = .ok (.aload_n 0, 1) := fx_dat dk_Cert_usage 56 rfl
theorem d_Cert_usage_103 : decode prog_2_method_12_code 103 = .ok (.getfield 16, 3) := fx_dat dk_Cert_usage 57 rfl
theorem d_Cert_usage_106 : decode prog_2_method_12_code 106 = .ok (.aload_n 0, 1) := fx_dat dk_Cert_usage 58 rfl
theorem d_Cert_usage_107 : decode prog_2_method_12_code 107 = .ok (.getfield 10, 3) := fx_dat dk_Cert_usage 59 rfl
theorem d_Cert_usage_110 : decode prog_2_method_12_code 110 = .ok (.getfield 106, 3) := fx_dat dk_Cert_usage 60 rfl
theorem d_Cert_usage_113 : decode prog_2_method_12_code 113 = .ok (.iconst 1, 1) := fx_dat dk_Cert_usage 61 rfl
theorem d_Cert_usage_114 : decode prog_2_method_12_code 114 = .ok (.iadd, 1) := fx_dat dk_Cert_usage 62 rfl
theorem d_Cert_usage_115 : decode prog_2_method_12_code 115 = .ok (.baload, 1) := fx_dat dk_Cert_usage 63 rfl
theorem d_Cert_usage_116 : decode prog_2_method_12_code 116 = .ok (.sipush 255, 3) := fx_dat dk_Cert_usage 64 rfl
theorem d_Cert_usage_119 : decode prog_2_method_12_code 119 = .ok (.iand, 1) := fx_dat dk_Cert_usage 65 rfl
theorem d_Cert_usage_120 : decode prog_2_method_12_code 120 = .ok (.putfield 80, 3) := fx_dat dk_Cert_usage 66 rfl
theorem d_Cert_usage_123 : decode prog_2_method_12_code 123 = .ok (.aload_n 0, 1) := fx_dat dk_Cert_usage 67 rfl
theorem d_Cert_usage_124 : decode prog_2_method_12_code 124 = .ok (.getfield 10, 3) := fx_dat dk_Cert_usage 68 rfl
theorem d_Cert_usage_127 : decode prog_2_method_12_code 127 = .ok (.iload_n 2, 1) := fx_dat dk_Cert_usage 69 rfl
theorem d_Cert_usage_128 : decode prog_2_method_12_code 128 = .ok (.putfield 106, 3) := fx_dat dk_Cert_usage 70 rfl
theorem d_Cert_usage_131 : decode prog_2_method_12_code 131 = .ok (.return_, 1) := fx_dat dk_Cert_usage 71 rfl
def m_Cert_usage_54 (Q : AH → Prop) (E : Nat → AH → Prop) (h : AH) : Prop := m_Rd_bad (fun q1 h1 => fx_ext h h1 → E q1 h1) h
def m_Cert_usage_97 (Q : AH → Prop) (E : Nat → AH → Prop) (h : AH) : Prop := m_Rd_bad (fun q1 h1 => fx_ext h h1 → E q1 h1) h
def m_Cert_usage_58 (Q : AH → Prop) (E : Nat → AH → Prop) (r0 : Nat) (x2 : Int32) (h : AH) : Prop := hp_k h r0 = 8 ∧ ∃ b1, hp_R h r0 2 = some b1 ∧ bk (hp_k h b1) ∧ vp_in (x2 - (1 : Int32)) (hp_n h b1) ∧ (by8 (hp_I h b1 ((x2 - (1 : Int32))).toNatClampNeg) → ∀ v1 : Int32, v1 = ((hp_I h b1 ((x2 - (1 : Int32))).toNatClampNeg) &&& (255 : Int32)) → (v1 = 0 → m_Cert_usage_97 Q E h) ∧ (¬ v1 = 0 → ∃ b2, hp_R h r0 1 = some b2 ∧ hp_k h b2 = 9 ∧ vp_in (hp_I h b2 1) (hp_n h b1) ∧ (by8 (hp_I h b1 ((hp_I h b2 1)).toNatClampNeg) → m_Int_numberOfTrailingZeros (fun v2 h1 => fx_ext h h1 → ((hp_I h b1 ((hp_I h b2 1)).toNatClampNeg) = v2 → ∃ b3, hp_R h1 r0 2 = some b3 ∧ ∃ b4, hp_R h1 r0 1 = some b4 ∧ hp_k h1 b4 = 9 ∧ bk (hp_k h1 b3) ∧ vp_in ((hp_I h1 b4 1) + (1 : Int32)) (hp_n h1 b3) ∧ (by8 (hp_I h1 b3 (((hp_I h1 b4 1) + (1 : Int32))).toNatClampNeg) → ∀ h2 : AH, h2 = up_I h1 r0 22 ((hp_I h1 b3 (((hp_I h1 b4 1) + (1 : Int32))).toNatClampNeg) &&& (255 : Int32)) → ∀ h3 : AH, h3 = up_I h2 b4 1 x2 → Q h3)) ∧ (¬ (hp_I h b1 ((hp_I h b2 1)).toNatClampNeg) = v2 → m_Cert_usage_97 Q E h1)) v1 h)))
def m_Cert_usage (Q : AH → Prop) (E : Nat → AH → Prop) (r0 : Nat) (x1 : Int32) (h : AH) : Prop := hp_k h r0 = 8 ∧ ∃ b1, hp_R h r0 1 = some b1 ∧ hp_k h b1 = 9 ∧ m_Rd_enter (fun v1 h1 => fx_ext h h1 → ∃ b2, hp_R h1 r0 1 = some b2 ∧ hp_k h1 b2 = 9 ∧ ∀ v2 : Int32, v2 = (v1 - (hp_I h1 b2 1)) → (v2 < (2 : Int32) → m_Cert_usage_54 Q E h1) ∧ (¬ v2 < (2 : Int32) → ((3 : Int32) < v2 → m_Cert_usage_54 Q E h1) ∧ (¬ (3 : Int32) < v2 → (¬ v2 = (3 : Int32) → m_Cert_usage_58 Q E r0 v1 h1) ∧ (v2 = (3 : Int32) → ∃ b3, hp_R h1 r0 2 = some b3 ∧ bk (hp_k h1 b3) ∧ vp_in ((hp_I h1 b2 1) + (2 : Int32)) (hp_n h1 b3) ∧ (by8 (hp_I h1 b3 (((hp_I h1 b2 1) + (2 : Int32))).toNatClampNeg) → ((hp_I h1 b3 (((hp_I h1 b2 1) + (2 : Int32))).toNatClampNeg) = (-128 : Int32) → m_Cert_usage_58 Q E r0 v1 h1) ∧ (¬ (hp_I h1 b3 (((hp_I h1 b2 1) + (2 : Int32))).toNatClampNeg) = (-128 : Int32) → m_Cert_usage_54 Q E h1)))))) (fun a ht => fx_ext h ht → E a ht) b1 (3 : Int32) x1 h
theorem b_Cert_usage_54 {p : Program} {l : Launch} {e : Env} {R : Room} {s : State} {m : MethodId} {args : Array Value} {below : List Frame} {meth : Method} {c : Code} {D : DD} {h0 : AH} {Q : AH → Prop} {E : Nat → AH → Prop} (C : fx_CX D y_Cert_usage prog_2_method_12_code 5 8 108 (none) [] h0 p R s m meth c) (hl : l.flags = flags0) (h : AH) (hw : m_Cert_usage_54 Q E h) : ∀ (ls : Array Slot) (H : Heap) (locs : List Loc) (cells slots : Nat), lv_has ls 5 [] → fx_F D h0 h H locs cells slots → W p l e R s m args below meth c H locs cells slots (fx_Z D below s h0 (fx_oV Q E)) (F0 m 54 ls []) := by
  unfold m_Cert_usage_54 at hw
  intro ls H locs cells slots hv F
  refine fx_callR C F (c_Rd_bad hl hw) hm_Rd_bad hi_Rd_bad hv.1 (by decide) (Nat.le_of_ble_eq_true rfl) (iv_Rd_bad C F lm_Cert_128 d_Cert_usage_54) (fx_out0 _) fx_eno (fun q1 h1 H locs cells slots hw hx1 F => ?_)
  replace hw := hw hx1
  exact fx_athrow C F (fx_out0 _) d_Cert_usage_57 (Or.inr ⟨_, rfl, hw⟩)
theorem b_Cert_usage_97 {p : Program} {l : Launch} {e : Env} {R : Room} {s : State} {m : MethodId} {args : Array Value} {below : List Frame} {meth : Method} {c : Code} {D : DD} {h0 : AH} {Q : AH → Prop} {E : Nat → AH → Prop} (C : fx_CX D y_Cert_usage prog_2_method_12_code 5 8 108 (none) [] h0 p R s m meth c) (hl : l.flags = flags0) (h : AH) (hw : m_Cert_usage_97 Q E h) : ∀ (ls : Array Slot) (H : Heap) (locs : List Loc) (cells slots : Nat), lv_has ls 5 [] → fx_F D h0 h H locs cells slots → W p l e R s m args below meth c H locs cells slots (fx_Z D below s h0 (fx_oV Q E)) (F0 m 97 ls []) := by
  unfold m_Cert_usage_97 at hw
  intro ls H locs cells slots hv F
  refine fx_callR C F (c_Rd_bad hl hw) hm_Rd_bad hi_Rd_bad hv.1 (by decide) (Nat.le_of_ble_eq_true rfl) (iv_Rd_bad C F lm_Cert_128 d_Cert_usage_97) (fx_out0 _) fx_eno (fun q1 h1 H locs cells slots hw hx1 F => ?_)
  replace hw := hw hx1
  exact fx_athrow C F (fx_out0 _) d_Cert_usage_100 (Or.inr ⟨_, rfl, hw⟩)
theorem b_Cert_usage_58 {p : Program} {l : Launch} {e : Env} {R : Room} {s : State} {m : MethodId} {args : Array Value} {below : List Frame} {meth : Method} {c : Code} {D : DD} {h0 : AH} {Q : AH → Prop} {E : Nat → AH → Prop} (C : fx_CX D y_Cert_usage prog_2_method_12_code 5 8 108 (none) [] h0 p R s m meth c) (hl : l.flags = flags0) (r0 : Nat) (x2 : Int32) (h : AH) (hw : m_Cert_usage_58 Q E r0 x2 h) : ∀ (ls : Array Slot) (H : Heap) (locs : List Loc) (cells slots : Nat), lv_has ls 5 [(0, .ref r0), (2, .int x2)] → fx_F D h0 h H locs cells slots → W p l e R s m args below meth c H locs cells slots (fx_Z D below s h0 (fx_oV Q E)) (F0 m 58 ls []) := by
  unfold m_Cert_usage_58 at hw
  intro ls H locs cells slots hv F
  refine lv_aload_n C.ex C.by d_Cert_usage_58 rfl (lv_at hv 0 rfl) ?_
  obtain ⟨hk1, hw⟩ := hw
  obtain ⟨b1, hb1, hw⟩ := hw
  refine fx_getR C F lf_Cert_16 hk1 rfl hb1 d_Cert_usage_59 ?_
  refine lv_iload_n C.ex C.by d_Cert_usage_62 rfl (lv_at hv 1 rfl) ?_
  refine lv_iconst (v := (1 : Int32)) C.ex C.by d_Cert_usage_63 (by decide) ?_
  refine lv_isub C.ex C.by d_Cert_usage_64 ?_
  obtain ⟨hk2, hw⟩ := hw
  obtain ⟨hi1, hw⟩ := hw
  refine fx_bald C F hk2 hi1 d_Cert_usage_65 (fun h8 => ?_)
  replace hw := hw h8
  refine lv_sipush (v := (255 : Int32)) C.ex C.by d_Cert_usage_66 (by decide) ?_
  refine lv_iand C.ex C.by d_Cert_usage_69 ?_
  let v1 : Int32 := ((hp_I h b1 ((x2 - (1 : Int32))).toNatClampNeg) &&& (255 : Int32))
  replace hw := hw v1 rfl
  refine lv_istore (lv' := [(4, .int v1), (0, .ref r0), (2, .int x2)]) C.ex C.by d_Cert_usage_70 hv (by decide) rfl (fun ls hv => ?_)
  refine lv_iload C.ex C.by d_Cert_usage_72 (lv_at hv 0 rfl) ?_
  refine lv_if_eq C.ex C.by d_Cert_usage_74 rfl (fun hc => ?_) (fun hc => ?_)
  · replace hw := hw.1 hc
    exact b_Cert_usage_97 C hl _ hw _ _ _ _ _ (lv_sub hv [] rfl) F
  · replace hw := hw.2 hc
    refine lv_aload_n C.ex C.by d_Cert_usage_77 rfl (lv_at hv 1 rfl) ?_
    refine fx_getR C F lf_Cert_16 hk1 rfl hb1 d_Cert_usage_78 ?_
    refine lv_aload_n C.ex C.by d_Cert_usage_81 rfl (lv_at hv 1 rfl) ?_
    obtain ⟨b2, hb2, hw⟩ := hw
    refine fx_getR C F lf_Cert_10 hk1 rfl hb2 d_Cert_usage_82 ?_
    obtain ⟨hk3, hw⟩ := hw
    refine fx_getI C F lf_Cert_106 hk3 rfl d_Cert_usage_85 ?_
    obtain ⟨hi2, hw⟩ := hw
    refine fx_bald C F hk2 hi2 d_Cert_usage_88 (fun h8 => ?_)
    replace hw := hw h8
    refine lv_iload C.ex C.by d_Cert_usage_89 (lv_at hv 0 rfl) ?_
    refine fx_callI C F (c_Int_numberOfTrailingZeros hl hw) hm_Int_numberOfTrailingZeros hi_Int_numberOfTrailingZeros hv.1 (by decide) (Nat.le_of_ble_eq_true rfl) (iv_Int_numberOfTrailingZeros C F lm_Cert_214 d_Cert_usage_91) (fx_out0 _) fx_eno (fun v2 h1 H locs cells slots hw hx1 F => ?_)
    replace hw := hw hx1
    have hk2 := (hx1).gb hk2
    have hk3 := (hx1).k hk3
    have hk1 := (hx1).k hk1
    refine lv_icmp_eq C.ex C.by d_Cert_usage_94 rfl (fun hc => ?_) (fun hc => ?_)
    · replace hw := hw.1 hc
      refine lv_aload_n C.ex C.by d_Cert_usage_101 rfl (lv_at hv 1 rfl) ?_
      refine lv_aload_n C.ex C.by d_Cert_usage_102 rfl (lv_at hv 1 rfl) ?_
      obtain ⟨b3, hb3, hw⟩ := hw
      refine fx_getR C F lf_Cert_16 hk1 rfl hb3 d_Cert_usage_103 ?_
      refine lv_aload_n C.ex C.by d_Cert_usage_106 rfl (lv_at hv 1 rfl) ?_
      obtain ⟨b4, hb4, hw⟩ := hw
      refine fx_getR C F lf_Cert_10 hk1 rfl hb4 d_Cert_usage_107 ?_
      obtain ⟨hk4, hw⟩ := hw
      refine fx_getI C F lf_Cert_106 hk4 rfl d_Cert_usage_110 ?_
      refine lv_iconst (v := (1 : Int32)) C.ex C.by d_Cert_usage_113 (by decide) ?_
      refine lv_iadd C.ex C.by d_Cert_usage_114 ?_
      obtain ⟨hk5, hw⟩ := hw
      obtain ⟨hi3, hw⟩ := hw
      refine fx_bald C F hk5 hi3 d_Cert_usage_115 (fun h8 => ?_)
      replace hw := hw h8
      refine lv_sipush (v := (255 : Int32)) C.ex C.by d_Cert_usage_116 (by decide) ?_
      refine lv_iand C.ex C.by d_Cert_usage_119 ?_
      let h2 : AH := up_I h1 r0 22 ((hp_I h1 b3 (((hp_I h1 b4 1) + (1 : Int32))).toNatClampNeg) &&& (255 : Int32))
      replace hw := hw h2 rfl
      refine fx_putI C F lf_Cert_80 hk1 rfl rfl (fx_mayF.no rfl rfl) d_Cert_usage_120 (fun H locs (F : fx_F D h0 h2 H locs _ _) => ?_)
      refine lv_aload_n C.ex C.by d_Cert_usage_123 rfl (lv_at hv 1 rfl) ?_
      refine fx_getR C F lf_Cert_10 hk1 rfl hb4 d_Cert_usage_124 ?_
      refine lv_iload_n C.ex C.by d_Cert_usage_127 rfl (lv_at hv 2 rfl) ?_
      let h3 : AH := up_I h2 b4 1 x2
      replace hw := hw h3 rfl
      refine fx_putI C F lf_Cert_106 hk4 rfl rfl (fx_mayF.no rfl rfl) d_Cert_usage_128 (fun H locs (F : fx_F D h0 h3 H locs _ _) => ?_)
      exact fx_vret C F d_Cert_usage_131 (Or.inl ⟨rfl, hw⟩)
    · replace hw := hw.2 hc
      exact b_Cert_usage_97 C hl _ hw _ _ _ _ _ (lv_sub hv [] rfl) F
theorem b_Cert_usage_0 {p : Program} {l : Launch} {e : Env} {R : Room} {s : State} {m : MethodId} {args : Array Value} {below : List Frame} {meth : Method} {c : Code} {D : DD} {h0 : AH} {Q : AH → Prop} {E : Nat → AH → Prop} (C : fx_CX D y_Cert_usage prog_2_method_12_code 5 8 108 (none) [] h0 p R s m meth c) (hl : l.flags = flags0) (r0 : Nat) (x1 : Int32) (h : AH) (hw : m_Cert_usage Q E r0 x1 h) : ∀ (ls : Array Slot) (H : Heap) (locs : List Loc) (cells slots : Nat), lv_has ls 5 [(0, .ref r0), (1, .int x1)] → fx_F D h0 h H locs cells slots → W p l e R s m args below meth c H locs cells slots (fx_Z D below s h0 (fx_oV Q E)) (F0 m 0 ls []) := by
  unfold m_Cert_usage at hw
  intro ls H locs cells slots hv F
  refine lv_aload_n C.ex C.by d_Cert_usage_0 rfl (lv_at hv 0 rfl) ?_
  obtain ⟨hk1, hw⟩ := hw
  obtain ⟨b1, hb1, hw⟩ := hw
  refine fx_getR C F lf_Cert_10 hk1 rfl hb1 d_Cert_usage_1 ?_
  refine lv_iconst (v := (3 : Int32)) C.ex C.by d_Cert_usage_4 (by decide) ?_
  refine lv_iload_n C.ex C.by d_Cert_usage_5 rfl (lv_at hv 1 rfl) ?_
  obtain ⟨hk2, hw⟩ := hw
  refine fx_callI C F (c_Rd_enter hl hw) hm_Rd_enter hi_Rd_enter hv.1 (by decide) (Nat.le_of_ble_eq_true rfl) (iv_Rd_enter C F lm_Cert_115 hk2 d_Cert_usage_6) (fx_out0 _) (fun _ _ hE hx => Or.inr ⟨_, rfl, hE hx⟩) (fun v1 h1 H locs cells slots hw hx1 F => ?_)
  replace hw := hw hx1
  have hk2 := (hx1).k hk2
  have hk1 := (hx1).k hk1
  refine lv_istore_n (lv' := [(2, .int v1), (0, .ref r0), (1, .int x1)]) C.ex C.by d_Cert_usage_9 rfl hv (by decide) rfl (fun ls hv => ?_)
  refine lv_iload_n C.ex C.by d_Cert_usage_10 rfl (lv_at hv 0 rfl) ?_
  refine lv_aload_n C.ex C.by d_Cert_usage_11 rfl (lv_at hv 1 rfl) ?_
  obtain ⟨b2, hb2, hw⟩ := hw
  refine fx_getR C F lf_Cert_10 hk1 rfl hb2 d_Cert_usage_12 ?_
  obtain ⟨hk3, hw⟩ := hw
  refine fx_getI C F lf_Cert_106 hk3 rfl d_Cert_usage_15 ?_
  refine lv_isub C.ex C.by d_Cert_usage_18 ?_
  let v2 : Int32 := (v1 - (hp_I h1 b2 1))
  replace hw := hw v2 rfl
  refine lv_istore_n (lv' := [(3, .int v2), (2, .int v1), (0, .ref r0), (1, .int x1)]) C.ex C.by d_Cert_usage_19 rfl hv (by decide) rfl (fun ls hv => ?_)
  refine lv_iload_n C.ex C.by d_Cert_usage_20 rfl (lv_at hv 0 rfl) ?_
  refine lv_iconst (v := (2 : Int32)) C.ex C.by d_Cert_usage_21 (by decide) ?_
  refine lv_icmp_lt C.ex C.by d_Cert_usage_22 rfl (fun hc => ?_) (fun hc => ?_)
  · replace hw := hw.1 hc
    exact b_Cert_usage_54 C hl _ hw _ _ _ _ _ (lv_sub hv [] rfl) F
  · replace hw := hw.2 hc
    refine lv_iload_n C.ex C.by d_Cert_usage_25 rfl (lv_at hv 0 rfl) ?_
    refine lv_iconst (v := (3 : Int32)) C.ex C.by d_Cert_usage_26 (by decide) ?_
    refine lv_icmp_gt C.ex C.by d_Cert_usage_27 rfl (fun hc => ?_) (fun hc => ?_)
    · replace hw := hw.1 hc
      exact b_Cert_usage_54 C hl _ hw _ _ _ _ _ (lv_sub hv [] rfl) F
    · replace hw := hw.2 hc
      refine lv_iload_n C.ex C.by d_Cert_usage_30 rfl (lv_at hv 0 rfl) ?_
      refine lv_iconst (v := (3 : Int32)) C.ex C.by d_Cert_usage_31 (by decide) ?_
      refine lv_icmp_ne C.ex C.by d_Cert_usage_32 rfl (fun hc => ?_) (fun hc => ?_)
      · replace hw := hw.1 hc
        exact b_Cert_usage_58 C hl _ _ _ hw _ _ _ _ _ (lv_sub hv [2, 1] rfl) F
      · replace hw := hw.2 hc
        refine lv_aload_n C.ex C.by d_Cert_usage_35 rfl (lv_at hv 2 rfl) ?_
        obtain ⟨b3, hb3, hw⟩ := hw
        refine fx_getR C F lf_Cert_16 hk1 rfl hb3 d_Cert_usage_36 ?_
        refine lv_aload_n C.ex C.by d_Cert_usage_39 rfl (lv_at hv 2 rfl) ?_
        refine fx_getR C F lf_Cert_10 hk1 rfl hb2 d_Cert_usage_40 ?_
        refine fx_getI C F lf_Cert_106 hk3 rfl d_Cert_usage_43 ?_
        refine lv_iconst (v := (2 : Int32)) C.ex C.by d_Cert_usage_46 (by decide) ?_
        refine lv_iadd C.ex C.by d_Cert_usage_47 ?_
        obtain ⟨hk4, hw⟩ := hw
        obtain ⟨hi1, hw⟩ := hw
        refine fx_bald C F hk4 hi1 d_Cert_usage_48 (fun h8 => ?_)
        replace hw := hw h8
        refine lv_bipush (v := (-128 : Int32)) C.ex C.by d_Cert_usage_49 (by decide) ?_
        refine lv_icmp_eq C.ex C.by d_Cert_usage_51 rfl (fun hc => ?_) (fun hc => ?_)
        · replace hw := hw.1 hc
          exact b_Cert_usage_58 C hl _ _ _ hw _ _ _ _ _ (lv_sub hv [2, 1] rfl) F
        · replace hw := hw.2 hc
          exact b_Cert_usage_54 C hl _ hw _ _ _ _ _ (lv_sub hv [] rfl) F
theorem hm_Cert_usage : fx_hd y_Cert_usage prog_2_method_12_code 5 (none) [] ∈ tables_1 := (fx_m4 (List.mem_of_getElem? (i := 13) rfl))
theorem hi_Cert_usage : Cond.initialized y_Cert_usage.cls ∈ tables_1 := (fx_m1 (List.mem_of_getElem? (i := 11) rfl))
theorem c_Cert_usage {l : Launch} (hl : l.flags = flags0) {D : DD} {Q : AH → Prop} {E : Nat → AH → Prop} {r0 : Nat} {x1 : Int32} {h : AH} (hw : m_Cert_usage Q E r0 x1 h) : fx_Mt l D y_Cert_usage (fx_hd y_Cert_usage prog_2_method_12_code 5 (none) []) 8 108 [.ref r0, .int x1] h (fx_oV Q E) := by
  refine fx_ofW (plainFor_of_name (by decide)) (fun p e s m below meth c C F => ?_)
  have hv := lv_entry ([.ref r0, .int x1]) (n := 5) (Nat.le_of_ble_eq_true rfl)
  rw [lg_entry_eq]
  generalize (lg_sl ([.ref r0, .int x1]) ++ List.replicate (5 - (lg_sl ([.ref r0, .int x1])).length) Slot.unset).toArray = ls at hv ⊢
  have hv : lv_has ls 5 [(0, .ref r0), (1, .int x1)] := hv
  exact b_Cert_usage_0 C hl _ _ _ hw _ _ _ _ _ hv F
/-! ChainJudge$Certificate.hosts(I)V: frames 9, words 124, throws -/
abbrev y_Cert_hosts : MethodName := ⟨"ChainJudge$Certificate", "hosts", "(I)V"⟩
def dl_Cert_hosts : List (Nat × Instr × Nat) := [(0, .aload_n 0, 1), (1, .getfield 10, 3), (4, .bipush 48, 2), (6, .iload_n 1, 1), (7, .invokevirtual 115, 3), (10, .istore_n 2, 1), (11, .aload_n 0, 1), (12, .aload_n 0, 1), (13, .getfield 10, 3), (16, .getfield 106, 3), (19, .putfield 86, 3), (22, .aload_n 0, 1), (23, .iload_n 2, 1), (24, .putfield 89, 3), (27, .aload_n 0, 1), (28, .getfield 10, 3), (31, .getfield 106, 3), (34, .iload_n 2, 1), (35, .if_icmp .ne 7, 3), (38, .invokestatic 128, 3), (41, .athrow, 1), (42, .aload_n 0, 1), (43, .getfield 10, 3), (46, .getfield 106, 3), (49, .iload_n 2, 1), (50, .if_icmp .ge 96, 3), (53, .aload_n 0, 1), (54, .getfield 10, 3), (57, .iload_n 2, 1), (58, .invokevirtual 155, 3), (61, .istore_n 3, 1), (62, .iload_n 3, 1), (63, .bipush 31, 2), (65, .iand, 1), (66, .istore 4, 2), (68, .iload_n 3, 1), (69, .sipush 192, 3), (72, .iand, 1), (73, .sipush 128, 3), (76, .if_icmp .ne 17, 3), (79, .iload 4, 2), (81, .bipush 8, 2), (83, .if_icmp .gt 10, 3), (86, .iload_n 3, 1), (87, .sipush 162, 3), (90, .if_icmp .ne 7, 3), (93, .invokestatic 128, 3), (96, .athrow, 1), (97, .aload_n 0, 1), (98, .getfield 10, 3), (101, .iload_n 3, 1), (102, .iload_n 2, 1), (103, .invokevirtual 158, 3), (106, .istore 5, 2), (108, .iload 4, 2), (110, .iconst 2, 1), (111, .if_icmp .eq 6, 3), (114, .goto (-72), 3), (117, .aload_n 0, 1), (118, .getfield 10, 3), (121, .getfield 106, 3), (124, .iload 5, 2), (126, .if_icmp .ne 7, 3), (129, .invokestatic 128, 3), (132, .athrow, 1), (133, .aload_n 0, 1), (134, .dup, 1), (135, .getfield 92, 3), (138, .iconst 1, 1), (139, .iadd, 1), (140, .putfield 92, 3), (143, .goto (-101), 3), (146, .return_, 1)]
theorem dk_Cert_hosts : fx_dec prog_2_method_13_code dl_Cert_hosts = true := by decide +kernel
theorem d_Cert_hosts_0 : decode prog_2_method_13_code 0 = .ok (.aload_n 0, 1) := fx_dat dk_Cert_hosts 0 rfl
theorem d_Cert_hosts_1 : decode prog_2_method_13_code 1 = .ok (.getfield 10, 3) := fx_dat dk_Cert_hosts 1 rfl
theorem d_Cert_hosts_4 : decode prog_2_method_13_code 4 = .ok (.bipush 48, 2) := fx_dat dk_Cert_hosts 2 rfl
theorem d_Cert_hosts_6 : decode prog_2_method_13_code 6 = .ok (.iload_n 1, 1) := fx_dat dk_Cert_hosts 3 rfl
theorem d_Cert_hosts_7 : decode prog_2_method_13_code 7 = .ok (.invokevirtual 115, 3) := fx_dat dk_Cert_hosts 4 rfl
theorem d_Cert_hosts_10 : decode prog_2_method_13_code 10 = .ok (.istore_n 2, 1) := fx_dat dk_Cert_hosts 5 rfl
theorem d_Cert_hosts_11 : decode prog_2_method_13_code 11 = .ok (.aload_n 0, 1) := fx_dat dk_Cert_hosts 6 rfl
theorem d_Cert_hosts_12 : decode prog_2_method_13_code 12 = .ok (.aload_n 0, 1) := fx_dat dk_Cert_hosts 7 rfl
theorem d_Cert_hosts_13 : decode prog_2_method_13_code 13 = .ok (.getfield 10, 3) := fx_dat dk_Cert_hosts 8 rfl
theorem d_Cert_hosts_16 : decode prog_2_method_13_code 16 = .ok (.getfield 106, 3) := fx_dat dk_Cert_hosts 9 rfl
theorem d_Cert_hosts_19 : decode prog_2_method_13_code 19 = .ok (.putfield 86, 3) := fx_dat dk_Cert_hosts 10 rfl
theorem d_Cert_hosts_22 : decode prog_2_method_13_code 22 = .ok (.aload_n 0, 1) := fx_dat dk_Cert_hosts 11 rfl
theorem d_Cert_hosts_23 : decode prog_2_method_13_code 23 = .ok (.iload_n 2, 1) := fx_dat dk_Cert_hosts 12 rfl
theorem d_Cert_hosts_24 : decode prog_2_method_13_code 24 = .ok (.putfield 89, 3) := fx_dat dk_Cert_hosts 13 rfl
theorem d_Cert_hosts_27 : decode prog_2_method_13_code 27 = .ok (.aload_n 0, 1) := fx_dat dk_Cert_hosts 14 rfl
theorem d_Cert_hosts_28 : decode prog_2_method_13_code 28 = .ok (.getfield 10, 3) := fx_dat dk_Cert_hosts 15 rfl
theorem d_Cert_hosts_31 : decode prog_2_method_13_code 31 = .ok (.getfield 106, 3) := fx_dat dk_Cert_hosts 16 rfl
theorem d_Cert_hosts_34 : decode prog_2_method_13_code 34 = .ok (.iload_n 2, 1) := fx_dat dk_Cert_hosts 17 rfl
theorem d_Cert_hosts_35 : decode prog_2_method_13_code 35 = .ok (.if_icmp .ne 7, 3) := fx_dat dk_Cert_hosts 18 rfl
theorem d_Cert_hosts_38 : decode prog_2_method_13_code 38 = .ok (.invokestatic 128, 3) := fx_dat dk_Cert_hosts 19 rfl
theorem d_Cert_hosts_41 : decode prog_2_method_13_code 41 = .ok (.athrow, 1) := fx_dat dk_Cert_hosts 20 rfl
theorem d_Cert_hosts_42 : decode prog_2_method_13_code 42 = .ok (.aload_n 0, 1) := fx_dat dk_Cert_hosts 21 rfl
theorem d_Cert_hosts_43 : decode prog_2_method_13_code 43 = .ok (.getfield 10, 3) := fx_dat dk_Cert_hosts 22 rfl
theorem d_Cert_hosts_46 : decode prog_2_method_13_code 46 = .ok (.getfield 106, 3) := fx_dat dk_Cert_hosts 23 rfl
theorem d_Cert_hosts_49 : decode prog_2_method_13_code 49 = .ok (.iload_n 2, 1) := fx_dat dk_Cert_hosts 24 rfl
theorem d_Cert_hosts_50 : decode prog_2_method_13_code 50 = .ok (.if_icmp .ge 96, 3) := fx_dat dk_Cert_hosts 25 rfl
theorem d_Cert_hosts_53 : decode prog_2_method_13_code 53 = .ok (.aload_n 0, 1) := fx_dat dk_Cert_hosts 26 rfl
theorem d_Cert_hosts_54 : decode prog_2_method_13_code 54 = .ok (.getfield 10, 3) := fx_dat dk_Cert_hosts 27 rfl
theorem d_Cert_hosts_57 : decode prog_2_method_13_code 57 = .ok (.iload_n 2, 1) := fx_dat dk_Cert_hosts 28 rfl
theorem d_Cert_hosts_58 : decode prog_2_method_13_code 58 = .ok (.invokevirtual 155, 3) := fx_dat dk_Cert_hosts 29 rfl
theorem d_Cert_hosts_61 : decode prog_2_method_13_code 61 = .ok (.istore_n 3, 1) := fx_dat dk_Cert_hosts 30 rfl
theorem d_Cert_hosts_62 : decode prog_2_method_13_code 62 = .ok (.iload_n 3, 1) := fx_dat dk_Cert_hosts 31 rfl
theorem d_Cert_hosts_63 : decode prog_2_method_13_code 63 = .ok (.bipush 31, 2) := fx_dat dk_Cert_hosts 32 rfl
theorem d_Cert_hosts_65 : decode prog_2_method_13_code 65 = .ok (.iand, 1) := fx_dat dk_Cert_hosts 33 rfl
theorem d_Cert_hosts_66 : decode prog_2_method_13_code 66 = .ok (.istore 4, 2) := fx_dat dk_Cert_hosts 34 rfl
theorem d_Cert_hosts_68 : decode prog_2_method_13_code 68 = .ok (.iload_n 3, 1) := fx_dat dk_Cert_hosts 35 rfl
theorem d_Cert_hosts_69 : decode prog_2_method_13_code 69 = .ok (.sipush 192, 3) := fx_dat dk_Cert_hosts 36 rfl
theorem d_Cert_hosts_72 : decode prog_2_method_13_code 72 = .ok (.iand, 1) := fx_dat dk_Cert_hosts 37 rfl
theorem d_Cert_hosts_73 : decode prog_2_method_13_code 73 = .ok (.sipush 128, 3) := fx_dat dk_Cert_hosts 38 rfl
theorem d_Cert_hosts_76 : decode prog_2_method_13_code 76 = .ok (.if_icmp .ne 17, 3) := fx_dat dk_Cert_hosts 39 rfl
theorem d_Cert_hosts_79 : decode prog_2_method_13_code 79 = .ok (.iload 4, 2) := fx_dat dk_Cert_hosts 40 rfl
theorem d_Cert_hosts_81 : decode prog_2_method_13_code 81 = .ok (.bipush 8, 2) := fx_dat dk_Cert_hosts 41 rfl
theorem d_Cert_hosts_83 : decode prog_2_method_13_code 83 = .ok (.if_icmp .gt 10, 3) := fx_dat dk_Cert_hosts 42 rfl
theorem d_Cert_hosts_86 : decode prog_2_method_13_code 86 = .ok (.iload_n 3, 1) := fx_dat dk_Cert_hosts 43 rfl
theorem d_Cert_hosts_87 : decode prog_2_method_13_code 87 = .ok (.sipush 162, 3) := fx_dat dk_Cert_hosts 44 rfl
theorem d_Cert_hosts_90 : decode prog_2_method_13_code 90 = .ok (.if_icmp .ne 7, 3) := fx_dat dk_Cert_hosts 45 rfl
theorem d_Cert_hosts_93 : decode prog_2_method_13_code 93 = .ok (.invokestatic 128, 3) := fx_dat dk_Cert_hosts 46 rfl
theorem d_Cert_hosts_96 : decode prog_2_method_13_code 96 = .ok (.athrow, 1) := fx_dat dk_Cert_hosts 47 rfl
theorem d_Cert_hosts_97 : decode prog_2_method_13_code 97 = .ok (.aload_n 0, 1) := fx_dat dk_Cert_hosts 48 rfl
theorem d_Cert_hosts_98 : decode prog_2_method_13_code 98 = .ok (.getfield 10, 3) := fx_dat dk_Cert_hosts 49 rfl
theorem d_Cert_hosts_101 : decode prog_2_method_13_code 101 = .ok (.iload_n 3, 1) := fx_dat dk_Cert_hosts 50 rfl
theorem d_Cert_hosts_102 : decode prog_2_method_13_code 102 = .ok (.iload_n 2, 1) := fx_dat dk_Cert_hosts 51 rfl
theorem d_Cert_hosts_103 : decode prog_2_method_13_code 103 = .ok (.invokevirtual 158, 3) := fx_dat dk_Cert_hosts 52 rfl
theorem d_Cert_hosts_106 : decode prog_2_method_13_code 106 = .ok (.istore 5, 2) := fx_dat dk_Cert_hosts 53 rfl
theorem d_Cert_hosts_108 : decode prog_2_method_13_code 108 = .ok (.iload 4, 2) := fx_dat dk_Cert_hosts 54 rfl
theorem d_Cert_hosts_110 : decode prog_2_method_13_code 110 = .ok (.iconst 2, 1) := fx_dat dk_Cert_hosts 55 rfl
theorem d_Cert_hosts_111 : decode prog_2_method_13_code 111 = .ok (.if_icmp .eq 6, 3) := fx_dat dk_Cert_hosts 56 rfl
theorem d_Cert_hosts_114 : decode prog_2_method_13_code 114 = .ok (.goto (-72), 3) := fx_dat dk_Cert_hosts 57 rfl
theorem d_Cert_hosts_117 : decode prog_2_method_13_code 117 = .ok (.aload_n 0, 1) := fx_dat dk_Cert_hosts 58 rfl
theorem d_Cert_hosts_118 : decode prog_2_method_13_code 118 = .ok (.getfield 10, 3) := fx_dat dk_Cert_hosts 59 rfl
theorem d_Cert_hosts_121 : decode prog_2_method_13_code 121 = .ok (.getfield 106, 3) := fx_dat dk_Cert_hosts 60 rfl
theorem d_Cert_hosts_124 : decode prog_2_method_13_code 124 = .ok (.iload 5, 2) := fx_dat dk_Cert_hosts 61 rfl
theorem d_Cert_hosts_126 : decode prog_2_method_13_code 126 = .ok (.if_icmp .ne 7, 3) := fx_dat dk_Cert_hosts 62 rfl
theorem d_Cert_hosts_129 : decode prog_2_method_13_code 129 = .ok (.invokestatic 128, 3) := fx_dat dk_Cert_hosts 63 rfl
theorem d_Cert_hosts_132 : decode prog_2_method_13_code 132 = .ok (.athrow, 1) := fx_dat dk_Cert_hosts 64 rfl
theorem d_Cert_hosts_133 : decode prog_2_method_13_code 133 = .ok (.aload_n 0, 1) := fx_dat dk_Cert_hosts 65 rfl
theorem d_Cert_hosts_134 : decode prog_2_method_13_code 134 = .ok (.dup, 1) := fx_dat dk_Cert_hosts 66 rfl
theorem d_Cert_hosts_135 : decode prog_2_method_13_code 135 = .ok (.getfield 92, 3) := fx_dat dk_Cert_hosts 67 rfl
theorem d_Cert_hosts_138 : decode prog_2_method_13_code 138 = .ok (.iconst 1, 1) := fx_dat dk_Cert_hosts 68 rfl
theorem d_Cert_hosts_139 : decode prog_2_method_13_code 139 = .ok (.iadd, 1) := fx_dat dk_Cert_hosts 69 rfl
theorem d_Cert_hosts_140 : decode prog_2_method_13_code 140 = .ok (.putfield 92, 3) := fx_dat dk_Cert_hosts 70 rfl
theorem d_Cert_hosts_143 : decode prog_2_method_13_code 143 = .ok (.goto (-101), 3) := fx_dat dk_Cert_hosts 71 rfl
theorem d_Cert_hosts_146 : decode prog_2_method_13_code 146 = .ok (.return_, 1) := fx_dat dk_Cert_hosts 72 rfl
def m_Cert_hosts_93 (Q : AH → Prop) (E : Nat → AH → Prop) (h : AH) : Prop := m_Rd_bad (fun q1 h1 => fx_ext h h1 → E q1 h1) h
def m_Cert_hosts_42_b (Q : AH → Prop) (E : Nat → AH → Prop) (X42 : AH → Prop) (r0 : Nat) (x2 : Int32) (h : AH) : Prop := hp_k h r0 = 8 ∧ ∃ b1, hp_R h r0 1 = some b1 ∧ hp_k h b1 = 9 ∧ (x2 ≤ (hp_I h b1 1) → Q h) ∧ (¬ x2 ≤ (hp_I h b1 1) → m_Rd_tag (fun v1 h1 => fx_ext h h1 → ∀ v2 : Int32, v2 = (v1 &&& (31 : Int32)) → (¬ (v1 &&& (192 : Int32)) = (128 : Int32) → m_Cert_hosts_93 Q E h1) ∧ ((v1 &&& (192 : Int32)) = (128 : Int32) → ((8 : Int32) < v2 → m_Cert_hosts_93 Q E h1) ∧ (¬ (8 : Int32) < v2 → (¬ v1 = (162 : Int32) → ∃ b2, hp_R h1 r0 1 = some b2 ∧ hp_k h1 b2 = 9 ∧ m_Rd_skip (fun v3 h2 => fx_ext h1 h2 → (v2 = (2 : Int32) → ∃ b3, hp_R h2 r0 1 = some b3 ∧ hp_k h2 b3 = 9 ∧ (¬ (hp_I h2 b3 1) = v3 → ∀ h3 : AH, h3 = up_I h2 r0 26 ((hp_I h2 r0 26) + (1 : Int32)) → X42 h3) ∧ ((hp_I h2 b3 1) = v3 → m_Rd_bad (fun q1 h4 => fx_ext h2 h4 → E q1 h4) h2)) ∧ (¬ v2 = (2 : Int32) → X42 h2)) (fun a ht => fx_ext h1 ht → E a ht) b2 v1 x2 h1) ∧ (v1 = (162 : Int32) → m_Cert_hosts_93 Q E h1)))) b1 x2 h)
def m_Cert_hosts_42 (Q : AH → Prop) (E : Nat → AH → Prop) (r0 : Nat) (x2 : Int32) (h : AH) : Prop := fx_loop (fun (X42 : AH → Prop) (st : AH) => m_Cert_hosts_42_b Q E X42 r0 x2 st) (h)
def m_Cert_hosts (Q : AH → Prop) (E : Nat → AH → Prop) (r0 : Nat) (x1 : Int32) (h : AH) : Prop := hp_k h r0 = 8 ∧ ∃ b1, hp_R h r0 1 = some b1 ∧ hp_k h b1 = 9 ∧ m_Rd_enter (fun v1 h1 => fx_ext h h1 → ∃ b2, hp_R h1 r0 1 = some b2 ∧ hp_k h1 b2 = 9 ∧ ∀ h2 : AH, h2 = up_I h1 r0 24 (hp_I h1 b2 1) → ∀ h3 : AH, h3 = up_I h2 r0 25 v1 → (¬ (hp_I h3 b2 1) = v1 → m_Cert_hosts_42 Q E r0 v1 h3) ∧ ((hp_I h3 b2 1) = v1 → m_Rd_bad (fun q1 h4 => fx_ext h3 h4 → E q1 h4) h3)) (fun a ht => fx_ext h ht → E a ht) b1 (48 : Int32) x1 h
theorem b_Cert_hosts_93 {p : Program} {l : Launch} {e : Env} {R : Room} {s : State} {m : MethodId} {args : Array Value} {below : List Frame} {meth : Method} {c : Code} {D : DD} {h0 : AH} {Q : AH → Prop} {E : Nat → AH → Prop} (C : fx_CX D y_Cert_hosts prog_2_method_13_code 6 9 124 (none) [] h0 p R s m meth c) (hl : l.flags = flags0) (h : AH) (hw : m_Cert_hosts_93 Q E h) : ∀ (ls : Array Slot) (H : Heap) (locs : List Loc) (cells slots : Nat), lv_has ls 6 [] → fx_F D h0 h H locs cells slots → W p l e R s m args below meth c H locs cells slots (fx_Z D below s h0 (fx_oV Q E)) (F0 m 93 ls []) := by
  unfold m_Cert_hosts_93 at hw
  intro ls H locs cells slots hv F
  refine fx_callR C F (c_Rd_bad hl hw) hm_Rd_bad hi_Rd_bad hv.1 (by decide) (Nat.le_of_ble_eq_true rfl) (iv_Rd_bad C F lm_Cert_128 d_Cert_hosts_93) (fx_out0 _) fx_eno (fun q1 h1 H locs cells slots hw hx1 F => ?_)
  replace hw := hw hx1
  exact fx_athrow C F (fx_out0 _) d_Cert_hosts_96 (Or.inr ⟨_, rfl, hw⟩)
theorem b_Cert_hosts_42 {p : Program} {l : Launch} {e : Env} {R : Room} {s : State} {m : MethodId} {args : Array Value} {below : List Frame} {meth : Method} {c : Code} {D : DD} {h0 : AH} {Q : AH → Prop} {E : Nat → AH → Prop} (C : fx_CX D y_Cert_hosts prog_2_method_13_code 6 9 124 (none) [] h0 p R s m meth c) (hl : l.flags = flags0) (r0 : Nat) (x2 : Int32) (h : AH) (hw : m_Cert_hosts_42 Q E r0 x2 h) : ∀ (ls : Array Slot) (H : Heap) (locs : List Loc) (cells slots : Nat), lv_has ls 6 [(0, .ref r0), (2, .int x2)] → fx_F D h0 h H locs cells slots → W p l e R s m args below meth c H locs cells slots (fx_Z D below s h0 (fx_oV Q E)) (F0 m 42 ls []) := by
  refine fx_loop.use hw (fun st => ∀ (ls : Array Slot) (H : Heap) (locs : List Loc) (cells slots : Nat), lv_has ls 6 [(0, .ref r0), (2, .int x2)] → fx_F D h0 st H locs cells slots → W p l e R s m args below meth c H locs cells slots (fx_Z D below s h0 (fx_oV Q E)) (F0 m 42 ls [])) (fun X42 h hX42 hw => ?_)
  replace hw : m_Cert_hosts_42_b Q E X42 r0 x2 h := hw
  unfold m_Cert_hosts_42_b at hw
  intro ls H locs cells slots hv F
  refine lv_aload_n C.ex C.by d_Cert_hosts_42 rfl (lv_at hv 0 rfl) ?_
  obtain ⟨hk1, hw⟩ := hw
  obtain ⟨b1, hb1, hw⟩ := hw
  refine fx_getR C F lf_Cert_10 hk1 rfl hb1 d_Cert_hosts_43 ?_
  obtain ⟨hk2, hw⟩ := hw
  refine fx_getI C F lf_Cert_106 hk2 rfl d_Cert_hosts_46 ?_
  refine lv_iload_n C.ex C.by d_Cert_hosts_49 rfl (lv_at hv 1 rfl) ?_
  refine lv_icmp_ge C.ex C.by d_Cert_hosts_50 rfl (fun hc => ?_) (fun hc => ?_)
  · replace hw := hw.1 hc
    exact fx_vret C F d_Cert_hosts_146 (Or.inl ⟨rfl, hw⟩)
  · replace hw := hw.2 hc
    refine lv_aload_n C.ex C.by d_Cert_hosts_53 rfl (lv_at hv 0 rfl) ?_
    refine fx_getR C F lf_Cert_10 hk1 rfl hb1 d_Cert_hosts_54 ?_
    refine lv_iload_n C.ex C.by d_Cert_hosts_57 rfl (lv_at hv 1 rfl) ?_
    refine fx_callI C F (c_Rd_tag hl hw) hm_Rd_tag hi_Rd_tag hv.1 (by decide) (Nat.le_of_ble_eq_true rfl) (iv_Rd_tag C F lm_Cert_155 hk2 d_Cert_hosts_58) (fx_out0 _) fx_eno (fun v1 h1 H locs cells slots hw hx1 F => ?_)
    replace hw := hw hx1
    have hk2 := (hx1).k hk2
    have hk1 := (hx1).k hk1
    refine lv_istore_n (lv' := [(3, .int v1), (0, .ref r0), (2, .int x2)]) C.ex C.by d_Cert_hosts_61 rfl hv (by decide) rfl (fun ls hv => ?_)
    refine lv_iload_n C.ex C.by d_Cert_hosts_62 rfl (lv_at hv 0 rfl) ?_
    refine lv_bipush (v := (31 : Int32)) C.ex C.by d_Cert_hosts_63 (by decide) ?_
    refine lv_iand C.ex C.by d_Cert_hosts_65 ?_
    let v2 : Int32 := (v1 &&& (31 : Int32))
    replace hw := hw v2 rfl
    refine lv_istore (lv' := [(4, .int v2), (3, .int v1), (0, .ref r0), (2, .int x2)]) C.ex C.by d_Cert_hosts_66 hv (by decide) rfl (fun ls hv => ?_)
    refine lv_iload_n C.ex C.by d_Cert_hosts_68 rfl (lv_at hv 1 rfl) ?_
    refine lv_sipush (v := (192 : Int32)) C.ex C.by d_Cert_hosts_69 (by decide) ?_
    refine lv_iand C.ex C.by d_Cert_hosts_72 ?_
    refine lv_sipush (v := (128 : Int32)) C.ex C.by d_Cert_hosts_73 (by decide) ?_
    refine lv_icmp_ne C.ex C.by d_Cert_hosts_76 rfl (fun hc => ?_) (fun hc => ?_)
    · replace hw := hw.1 hc
      exact b_Cert_hosts_93 C hl _ hw _ _ _ _ _ (lv_sub hv [] rfl) F
    · replace hw := hw.2 hc
      refine lv_iload C.ex C.by d_Cert_hosts_79 (lv_at hv 0 rfl) ?_
      refine lv_bipush (v := (8 : Int32)) C.ex C.by d_Cert_hosts_81 (by decide) ?_
      refine lv_icmp_gt C.ex C.by d_Cert_hosts_83 rfl (fun hc => ?_) (fun hc => ?_)
      · replace hw := hw.1 hc
        exact b_Cert_hosts_93 C hl _ hw _ _ _ _ _ (lv_sub hv [] rfl) F
      · replace hw := hw.2 hc
        refine lv_iload_n C.ex C.by d_Cert_hosts_86 rfl (lv_at hv 1 rfl) ?_
        refine lv_sipush (v := (162 : Int32)) C.ex C.by d_Cert_hosts_87 (by decide) ?_
        refine lv_icmp_ne C.ex C.by d_Cert_hosts_90 rfl (fun hc => ?_) (fun hc => ?_)
        · replace hw := hw.1 hc
          refine lv_aload_n C.ex C.by d_Cert_hosts_97 rfl (lv_at hv 2 rfl) ?_
          obtain ⟨b2, hb2, hw⟩ := hw
          refine fx_getR C F lf_Cert_10 hk1 rfl hb2 d_Cert_hosts_98 ?_
          refine lv_iload_n C.ex C.by d_Cert_hosts_101 rfl (lv_at hv 1 rfl) ?_
          refine lv_iload_n C.ex C.by d_Cert_hosts_102 rfl (lv_at hv 3 rfl) ?_
          obtain ⟨hk3, hw⟩ := hw
          refine fx_callI C F (c_Rd_skip hl hw) hm_Rd_skip hi_Rd_skip hv.1 (by decide) (Nat.le_of_ble_eq_true rfl) (iv_Rd_skip C F lm_Cert_158 hk3 d_Cert_hosts_103) (fx_out0 _) (fun _ _ hE hx => Or.inr ⟨_, rfl, hE hx⟩) (fun v3 h2 H locs cells slots hw hx2 F => ?_)
          replace hw := hw hx2
          have hk2 := (hx2).k hk2
          have hk3 := (hx2).k hk3
          have hk1 := (hx2).k hk1
          refine lv_istore (lv' := [(5, .int v3), (4, .int v2), (3, .int v1), (0, .ref r0), (2, .int x2)]) C.ex C.by d_Cert_hosts_106 hv (by decide) rfl (fun ls hv => ?_)
          refine lv_iload C.ex C.by d_Cert_hosts_108 (lv_at hv 1 rfl) ?_
          refine lv_iconst (v := (2 : Int32)) C.ex C.by d_Cert_hosts_110 (by decide) ?_
          refine lv_icmp_eq C.ex C.by d_Cert_hosts_111 rfl (fun hc => ?_) (fun hc => ?_)
          · replace hw := hw.1 hc
            refine lv_aload_n C.ex C.by d_Cert_hosts_117 rfl (lv_at hv 3 rfl) ?_
            obtain ⟨b3, hb3, hw⟩ := hw
            refine fx_getR C F lf_Cert_10 hk1 rfl hb3 d_Cert_hosts_118 ?_
            obtain ⟨hk4, hw⟩ := hw
            refine fx_getI C F lf_Cert_106 hk4 rfl d_Cert_hosts_121 ?_
            refine lv_iload C.ex C.by d_Cert_hosts_124 (lv_at hv 0 rfl) ?_
            refine lv_icmp_ne C.ex C.by d_Cert_hosts_126 rfl (fun hc => ?_) (fun hc => ?_)
            · replace hw := hw.1 hc
              refine lv_aload_n C.ex C.by d_Cert_hosts_133 rfl (lv_at hv 3 rfl) ?_
              refine lv_dup C.ex C.by d_Cert_hosts_134 rfl ?_
              refine fx_getI C F lf_Cert_92 hk1 rfl d_Cert_hosts_135 ?_
              refine lv_iconst (v := (1 : Int32)) C.ex C.by d_Cert_hosts_138 (by decide) ?_
              refine lv_iadd C.ex C.by d_Cert_hosts_139 ?_
              let h3 : AH := up_I h2 r0 26 ((hp_I h2 r0 26) + (1 : Int32))
              replace hw := hw h3 rfl
              refine fx_putI C F lf_Cert_92 hk1 rfl rfl (fx_mayF.no rfl rfl) d_Cert_hosts_140 (fun H locs (F : fx_F D h0 h3 H locs _ _) => ?_)
              refine lv_goto C.ex C.by d_Cert_hosts_143 rfl ?_
              exact hX42 _ hw _ _ _ _ _ (lv_sub hv [3, 4] rfl) F
            · replace hw := hw.2 hc
              refine fx_callR C F (c_Rd_bad hl hw) hm_Rd_bad hi_Rd_bad hv.1 (by decide) (Nat.le_of_ble_eq_true rfl) (iv_Rd_bad C F lm_Cert_128 d_Cert_hosts_129) (fx_out0 _) fx_eno (fun q1 h4 H locs cells slots hw hx3 F => ?_)
              replace hw := hw hx3
              have hk2 := (hx3).k hk2
              have hk3 := (hx3).k hk3
              have hk4 := (hx3).k hk4
              have hk1 := (hx3).k hk1
              exact fx_athrow C F (fx_out0 _) d_Cert_hosts_132 (Or.inr ⟨_, rfl, hw⟩)
          · replace hw := hw.2 hc
            refine lv_goto C.ex C.by d_Cert_hosts_114 rfl ?_
            exact hX42 _ hw _ _ _ _ _ (lv_sub hv [3, 4] rfl) F
        · replace hw := hw.2 hc
          exact b_Cert_hosts_93 C hl _ hw _ _ _ _ _ (lv_sub hv [] rfl) F
theorem b_Cert_hosts_0 {p : Program} {l : Launch} {e : Env} {R : Room} {s : State} {m : MethodId} {args : Array Value} {below : List Frame} {meth : Method} {c : Code} {D : DD} {h0 : AH} {Q : AH → Prop} {E : Nat → AH → Prop} (C : fx_CX D y_Cert_hosts prog_2_method_13_code 6 9 124 (none) [] h0 p R s m meth c) (hl : l.flags = flags0) (r0 : Nat) (x1 : Int32) (h : AH) (hw : m_Cert_hosts Q E r0 x1 h) : ∀ (ls : Array Slot) (H : Heap) (locs : List Loc) (cells slots : Nat), lv_has ls 6 [(0, .ref r0), (1, .int x1)] → fx_F D h0 h H locs cells slots → W p l e R s m args below meth c H locs cells slots (fx_Z D below s h0 (fx_oV Q E)) (F0 m 0 ls []) := by
  unfold m_Cert_hosts at hw
  intro ls H locs cells slots hv F
  refine lv_aload_n C.ex C.by d_Cert_hosts_0 rfl (lv_at hv 0 rfl) ?_
  obtain ⟨hk1, hw⟩ := hw
  obtain ⟨b1, hb1, hw⟩ := hw
  refine fx_getR C F lf_Cert_10 hk1 rfl hb1 d_Cert_hosts_1 ?_
  refine lv_bipush (v := (48 : Int32)) C.ex C.by d_Cert_hosts_4 (by decide) ?_
  refine lv_iload_n C.ex C.by d_Cert_hosts_6 rfl (lv_at hv 1 rfl) ?_
  obtain ⟨hk2, hw⟩ := hw
  refine fx_callI C F (c_Rd_enter hl hw) hm_Rd_enter hi_Rd_enter hv.1 (by decide) (Nat.le_of_ble_eq_true rfl) (iv_Rd_enter C F lm_Cert_115 hk2 d_Cert_hosts_7) (fx_out0 _) (fun _ _ hE hx => Or.inr ⟨_, rfl, hE hx⟩) (fun v1 h1 H locs cells slots hw hx1 F => ?_)
  replace hw := hw hx1
  have hk2 := (hx1).k hk2
  have hk1 := (hx1).k hk1
  refine lv_istore_n (lv' := [(2, .int v1), (0, .ref r0), (1, .int x1)]) C.ex C.by d_Cert_hosts_10 rfl hv (by decide) rfl (fun ls hv => ?_)
  refine lv_aload_n C.ex C.by d_Cert_hosts_11 rfl (lv_at hv 1 rfl) ?_
  refine lv_aload_n C.ex C.by d_Cert_hosts_12 rfl (lv_at hv 1 rfl) ?_
  obtain ⟨b2, hb2, hw⟩ := hw
  refine fx_getR C F lf_Cert_10 hk1 rfl hb2 d_Cert_hosts_13 ?_
  obtain ⟨hk3, hw⟩ := hw
  refine fx_getI C F lf_Cert_106 hk3 rfl d_Cert_hosts_16 ?_
  let h2 : AH := up_I h1 r0 24 (hp_I h1 b2 1)
  replace hw := hw h2 rfl
  refine fx_putI C F lf_Cert_86 hk1 rfl rfl (fx_mayF.no rfl rfl) d_Cert_hosts_19 (fun H locs (F : fx_F D h0 h2 H locs _ _) => ?_)
  refine lv_aload_n C.ex C.by d_Cert_hosts_22 rfl (lv_at hv 1 rfl) ?_
  refine lv_iload_n C.ex C.by d_Cert_hosts_23 rfl (lv_at hv 0 rfl) ?_
  let h3 : AH := up_I h2 r0 25 v1
  replace hw := hw h3 rfl
  refine fx_putI C F lf_Cert_89 hk1 rfl rfl (fx_mayF.no rfl rfl) d_Cert_hosts_24 (fun H locs (F : fx_F D h0 h3 H locs _ _) => ?_)
  refine lv_aload_n C.ex C.by d_Cert_hosts_27 rfl (lv_at hv 1 rfl) ?_
  refine fx_getR C F lf_Cert_10 hk1 rfl hb2 d_Cert_hosts_28 ?_
  refine fx_getI C F lf_Cert_106 hk3 rfl d_Cert_hosts_31 ?_
  refine lv_iload_n C.ex C.by d_Cert_hosts_34 rfl (lv_at hv 0 rfl) ?_
  refine lv_icmp_ne C.ex C.by d_Cert_hosts_35 rfl (fun hc => ?_) (fun hc => ?_)
  · replace hw := hw.1 hc
    exact b_Cert_hosts_42 C hl _ _ _ hw _ _ _ _ _ (lv_sub hv [1, 0] rfl) F
  · replace hw := hw.2 hc
    refine fx_callR C F (c_Rd_bad hl hw) hm_Rd_bad hi_Rd_bad hv.1 (by decide) (Nat.le_of_ble_eq_true rfl) (iv_Rd_bad C F lm_Cert_128 d_Cert_hosts_38) (fx_out0 _) fx_eno (fun q1 h4 H locs cells slots hw hx2 F => ?_)
    replace hw := hw hx2
    have hk2 := (hx2).k hk2
    have hk3 := (hx2).k hk3
    have hk1 := (hx2).k hk1
    exact fx_athrow C F (fx_out0 _) d_Cert_hosts_41 (Or.inr ⟨_, rfl, hw⟩)
theorem hm_Cert_hosts : fx_hd y_Cert_hosts prog_2_method_13_code 6 (none) [] ∈ tables_1 := (fx_m4 (List.mem_of_getElem? (i := 21) rfl))
theorem hi_Cert_hosts : Cond.initialized y_Cert_hosts.cls ∈ tables_1 := (fx_m1 (List.mem_of_getElem? (i := 11) rfl))
theorem c_Cert_hosts {l : Launch} (hl : l.flags = flags0) {D : DD} {Q : AH → Prop} {E : Nat → AH → Prop} {r0 : Nat} {x1 : Int32} {h : AH} (hw : m_Cert_hosts Q E r0 x1 h) : fx_Mt l D y_Cert_hosts (fx_hd y_Cert_hosts prog_2_method_13_code 6 (none) []) 9 124 [.ref r0, .int x1] h (fx_oV Q E) := by
  refine fx_ofW (plainFor_of_name (by decide)) (fun p e s m below meth c C F => ?_)
  have hv := lv_entry ([.ref r0, .int x1]) (n := 6) (Nat.le_of_ble_eq_true rfl)
  rw [lg_entry_eq]
  generalize (lg_sl ([.ref r0, .int x1]) ++ List.replicate (6 - (lg_sl ([.ref r0, .int x1])).length) Slot.unset).toArray = ls at hv ⊢
  have hv : lv_has ls 6 [(0, .ref r0), (1, .int x1)] := hv
  exact b_Cert_hosts_0 C hl _ _ _ hw _ _ _ _ _ hv F
/-! ChainJudge$Certificate.purposes(I)V: frames 9, words 124, throws -/
abbrev y_Cert_purposes : MethodName := ⟨"ChainJudge$Certificate", "purposes", "(I)V"⟩
theorem ls_Cert_219 : fx_Ls "ChainJudge$Certificate" 219 7 := ⟨_, rfl, Or.inr ⟨_, (fx_m4 (List.mem_of_getElem? (i := 26) rfl))⟩⟩
theorem ls_Cert_222 : fx_Ls "ChainJudge$Certificate" 222 8 := ⟨_, rfl, Or.inr ⟨_, (fx_m4 (List.mem_of_getElem? (i := 28) rfl))⟩⟩
theorem lm_Cert_188 : Cond.methodLink "ChainJudge$Certificate" 188 y_Rd_is ∈ tables_1 ∨ ∃ host, Cond.methodLinkNest "ChainJudge$Certificate" 188 y_Rd_is host ∈ tables_1 := Or.inl (fx_m3 (List.mem_of_getElem? (i := 235) rfl))
def dl_Cert_purposes : List (Nat × Instr × Nat) := [(0, .aload_n 0, 1), (1, .getfield 10, 3), (4, .bipush 48, 2), (6, .iload_n 1, 1), (7, .invokevirtual 115, 3), (10, .istore_n 2, 1), (11, .aload_n 0, 1), (12, .getfield 10, 3), (15, .getfield 106, 3), (18, .iload_n 2, 1), (19, .if_icmp .ne 7, 3), (22, .invokestatic 128, 3), (25, .athrow, 1), (26, .aload_n 0, 1), (27, .iconst 0, 1), (28, .putfield 83, 3), (31, .aload_n 0, 1), (32, .getfield 10, 3), (35, .getfield 106, 3), (38, .iload_n 2, 1), (39, .if_icmp .ge 63, 3), (42, .aload_n 0, 1), (43, .getfield 10, 3), (46, .iload_n 2, 1), (47, .invokevirtual 152, 3), (50, .istore_n 3, 1), (51, .aload_n 0, 1), (52, .getfield 10, 3), (55, .getstatic 219, 3), (58, .iload_n 3, 1), (59, .invokevirtual 188, 3), (62, .ifCond .eq 13, 3), (65, .aload_n 0, 1), (66, .dup, 1), (67, .getfield 83, 3), (70, .iconst 1, 1), (71, .ior, 1), (72, .putfield 83, 3), (75, .aload_n 0, 1), (76, .getfield 10, 3), (79, .getstatic 222, 3), (82, .iload_n 3, 1), (83, .invokevirtual 188, 3), (86, .ifCond .eq 13, 3), (89, .aload_n 0, 1), (90, .dup, 1), (91, .getfield 83, 3), (94, .iconst 2, 1), (95, .ior, 1), (96, .putfield 83, 3), (99, .goto (-68), 3), (102, .return_, 1)]
theorem dk_Cert_purposes : fx_dec prog_2_method_14_code dl_Cert_purposes = true := by decide +kernel
theorem d_Cert_purposes_0 : decode prog_2_method_14_code 0 = .ok (.aload_n 0, 1) := fx_dat dk_Cert_purposes 0 rfl
theorem d_Cert_purposes_1 : decode prog_2_method_14_code 1 = .ok (.getfield 10, 3) := fx_dat dk_Cert_purposes 1 rfl
theorem d_Cert_purposes_4 : decode prog_2_method_14_code 4 = .ok (.bipush 48, 2) := fx_dat dk_Cert_purposes 2 rfl
theorem d_Cert_purposes_6 : decode prog_2_method_14_code 6 = .ok (.iload_n 1, 1) := fx_dat dk_Cert_purposes 3 rfl
theorem d_Cert_purposes_7 : decode prog_2_method_14_code 7 = .ok (.invokevirtual 115, 3) := fx_dat dk_Cert_purposes 4 rfl
theorem d_Cert_purposes_10 : decode prog_2_method_14_code 10 = .ok (.istore_n 2, 1) := fx_dat dk_Cert_purposes 5 rfl
theorem d_Cert_purposes_11 : decode prog_2_method_14_code 11 = .ok (.aload_n 0, 1) := fx_dat dk_Cert_purposes 6 rfl
theorem d_Cert_purposes_12 : decode prog_2_method_14_code 12 = .ok (.getfield 10, 3) := fx_dat dk_Cert_purposes 7 rfl
theorem d_Cert_purposes_15 : decode prog_2_method_14_code 15 = .ok (.getfield 106, 3) := fx_dat dk_Cert_purposes 8 rfl
theorem d_Cert_purposes_18 : decode prog_2_method_14_code 18 = .ok (.iload_n 2, 1) := fx_dat dk_Cert_purposes 9 rfl
theorem d_Cert_purposes_19 : decode prog_2_method_14_code 19 = .ok (.if_icmp .ne 7, 3) := fx_dat dk_Cert_purposes 10 rfl
theorem d_Cert_purposes_22 : decode prog_2_method_14_code 22 = .ok (.invokestatic 128, 3) := fx_dat dk_Cert_purposes 11 rfl
theorem d_Cert_purposes_25 : decode prog_2_method_14_code 25 = .ok (.athrow, 1) := fx_dat dk_Cert_purposes 12 rfl
theorem d_Cert_purposes_26 : decode prog_2_method_14_code 26 = .ok (.aload_n 0, 1) := fx_dat dk_Cert_purposes 13 rfl
theorem d_Cert_purposes_27 : decode prog_2_method_14_code 27 = .ok (.iconst 0, 1) := fx_dat dk_Cert_purposes 14 rfl
theorem d_Cert_purposes_28 : decode prog_2_method_14_code 28 = .ok (.putfield 83, 3) := fx_dat dk_Cert_purposes 15 rfl
theorem d_Cert_purposes_31 : decode prog_2_method_14_code 31 = .ok (.aload_n 0, 1) := fx_dat dk_Cert_purposes 16 rfl
theorem d_Cert_purposes_32 : decode prog_2_method_14_code 32 = .ok (.getfield 10, 3) := fx_dat dk_Cert_purposes 17 rfl
theorem d_Cert_purposes_35 : decode prog_2_method_14_code 35 = .ok (.getfield 106, 3) := fx_dat dk_Cert_purposes 18 rfl
theorem d_Cert_purposes_38 : decode prog_2_method_14_code 38 = .ok (.iload_n 2, 1) := fx_dat dk_Cert_purposes 19 rfl
theorem d_Cert_purposes_39 : decode prog_2_method_14_code 39 = .ok (.if_icmp .ge 63, 3) := fx_dat dk_Cert_purposes 20 rfl
theorem d_Cert_purposes_42 : decode prog_2_method_14_code 42 = .ok (.aload_n 0, 1) := fx_dat dk_Cert_purposes 21 rfl
theorem d_Cert_purposes_43 : decode prog_2_method_14_code 43 = .ok (.getfield 10, 3) := fx_dat dk_Cert_purposes 22 rfl
theorem d_Cert_purposes_46 : decode prog_2_method_14_code 46 = .ok (.iload_n 2, 1) := fx_dat dk_Cert_purposes 23 rfl
theorem d_Cert_purposes_47 : decode prog_2_method_14_code 47 = .ok (.invokevirtual 152, 3) := fx_dat dk_Cert_purposes 24 rfl
theorem d_Cert_purposes_50 : decode prog_2_method_14_code 50 = .ok (.istore_n 3, 1) := fx_dat dk_Cert_purposes 25 rfl
theorem d_Cert_purposes_51 : decode prog_2_method_14_code 51 = .ok (.aload_n 0, 1) := fx_dat dk_Cert_purposes 26 rfl
theorem d_Cert_purposes_52 : decode prog_2_method_14_code 52 = .ok (.getfield 10, 3) := fx_dat dk_Cert_purposes 27 rfl
theorem d_Cert_purposes_55 : decode prog_2_method_14_code 55 = .ok (.getstatic 219, 3) := fx_dat dk_Cert_purposes 28 rfl
theorem d_Cert_purposes_58 : decode prog_2_method_14_code 58 = .ok (.iload_n 3, 1) := fx_dat dk_Cert_purposes 29 rfl
theorem d_Cert_purposes_59 : decode prog_2_method_14_code 59 = .ok (.invokevirtual 188, 3) := fx_dat dk_Cert_purposes 30 rfl
theorem d_Cert_purposes_62 : decode prog_2_method_14_code 62 = .ok (.ifCond .eq 13, 3) := fx_dat dk_Cert_purposes 31 rfl
theorem d_Cert_purposes_65 : decode prog_2_method_14_code 65 = .ok (.aload_n 0, 1) := fx_dat dk_Cert_purposes 32 rfl
theorem d_Cert_purposes_66 : decode prog_2_method_14_code 66 = .ok (.dup, 1) := fx_dat dk_Cert_purposes 33 rfl
theorem d_Cert_purposes_67 : decode prog_2_method_14_code 67 = .ok (.getfield 83, 3) := fx_dat dk_Cert_purposes 34 rfl
theorem d_Cert_purposes_70 : decode prog_2_method_14_code 70 = .ok (.iconst 1, 1) := fx_dat dk_Cert_purposes 35 rfl
theorem d_Cert_purposes_71 : decode prog_2_method_14_code 71 = .ok (.ior, 1) := fx_dat dk_Cert_purposes 36 rfl
theorem d_Cert_purposes_72 : decode prog_2_method_14_code 72 = .ok (.putfield 83, 3) := fx_dat dk_Cert_purposes 37 rfl
theorem d_Cert_purposes_75 : decode prog_2_method_14_code 75 = .ok (.aload_n 0, 1) := fx_dat dk_Cert_purposes 38 rfl
theorem d_Cert_purposes_76 : decode prog_2_method_14_code 76 = .ok (.getfield 10, 3) := fx_dat dk_Cert_purposes 39 rfl
theorem d_Cert_purposes_79 : decode prog_2_method_14_code 79 = .ok (.getstatic 222, 3) := fx_dat dk_Cert_purposes 40 rfl
theorem d_Cert_purposes_82 : decode prog_2_method_14_code 82 = .ok (.iload_n 3, 1) := fx_dat dk_Cert_purposes 41 rfl
theorem d_Cert_purposes_83 : decode prog_2_method_14_code 83 = .ok (.invokevirtual 188, 3) := fx_dat dk_Cert_purposes 42 rfl
theorem d_Cert_purposes_86 : decode prog_2_method_14_code 86 = .ok (.ifCond .eq 13, 3) := fx_dat dk_Cert_purposes 43 rfl
theorem d_Cert_purposes_89 : decode prog_2_method_14_code 89 = .ok (.aload_n 0, 1) := fx_dat dk_Cert_purposes 44 rfl
theorem d_Cert_purposes_90 : decode prog_2_method_14_code 90 = .ok (.dup, 1) := fx_dat dk_Cert_purposes 45 rfl
theorem d_Cert_purposes_91 : decode prog_2_method_14_code 91 = .ok (.getfield 83, 3) := fx_dat dk_Cert_purposes 46 rfl
theorem d_Cert_purposes_94 : decode prog_2_method_14_code 94 = .ok (.iconst 2, 1) := fx_dat dk_Cert_purposes 47 rfl
theorem d_Cert_purposes_95 : decode prog_2_method_14_code 95 = .ok (.ior, 1) := fx_dat dk_Cert_purposes 48 rfl
theorem d_Cert_purposes_96 : decode prog_2_method_14_code 96 = .ok (.putfield 83, 3) := fx_dat dk_Cert_purposes 49 rfl
theorem d_Cert_purposes_99 : decode prog_2_method_14_code 99 = .ok (.goto (-68), 3) := fx_dat dk_Cert_purposes 50 rfl
theorem d_Cert_purposes_102 : decode prog_2_method_14_code 102 = .ok (.return_, 1) := fx_dat dk_Cert_purposes 51 rfl
def m_Cert_purposes_99 (Q : AH → Prop) (E : Nat → AH → Prop) (X31 : AH → Prop) (r0 : Nat) (x2 : Int32) (h : AH) : Prop := X31 h
def m_Cert_purposes_75 (Q : AH → Prop) (E : Nat → AH → Prop) (X31 : AH → Prop) (r0 : Nat) (x2 : Int32) (x3 : Int32) (h : AH) : Prop := hp_k h r0 = 8 ∧ ∃ b1, hp_R h r0 1 = some b1 ∧ hp_k h b1 = 9 ∧ m_Rd_is (fun v1 h1 => fx_ext h h1 → zb v1 → (v1 = 0 → m_Cert_purposes_99 Q E X31 r0 x2 h1) ∧ (¬ v1 = 0 → ∀ h2 : AH, h2 = up_I h1 r0 23 ((hp_I h1 r0 23) ||| (2 : Int32)) → m_Cert_purposes_99 Q E X31 r0 x2 h2)) b1 (hp_c h 8) x3 h
def m_Cert_purposes_31_b (Q : AH → Prop) (E : Nat → AH → Prop) (X31 : AH → Prop) (r0 : Nat) (x2 : Int32) (h : AH) : Prop := hp_k h r0 = 8 ∧ ∃ b1, hp_R h r0 1 = some b1 ∧ hp_k h b1 = 9 ∧ (x2 ≤ (hp_I h b1 1) → Q h) ∧ (¬ x2 ≤ (hp_I h b1 1) → m_Rd_oid (fun v1 h1 => fx_ext h h1 → ∃ b2, hp_R h1 r0 1 = some b2 ∧ hp_k h1 b2 = 9 ∧ m_Rd_is (fun v2 h2 => fx_ext h1 h2 → zb v2 → (v2 = 0 → m_Cert_purposes_75 Q E X31 r0 x2 v1 h2) ∧ (¬ v2 = 0 → ∀ h3 : AH, h3 = up_I h2 r0 23 ((hp_I h2 r0 23) ||| (1 : Int32)) → m_Cert_purposes_75 Q E X31 r0 x2 v1 h3)) b2 (hp_c h1 7) v1 h1) (fun a ht => fx_ext h ht → E a ht) b1 x2 h)
def m_Cert_purposes_31 (Q : AH → Prop) (E : Nat → AH → Prop) (r0 : Nat) (x2 : Int32) (h : AH) : Prop := fx_loop (fun (X31 : AH → Prop) (st : AH) => m_Cert_purposes_31_b Q E X31 r0 x2 st) (h)
def m_Cert_purposes (Q : AH → Prop) (E : Nat → AH → Prop) (r0 : Nat) (x1 : Int32) (h : AH) : Prop := hp_k h r0 = 8 ∧ ∃ b1, hp_R h r0 1 = some b1 ∧ hp_k h b1 = 9 ∧ m_Rd_enter (fun v1 h1 => fx_ext h h1 → ∃ b2, hp_R h1 r0 1 = some b2 ∧ hp_k h1 b2 = 9 ∧ (¬ (hp_I h1 b2 1) = v1 → ∀ h2 : AH, h2 = up_I h1 r0 23 (0 : Int32) → m_Cert_purposes_31 Q E r0 v1 h2) ∧ ((hp_I h1 b2 1) = v1 → m_Rd_bad (fun q1 h3 => fx_ext h1 h3 → E q1 h3) h1)) (fun a ht => fx_ext h ht → E a ht) b1 (48 : Int32) x1 h
theorem b_Cert_purposes_99 {p : Program} {l : Launch} {e : Env} {R : Room} {s : State} {m : MethodId} {args : Array Value} {below : List Frame} {meth : Method} {c : Code} {D : DD} {h0 : AH} {Q : AH → Prop} {E : Nat → AH → Prop} {X31 : AH → Prop} (C : fx_CX D y_Cert_purposes prog_2_method_14_code 4 9 124 (none) [] h0 p R s m meth c) (hl : l.flags = flags0) (r0 : Nat) (x2 : Int32) (h : AH) (hX31 : ∀ st, X31 st → ∀ (ls : Array Slot) (H : Heap) (locs : List Loc) (cells slots : Nat), lv_has ls 4 [(0, .ref r0), (2, .int x2)] → fx_F D h0 st H locs cells slots → W p l e R s m args below meth c H locs cells slots (fx_Z D below s h0 (fx_oV Q E)) (F0 m 31 ls [])) (hw : m_Cert_purposes_99 Q E X31 r0 x2 h) : ∀ (ls : Array Slot) (H : Heap) (locs : List Loc) (cells slots : Nat), lv_has ls 4 [(0, .ref r0), (2, .int x2)] → fx_F D h0 h H locs cells slots → W p l e R s m args below meth c H locs cells slots (fx_Z D below s h0 (fx_oV Q E)) (F0 m 99 ls []) := by
  unfold m_Cert_purposes_99 at hw
  intro ls H locs cells slots hv F
  refine lv_goto C.ex C.by d_Cert_purposes_99 rfl ?_
  exact hX31 _ hw _ _ _ _ _ hv F
theorem b_Cert_purposes_75 {p : Program} {l : Launch} {e : Env} {R : Room} {s : State} {m : MethodId} {args : Array Value} {below : List Frame} {meth : Method} {c : Code} {D : DD} {h0 : AH} {Q : AH → Prop} {E : Nat → AH → Prop} {X31 : AH → Prop} (C : fx_CX D y_Cert_purposes prog_2_method_14_code 4 9 124 (none) [] h0 p R s m meth c) (hl : l.flags = flags0) (r0 : Nat) (x2 : Int32) (x3 : Int32) (h : AH) (hX31 : ∀ st, X31 st → ∀ (ls : Array Slot) (H : Heap) (locs : List Loc) (cells slots : Nat), lv_has ls 4 [(0, .ref r0), (2, .int x2)] → fx_F D h0 st H locs cells slots → W p l e R s m args below meth c H locs cells slots (fx_Z D below s h0 (fx_oV Q E)) (F0 m 31 ls [])) (hw : m_Cert_purposes_75 Q E X31 r0 x2 x3 h) : ∀ (ls : Array Slot) (H : Heap) (locs : List Loc) (cells slots : Nat), lv_has ls 4 [(0, .ref r0), (2, .int x2), (3, .int x3)] → fx_F D h0 h H locs cells slots → W p l e R s m args below meth c H locs cells slots (fx_Z D below s h0 (fx_oV Q E)) (F0 m 75 ls []) := by
  unfold m_Cert_purposes_75 at hw
  intro ls H locs cells slots hv F
  refine lv_aload_n C.ex C.by d_Cert_purposes_75 rfl (lv_at hv 0 rfl) ?_
  obtain ⟨hk1, hw⟩ := hw
  obtain ⟨b1, hb1, hw⟩ := hw
  refine fx_getR C F lf_Cert_10 hk1 rfl hb1 d_Cert_purposes_76 ?_
  refine fx_gets C F ls_Cert_222 d_Cert_purposes_79 ?_
  refine lv_iload_n C.ex C.by d_Cert_purposes_82 rfl (lv_at hv 2 rfl) ?_
  obtain ⟨hk2, hw⟩ := hw
  refine fx_callZ C F (c_Rd_is hl hw) hm_Rd_is hi_Rd_is hv.1 (by decide) (Nat.le_of_ble_eq_true rfl) (iv_Rd_is C F lm_Cert_188 hk2 d_Cert_purposes_83) (fx_out0 _) fx_eno (fun v1 h1 H locs cells slots hw hx1 hzb F => ?_)
  replace hw := hw hx1 hzb
  have hk2 := (hx1).k hk2
  have hk1 := (hx1).k hk1
  refine lv_if_eq C.ex C.by d_Cert_purposes_86 rfl (fun hc => ?_) (fun hc => ?_)
  · replace hw := hw.1 hc
    exact b_Cert_purposes_99 C hl _ _ _ hX31 hw _ _ _ _ _ (lv_sub hv [0, 1] rfl) F
  · replace hw := hw.2 hc
    refine lv_aload_n C.ex C.by d_Cert_purposes_89 rfl (lv_at hv 0 rfl) ?_
    refine lv_dup C.ex C.by d_Cert_purposes_90 rfl ?_
    refine fx_getI C F lf_Cert_83 hk1 rfl d_Cert_purposes_91 ?_
    refine lv_iconst (v := (2 : Int32)) C.ex C.by d_Cert_purposes_94 (by decide) ?_
    refine lv_ior C.ex C.by d_Cert_purposes_95 ?_
    let h2 : AH := up_I h1 r0 23 ((hp_I h1 r0 23) ||| (2 : Int32))
    replace hw := hw h2 rfl
    refine fx_putI C F lf_Cert_83 hk1 rfl rfl (fx_mayF.no rfl rfl) d_Cert_purposes_96 (fun H locs (F : fx_F D h0 h2 H locs _ _) => ?_)
    exact b_Cert_purposes_99 C hl _ _ _ hX31 hw _ _ _ _ _ (lv_sub hv [0, 1] rfl) F
theorem b_Cert_purposes_31 {p : Program} {l : Launch} {e : Env} {R : Room} {s : State} {m : MethodId} {args : Array Value} {below : List Frame} {meth : Method} {c : Code} {D : DD} {h0 : AH} {Q : AH → Prop} {E : Nat → AH → Prop} (C : fx_CX D y_Cert_purposes prog_2_method_14_code 4 9 124 (none) [] h0 p R s m meth c) (hl : l.flags = flags0) (r0 : Nat) (x2 : Int32) (h : AH) (hw : m_Cert_purposes_31 Q E r0 x2 h) : ∀ (ls : Array Slot) (H : Heap) (locs : List Loc) (cells slots : Nat), lv_has ls 4 [(0, .ref r0), (2, .int x2)] → fx_F D h0 h H locs cells slots → W p l e R s m args below meth c H locs cells slots (fx_Z D below s h0 (fx_oV Q E)) (F0 m 31 ls []) := by
  refine fx_loop.use hw (fun st => ∀ (ls : Array Slot) (H : Heap) (locs : List Loc) (cells slots : Nat), lv_has ls 4 [(0, .ref r0), (2, .int x2)] → fx_F D h0 st H locs cells slots → W p l e R s m args below meth c H locs cells slots (fx_Z D below s h0 (fx_oV Q E)) (F0 m 31 ls [])) (fun X31 h hX31 hw => ?_)
  replace hw : m_Cert_purposes_31_b Q E X31 r0 x2 h := hw
  unfold m_Cert_purposes_31_b at hw
  intro ls H locs cells slots hv F
  refine lv_aload_n C.ex C.by d_Cert_purposes_31 rfl (lv_at hv 0 rfl) ?_
  obtain ⟨hk1, hw⟩ := hw
  obtain ⟨b1, hb1, hw⟩ := hw
  refine fx_getR C F lf_Cert_10 hk1 rfl hb1 d_Cert_purposes_32 ?_
  obtain ⟨hk2, hw⟩ := hw
  refine fx_getI C F lf_Cert_106 hk2 rfl d_Cert_purposes_35 ?_
  refine lv_iload_n C.ex C.by d_Cert_purposes_38 rfl (lv_at hv 1 rfl) ?_
  refine lv_icmp_ge C.ex C.by d_Cert_purposes_39 rfl (fun hc => ?_) (fun hc => ?_)
  · replace hw := hw.1 hc
    exact fx_vret C F d_Cert_purposes_102 (Or.inl ⟨rfl, hw⟩)
  · replace hw := hw.2 hc
    refine lv_aload_n C.ex C.by d_Cert_purposes_42 rfl (lv_at hv 0 rfl) ?_
    refine fx_getR C F lf_Cert_10 hk1 rfl hb1 d_Cert_purposes_43 ?_
    refine lv_iload_n C.ex C.by d_Cert_purposes_46 rfl (lv_at hv 1 rfl) ?_
    refine fx_callI C F (c_Rd_oid hl hw) hm_Rd_oid hi_Rd_oid hv.1 (by decide) (Nat.le_of_ble_eq_true rfl) (iv_Rd_oid C F lm_Cert_152 hk2 d_Cert_purposes_47) (fx_out0 _) (fun _ _ hE hx => Or.inr ⟨_, rfl, hE hx⟩) (fun v1 h1 H locs cells slots hw hx1 F => ?_)
    replace hw := hw hx1
    have hk2 := (hx1).k hk2
    have hk1 := (hx1).k hk1
    refine lv_istore_n (lv' := [(3, .int v1), (0, .ref r0), (2, .int x2)]) C.ex C.by d_Cert_purposes_50 rfl hv (by decide) rfl (fun ls hv => ?_)
    refine lv_aload_n C.ex C.by d_Cert_purposes_51 rfl (lv_at hv 1 rfl) ?_
    obtain ⟨b2, hb2, hw⟩ := hw
    refine fx_getR C F lf_Cert_10 hk1 rfl hb2 d_Cert_purposes_52 ?_
    refine fx_gets C F ls_Cert_219 d_Cert_purposes_55 ?_
    refine lv_iload_n C.ex C.by d_Cert_purposes_58 rfl (lv_at hv 0 rfl) ?_
    obtain ⟨hk3, hw⟩ := hw
    refine fx_callZ C F (c_Rd_is hl hw) hm_Rd_is hi_Rd_is hv.1 (by decide) (Nat.le_of_ble_eq_true rfl) (iv_Rd_is C F lm_Cert_188 hk3 d_Cert_purposes_59) (fx_out0 _) fx_eno (fun v2 h2 H locs cells slots hw hx2 hzb F => ?_)
    replace hw := hw hx2 hzb
    have hk2 := (hx2).k hk2
    have hk3 := (hx2).k hk3
    have hk1 := (hx2).k hk1
    refine lv_if_eq C.ex C.by d_Cert_purposes_62 rfl (fun hc => ?_) (fun hc => ?_)
    · replace hw := hw.1 hc
      exact b_Cert_purposes_75 C hl _ _ _ _ hX31 hw _ _ _ _ _ (lv_sub hv [1, 2, 0] rfl) F
    · replace hw := hw.2 hc
      refine lv_aload_n C.ex C.by d_Cert_purposes_65 rfl (lv_at hv 1 rfl) ?_
      refine lv_dup C.ex C.by d_Cert_purposes_66 rfl ?_
      refine fx_getI C F lf_Cert_83 hk1 rfl d_Cert_purposes_67 ?_
      refine lv_iconst (v := (1 : Int32)) C.ex C.by d_Cert_purposes_70 (by decide) ?_
      refine lv_ior C.ex C.by d_Cert_purposes_71 ?_
      let h3 : AH := up_I h2 r0 23 ((hp_I h2 r0 23) ||| (1 : Int32))
      replace hw := hw h3 rfl
      refine fx_putI C F lf_Cert_83 hk1 rfl rfl (fx_mayF.no rfl rfl) d_Cert_purposes_72 (fun H locs (F : fx_F D h0 h3 H locs _ _) => ?_)
      exact b_Cert_purposes_75 C hl _ _ _ _ hX31 hw _ _ _ _ _ (lv_sub hv [1, 2, 0] rfl) F
theorem b_Cert_purposes_0 {p : Program} {l : Launch} {e : Env} {R : Room} {s : State} {m : MethodId} {args : Array Value} {below : List Frame} {meth : Method} {c : Code} {D : DD} {h0 : AH} {Q : AH → Prop} {E : Nat → AH → Prop} (C : fx_CX D y_Cert_purposes prog_2_method_14_code 4 9 124 (none) [] h0 p R s m meth c) (hl : l.flags = flags0) (r0 : Nat) (x1 : Int32) (h : AH) (hw : m_Cert_purposes Q E r0 x1 h) : ∀ (ls : Array Slot) (H : Heap) (locs : List Loc) (cells slots : Nat), lv_has ls 4 [(0, .ref r0), (1, .int x1)] → fx_F D h0 h H locs cells slots → W p l e R s m args below meth c H locs cells slots (fx_Z D below s h0 (fx_oV Q E)) (F0 m 0 ls []) := by
  unfold m_Cert_purposes at hw
  intro ls H locs cells slots hv F
  refine lv_aload_n C.ex C.by d_Cert_purposes_0 rfl (lv_at hv 0 rfl) ?_
  obtain ⟨hk1, hw⟩ := hw
  obtain ⟨b1, hb1, hw⟩ := hw
  refine fx_getR C F lf_Cert_10 hk1 rfl hb1 d_Cert_purposes_1 ?_
  refine lv_bipush (v := (48 : Int32)) C.ex C.by d_Cert_purposes_4 (by decide) ?_
  refine lv_iload_n C.ex C.by d_Cert_purposes_6 rfl (lv_at hv 1 rfl) ?_
  obtain ⟨hk2, hw⟩ := hw
  refine fx_callI C F (c_Rd_enter hl hw) hm_Rd_enter hi_Rd_enter hv.1 (by decide) (Nat.le_of_ble_eq_true rfl) (iv_Rd_enter C F lm_Cert_115 hk2 d_Cert_purposes_7) (fx_out0 _) (fun _ _ hE hx => Or.inr ⟨_, rfl, hE hx⟩) (fun v1 h1 H locs cells slots hw hx1 F => ?_)
  replace hw := hw hx1
  have hk2 := (hx1).k hk2
  have hk1 := (hx1).k hk1
  refine lv_istore_n (lv' := [(2, .int v1), (0, .ref r0), (1, .int x1)]) C.ex C.by d_Cert_purposes_10 rfl hv (by decide) rfl (fun ls hv => ?_)
  refine lv_aload_n C.ex C.by d_Cert_purposes_11 rfl (lv_at hv 1 rfl) ?_
  obtain ⟨b2, hb2, hw⟩ := hw
  refine fx_getR C F lf_Cert_10 hk1 rfl hb2 d_Cert_purposes_12 ?_
  obtain ⟨hk3, hw⟩ := hw
  refine fx_getI C F lf_Cert_106 hk3 rfl d_Cert_purposes_15 ?_
  refine lv_iload_n C.ex C.by d_Cert_purposes_18 rfl (lv_at hv 0 rfl) ?_
  refine lv_icmp_ne C.ex C.by d_Cert_purposes_19 rfl (fun hc => ?_) (fun hc => ?_)
  · replace hw := hw.1 hc
    refine lv_aload_n C.ex C.by d_Cert_purposes_26 rfl (lv_at hv 1 rfl) ?_
    refine lv_iconst (v := (0 : Int32)) C.ex C.by d_Cert_purposes_27 (by decide) ?_
    let h2 : AH := up_I h1 r0 23 (0 : Int32)
    replace hw := hw h2 rfl
    refine fx_putI C F lf_Cert_83 hk1 rfl rfl (fx_mayF.no rfl rfl) d_Cert_purposes_28 (fun H locs (F : fx_F D h0 h2 H locs _ _) => ?_)
    exact b_Cert_purposes_31 C hl _ _ _ hw _ _ _ _ _ (lv_sub hv [1, 0] rfl) F
  · replace hw := hw.2 hc
    refine fx_callR C F (c_Rd_bad hl hw) hm_Rd_bad hi_Rd_bad hv.1 (by decide) (Nat.le_of_ble_eq_true rfl) (iv_Rd_bad C F lm_Cert_128 d_Cert_purposes_22) (fx_out0 _) fx_eno (fun q1 h3 H locs cells slots hw hx2 F => ?_)
    replace hw := hw hx2
    have hk2 := (hx2).k hk2
    have hk3 := (hx2).k hk3
    have hk1 := (hx2).k hk1
    exact fx_athrow C F (fx_out0 _) d_Cert_purposes_25 (Or.inr ⟨_, rfl, hw⟩)
theorem hm_Cert_purposes : fx_hd y_Cert_purposes prog_2_method_14_code 4 (none) [] ∈ tables_1 := (fx_m4 (List.mem_of_getElem? (i := 25) rfl))
theorem hi_Cert_purposes : Cond.initialized y_Cert_purposes.cls ∈ tables_1 := (fx_m1 (List.mem_of_getElem? (i := 11) rfl))
theorem c_Cert_purposes {l : Launch} (hl : l.flags = flags0) {D : DD} {Q : AH → Prop} {E : Nat → AH → Prop} {r0 : Nat} {x1 : Int32} {h : AH} (hw : m_Cert_purposes Q E r0 x1 h) : fx_Mt l D y_Cert_purposes (fx_hd y_Cert_purposes prog_2_method_14_code 4 (none) []) 9 124 [.ref r0, .int x1] h (fx_oV Q E) := by
  refine fx_ofW (plainFor_of_name (by decide)) (fun p e s m below meth c C F => ?_)
  have hv := lv_entry ([.ref r0, .int x1]) (n := 4) (Nat.le_of_ble_eq_true rfl)
  rw [lg_entry_eq]
  generalize (lg_sl ([.ref r0, .int x1]) ++ List.replicate (4 - (lg_sl ([.ref r0, .int x1])).length) Slot.unset).toArray = ls at hv ⊢
  have hv : lv_has ls 4 [(0, .ref r0), (1, .int x1)] := hv
  exact b_Cert_purposes_0 C hl _ _ _ hw _ _ _ _ _ hv F
