set_option maxRecDepth 10000
/-! java/util/ArrayList.grow(I)[Ljava/lang/Object;: frames 3, words 47 -/
abbrev y_AL_grow_I : MethodName := ⟨"java/util/ArrayList", "grow", "(I)[Ljava/lang/Object;"⟩
theorem lm_AL_66 : Cond.methodLink "java/util/ArrayList" 66 y_Arrs_copyOf_OI ∈ tables_1 ∨ ∃ host, Cond.methodLinkNest "java/util/ArrayList" 66 y_Arrs_copyOf_OI host ∈ tables_1 := Or.inl (fx_m5 (List.mem_of_getElem? (i := 22) rfl))
theorem lm_AL_73 : Cond.methodLink "java/util/ArrayList" 73 y_ASup_newLength ∈ tables_1 ∨ ∃ host, Cond.methodLinkNest "java/util/ArrayList" 73 y_ASup_newLength host ∈ tables_1 := Or.inl (fx_m5 (List.mem_of_getElem? (i := 14) rfl))
theorem lm_AL_79 : Cond.methodLink "java/util/ArrayList" 79 y_Math_max ∈ tables_1 ∨ ∃ host, Cond.methodLinkNest "java/util/ArrayList" 79 y_Math_max host ∈ tables_1 := Or.inl (fx_m5 (List.mem_of_getElem? (i := 55) rfl))
section
variable {p : Program} {l : Launch} {e : Env} {R : Room} {s : State} {m : MethodId} {args : Array Value} {below : List Frame} {meth : Method} {c : Code} {H : Heap} {locs : List Loc} {cells slots : Nat}
variable {D : DD} {y : MethodName} {cc : ByteArray} {nL kf kw : Nat} {ret : Option FieldType} {hh : List (Nat × Nat × Nat × Nat)} {h0 h : AH} {pc : Nat} {ls : Array Slot} {rest : List Value} {b idx : Nat}
theorem iv_Arrs_copyOf_OI {r0 : Nat} {x1 : Int32} (C : fx_CX D y cc nL kf kw ret hh h0 p R s m meth c) (F : fx_F D h0 h H locs cells slots) (hw1 : Cond.methodLink y.cls idx y_Arrs_copyOf_OI ∈ tables_1 ∨ ∃ host, Cond.methodLinkNest y.cls idx y_Arrs_copyOf_OI host ∈ tables_1) (hd : decode cc pc = .ok (.invokestatic idx, 3)) : fx_IV p l e R s m args below meth c H locs cells slots (F0 m pc ls (.int x1 :: .ref r0 :: rest)) rest y_Arrs_copyOf_OI [.ref r0, .int x1] 3 := fun T hT X => fx_invS (As := [.ref r0, .int x1]) C X hw1 (fx_m5 (List.mem_of_getElem? (i := 23) rfl)) hi_Arrs_copyOf_OI hm_Arrs_copyOf_OI ⟨by decide, by decide⟩ rfl (n := 2) (by decide +kernel) rfl rfl hd
theorem iv_ASup_newLength {x0 : Int32} {x1 : Int32} {x2 : Int32} (C : fx_CX D y cc nL kf kw ret hh h0 p R s m meth c) (F : fx_F D h0 h H locs cells slots) (hw1 : Cond.methodLink y.cls idx y_ASup_newLength ∈ tables_1 ∨ ∃ host, Cond.methodLinkNest y.cls idx y_ASup_newLength host ∈ tables_1) (hd : decode cc pc = .ok (.invokestatic idx, 3)) : fx_IV p l e R s m args below meth c H locs cells slots (F0 m pc ls (.int x2 :: .int x1 :: .int x0 :: rest)) rest y_ASup_newLength [.int x0, .int x1, .int x2] 3 := fun T hT X => fx_invS (As := [.int x0, .int x1, .int x2]) C X hw1 (fx_m5 (List.mem_of_getElem? (i := 15) rfl)) hi_ASup_newLength hm_ASup_newLength ⟨by decide, by decide⟩ rfl (n := 3) (by decide +kernel) rfl rfl hd
end
def dl_AL_grow_I : List (Nat × Instr × Nat) := [(0, .aload_n 0, 1), (1, .getfield 9, 3), (4, .arraylength, 1), (5, .istore_n 2, 1), (6, .iload_n 2, 1), (7, .ifCond .gt 13, 3), (10, .aload_n 0, 1), (11, .getfield 9, 3), (14, .getstatic 39, 3), (17, .if_acmp .eq 28, 3), (20, .iload_n 2, 1), (21, .iload_n 1, 1), (22, .iload_n 2, 1), (23, .isub, 1), (24, .iload_n 2, 1), (25, .iconst 1, 1), (26, .ishr, 1), (27, .invokestatic 73, 3), (30, .istore_n 3, 1), (31, .aload_n 0, 1), (32, .aload_n 0, 1), (33, .getfield 9, 3), (36, .iload_n 3, 1), (37, .invokestatic 66, 3), (40, .dup_x1, 1), (41, .putfield 9, 3), (44, .areturn, 1), (45, .aload_n 0, 1), (46, .bipush 10, 2), (48, .iload_n 1, 1), (49, .invokestatic 79, 3), (52, .anewarray 7, 3), (55, .dup_x1, 1), (56, .putfield 9, 3), (59, .areturn, 1)]
theorem dk_AL_grow_I : fx_dec prog_31_method_6_code dl_AL_grow_I = true := by decide +kernel
theorem d_AL_grow_I_0 : decode prog_31_method_6_code 0 = .ok (.aload_n 0, 1) := fx_dat dk_AL_grow_I 0 rfl
theorem d_AL_grow_I_1 : decode prog_31_method_6_code 1 = .ok (.getfield 9, 3) := fx_dat dk_AL_grow_I 1 rfl
theorem d_AL_grow_I_4 : decode prog_31_method_6_code 4 = .ok (.arraylength, 1) := fx_dat dk_AL_grow_I 2 rfl
theorem d_AL_grow_I_5 : decode prog_31_method_6_code 5 = .ok (.istore_n 2, 1) := fx_dat dk_AL_grow_I 3 rfl
theorem d_AL_grow_I_6 : decode prog_31_method_6_code 6 = .ok (.iload_n 2, 1) := fx_dat dk_AL_grow_I 4 rfl
theorem d_AL_grow_I_7 : decode prog_31_method_6_code 7 = .ok (.ifCond .gt 13, 3) := fx_dat dk_AL_grow_I 5 rfl
theorem d_AL_grow_I_10 : decode prog_31_method_6_code 10 = .ok (.aload_n 0, 1) := fx_dat dk_AL_grow_I 6 rfl
theorem d_AL_grow_I_11 : decode prog_31_method_6_code 11 = .ok (.getfield 9, 3) := fx_dat dk_AL_grow_I 7 rfl
theorem d_AL_grow_I_14 : decode prog_31_method_6_code 14 = .ok (.getstatic 39, 3) := fx_dat dk_AL_grow_I 8 rfl
theorem d_AL_grow_I_17 : decode prog_31_method_6_code 17 = .ok (.if_acmp .eq 28, 3) := fx_dat dk_AL_grow_I 9 rfl
theorem d_AL_grow_I_20 : decode prog_31_method_6_code 20 = .ok (.iload_n 2, 1) := fx_dat dk_AL_grow_I 10 rfl
theorem d_AL_grow_I_21 : decode prog_31_method_6_code 21 = .ok (.iload_n 1, 1) := fx_dat dk_AL_grow_I 11 rfl
theorem d_AL_grow_I_22 : decode prog_31_method_6_code 22 = .ok (.iload_n 2, 1) := fx_dat dk_AL_grow_I 12 rfl
theorem d_AL_grow_I_23 : decode prog_31_method_6_code 23 = .ok (.isub, 1) := fx_dat dk_AL_grow_I 13 rfl
theorem d_AL_grow_I_24 : decode prog_31_method_6_code 24 = .ok (.iload_n 2, 1) := fx_dat dk_AL_grow_I 14 rfl
theorem d_AL_grow_I_25 : decode prog_31_method_6_code 25 = .ok (.iconst 1, 1) := fx_dat dk_AL_grow_I 15 rfl
theorem d_AL_grow_I_26 : decode prog_31_method_6_code 26 = .ok (.ishr, 1) := fx_dat dk_AL_grow_I 16 rfl
theorem d_AL_grow_I_27 : decode prog_31_method_6_code 27 = .ok (.invokestatic 73, 3) := fx_dat dk_AL_grow_I 17 rfl
theorem d_AL_grow_I_30 : decode prog_31_method_6_code 30 = .ok (.istore_n 3, 1) := fx_dat dk_AL_grow_I 18 rfl
theorem d_AL_grow_I_31 : decode prog_31_method_6_code 31 = .ok (.aload_n 0, 1) := fx_dat dk_AL_grow_I 19 rfl
theorem d_AL_grow_I_32 : decode prog_31_method_6_code 32 = .ok (.aload_n 0, 1) := fx_dat dk_AL_grow_I 20 rfl
theorem d_AL_grow_I_33 : decode prog_31_method_6_code 33 = .ok (.getfield 9, 3) := fx_dat dk_AL_grow_I 21 rfl
theorem d_AL_grow_I_36 : decode prog_31_method_6_code 36 = .ok (.iload_n 3, 1) := fx_dat dk_AL_grow_I 22 rfl
theorem d_AL_grow_I_37 : decode prog_31_method_6_code 37 = .ok (.invokestatic 66, 3) := fx_dat dk_AL_grow_I 23 rfl
theorem d_AL_grow_I_40 : decode prog_31_method_6_code 40 = .ok (.dup_x1, 1) := fx_dat dk_AL_grow_I 24 rfl
theorem d_AL_grow_I_41 : decode prog_31_method_6_code 41 = .ok (.putfield 9, 3) := fx_dat dk_AL_grow_I 25 rfl
theorem d_AL_grow_I_44 : decode prog_31_method_6_code 44 = .ok (.areturn, 1) := fx_dat dk_AL_grow_I 26 rfl
theorem d_AL_grow_I_45 : decode prog_31_method_6_code 45 = .ok (.aload_n 0, 1) := fx_dat dk_AL_grow_I 27 rfl
theorem d_AL_grow_I_46 : decode prog_31_method_6_code 46 = .ok (.bipush 10, 2) := fx_dat dk_AL_grow_I 28 rfl
theorem d_AL_grow_I_48 : decode prog_31_method_6_code 48 = .ok (.iload_n 1, 1) := fx_dat dk_AL_grow_I 29 rfl
theorem d_AL_grow_I_49 : decode prog_31_method_6_code 49 = .ok (.invokestatic 79, 3) := fx_dat dk_AL_grow_I 30 rfl
theorem d_AL_grow_I_52 : decode prog_31_method_6_code 52 = .ok (.anewarray 7, 3) := fx_dat dk_AL_grow_I 31 rfl
theorem d_AL_grow_I_55 : decode prog_31_method_6_code 55 = .ok (.dup_x1, 1) := fx_dat dk_AL_grow_I 32 rfl
theorem d_AL_grow_I_56 : decode prog_31_method_6_code 56 = .ok (.putfield 9, 3) := fx_dat dk_AL_grow_I 33 rfl
theorem d_AL_grow_I_59 : decode prog_31_method_6_code 59 = .ok (.areturn, 1) := fx_dat dk_AL_grow_I 34 rfl
def m_AL_grow_I_20 (Q : Nat → AH → Prop) (r0 : Nat) (x1 : Int32) (x2 : Int32) (h : AH) : Prop := m_ASup_newLength (fun v1 h1 => fx_ext h h1 → hp_k h1 r0 = 12 ∧ ∃ b1, hp_R h1 r0 0 = some b1 ∧ m_Arrs_copyOf_OI (fun q1 h2 => fx_ext h1 h2 → ∀ h3 : AH, h3 = up_R h2 r0 0 (some q1) → Q q1 h3) b1 v1 h1) x2 (x1 - x2) (x2 >>> ((1 : Int32) &&& 31)) h
def m_AL_grow_I (Q : Nat → AH → Prop) (r0 : Nat) (x1 : Int32) (h : AH) : Prop := hp_k h r0 = 12 ∧ ∃ b1, hp_R h r0 0 = some b1 ∧ ok (hp_k h b1) ∧ ∀ v1 : Int32, v1 = (nI (hp_n h b1)) → (0 < v1 → m_AL_grow_I_20 Q r0 x1 v1 h) ∧ (¬ 0 < v1 → ((some b1) = (some (hp_c h 11)) → m_Math_max (fun v2 h1 => fx_ext h h1 → ¬ v2 < 0 ∧ (v2).toNatClampNeg * 4 ≤ 536870912 ∧ fx_has h1 (v2).toNatClampNeg ∧ ∀ (_ : fx_wf h1) (q1 : Nat), q1 = hp_z h1 → ∀ h2 : AH, h2 = up_N h1 104 (v2).toNatClampNeg (v2).toNatClampNeg → ∀ h3 : AH, h3 = up_R h2 r0 0 (some q1) → Q q1 h3) (10 : Int32) x1 h) ∧ (¬ (some b1) = (some (hp_c h 11)) → m_AL_grow_I_20 Q r0 x1 v1 h))
theorem b_AL_grow_I_20 {p : Program} {l : Launch} {e : Env} {R : Room} {s : State} {m : MethodId} {args : Array Value} {below : List Frame} {meth : Method} {c : Code} {D : DD} {h0 : AH} {Q : Nat → AH → Prop} (C : fx_CX D y_AL_grow_I prog_31_method_6_code 4 3 47 (Option.some (FieldType.array (FieldType.object "java/lang/Object"))) [] h0 p R s m meth c) (hl : l.flags = flags0) (r0 : Nat) (x1 : Int32) (x2 : Int32) (h : AH) (hw : m_AL_grow_I_20 Q r0 x1 x2 h) : ∀ (ls : Array Slot) (H : Heap) (locs : List Loc) (cells slots : Nat), lv_has ls 4 [(0, .ref r0), (1, .int x1), (2, .int x2)] → fx_F D h0 h H locs cells slots → W p l e R s m args below meth c H locs cells slots (fx_Z D below s h0 (fx_oR Q fx_no)) (F0 m 20 ls []) := by
  unfold m_AL_grow_I_20 at hw
  intro ls H locs cells slots hv F
  refine lv_iload_n C.ex C.by d_AL_grow_I_20 rfl (lv_at hv 2 rfl) ?_
  refine lv_iload_n C.ex C.by d_AL_grow_I_21 rfl (lv_at hv 1 rfl) ?_
  refine lv_iload_n C.ex C.by d_AL_grow_I_22 rfl (lv_at hv 2 rfl) ?_
  refine lv_isub C.ex C.by d_AL_grow_I_23 ?_
  refine lv_iload_n C.ex C.by d_AL_grow_I_24 rfl (lv_at hv 2 rfl) ?_
  refine lv_iconst (v := (1 : Int32)) C.ex C.by d_AL_grow_I_25 (by decide) ?_
  refine lv_ishr C.ex C.by d_AL_grow_I_26 ?_
  refine fx_callI C F (c_ASup_newLength hl hw) hm_ASup_newLength hi_ASup_newLength hv.1 (by decide) (Nat.le_of_ble_eq_true rfl) (iv_ASup_newLength C F lm_AL_73 d_AL_grow_I_27) (fx_out0 _) fx_eno (fun v1 h1 H locs cells slots hw hx1 F => ?_)
  replace hw := hw hx1
  refine lv_istore_n (lv' := [(3, .int v1), (0, .ref r0), (1, .int x1), (2, .int x2)]) C.ex C.by d_AL_grow_I_30 rfl hv (by decide) rfl (fun ls hv => ?_)
  refine lv_aload_n C.ex C.by d_AL_grow_I_31 rfl (lv_at hv 1 rfl) ?_
  refine lv_aload_n C.ex C.by d_AL_grow_I_32 rfl (lv_at hv 1 rfl) ?_
  obtain ⟨hk1, hw⟩ := hw
  obtain ⟨b1, hb1, hw⟩ := hw
  refine fx_getR C F lf_AL_9 hk1 rfl hb1 d_AL_grow_I_33 ?_
  refine lv_iload_n C.ex C.by d_AL_grow_I_36 rfl (lv_at hv 0 rfl) ?_
  refine fx_callR C F (c_Arrs_copyOf_OI hl hw) hm_Arrs_copyOf_OI hi_Arrs_copyOf_OI hv.1 (by decide) (Nat.le_of_ble_eq_true rfl) (iv_Arrs_copyOf_OI C F lm_AL_66 d_AL_grow_I_37) (fx_out0 _) fx_eno (fun q1 h2 H locs cells slots hw hx2 F => ?_)
  replace hw := hw hx2
  have hk1 := (hx2).k hk1
  refine lv_dup_x1 C.ex C.by d_AL_grow_I_40 rfl rfl ?_
  let h3 : AH := up_R h2 r0 0 (some q1)
  replace hw := hw h3 rfl
  refine fx_putR C F lf_AL_9 hk1 rfl rfl (fx_mayF.no rfl rfl) d_AL_grow_I_41 (fun H locs (F : fx_F D h0 h3 H locs _ _) => ?_)
  exact fx_aret C F (Or.inr ⟨_, rfl⟩) d_AL_grow_I_44 (Or.inl ⟨_, rfl, hw⟩)
theorem b_AL_grow_I_0 {p : Program} {l : Launch} {e : Env} {R : Room} {s : State} {m : MethodId} {args : Array Value} {below : List Frame} {meth : Method} {c : Code} {D : DD} {h0 : AH} {Q : Nat → AH → Prop} (C : fx_CX D y_AL_grow_I prog_31_method_6_code 4 3 47 (Option.some (FieldType.array (FieldType.object "java/lang/Object"))) [] h0 p R s m meth c) (hl : l.flags = flags0) (r0 : Nat) (x1 : Int32) (h : AH) (hw : m_AL_grow_I Q r0 x1 h) : ∀ (ls : Array Slot) (H : Heap) (locs : List Loc) (cells slots : Nat), lv_has ls 4 [(0, .ref r0), (1, .int x1)] → fx_F D h0 h H locs cells slots → W p l e R s m args below meth c H locs cells slots (fx_Z D below s h0 (fx_oR Q fx_no)) (F0 m 0 ls []) := by
  unfold m_AL_grow_I at hw
  intro ls H locs cells slots hv F
  refine lv_aload_n C.ex C.by d_AL_grow_I_0 rfl (lv_at hv 0 rfl) ?_
  obtain ⟨hk1, hw⟩ := hw
  obtain ⟨b1, hb1, hw⟩ := hw
  refine fx_getR C F lf_AL_9 hk1 rfl hb1 d_AL_grow_I_1 ?_
  obtain ⟨hk2, hw⟩ := hw
  refine fx_alen C F hk2.gt d_AL_grow_I_4 ?_
  let v1 : Int32 := (nI (hp_n h b1))
  replace hw := hw v1 rfl
  refine lv_istore_n (lv' := [(2, .int v1), (0, .ref r0), (1, .int x1)]) C.ex C.by d_AL_grow_I_5 rfl hv (by decide) rfl (fun ls hv => ?_)
  refine lv_iload_n C.ex C.by d_AL_grow_I_6 rfl (lv_at hv 0 rfl) ?_
  refine lv_if_gt C.ex C.by d_AL_grow_I_7 rfl (fun hc => ?_) (fun hc => ?_)
  · replace hw := hw.1 hc
    exact b_AL_grow_I_20 C hl _ _ _ _ hw _ _ _ _ _ (lv_sub hv [1, 2, 0] rfl) F
  · replace hw := hw.2 hc
    refine lv_aload_n C.ex C.by d_AL_grow_I_10 rfl (lv_at hv 1 rfl) ?_
    refine fx_getR C F lf_AL_9 hk1 rfl hb1 d_AL_grow_I_11 ?_
    refine fx_gets C F ls_AL_39 d_AL_grow_I_14 ?_
    refine lv_acmp_eq (rx := (some b1)) (ry := (some (hp_c h 11))) C.ex C.by d_AL_grow_I_17 rfl (fun hc => ?_) (fun hc => ?_)
    · replace hw := hw.1 hc
      refine lv_aload_n C.ex C.by d_AL_grow_I_45 rfl (lv_at hv 1 rfl) ?_
      refine lv_bipush (v := (10 : Int32)) C.ex C.by d_AL_grow_I_46 (by decide) ?_
      refine lv_iload_n C.ex C.by d_AL_grow_I_48 rfl (lv_at hv 2 rfl) ?_
      refine fx_callI C F (c_Math_max hl hw) hm_Math_max hi_Math_max hv.1 (by decide) (Nat.le_of_ble_eq_true rfl) (iv_Math_max C F lm_AL_79 d_AL_grow_I_49) (fx_out0 _) fx_eno (fun v2 h1 H locs cells slots hw hx1 F => ?_)
      replace hw := hw hx1
      have hk2 := (hx1).go hk2
      have hk1 := (hx1).k hk1
      obtain ⟨hn0, hn1, hs, hw⟩ := hw
      let q1 : Nat := hp_z h1
      let h2 : AH := up_N h1 104 (v2).toNatClampNeg (v2).toNatClampNeg
      replace hw := hw F.wf q1 rfl h2 rfl
      have hk2 := (F.xN (k := 104) (n := (v2).toNatClampNeg) (m := (v2).toNatClampNeg)).go hk2
      have hk1 := (F.xN (k := 104) (n := (v2).toNatClampNeg) (m := (v2).toNatClampNeg)).k hk1
      have hkq1 : hp_k h2 q1 = 104 := fx_nk _ _ _ _
      refine fx_anewO  C F (fx_m5 (List.mem_of_getElem? (i := 56) rfl)) (fx_m5 (List.mem_of_getElem? (i := 51) rfl)) hn0 hn1 hs d_AL_grow_I_52 (fun H cells slots (F : fx_F D h0 h2 H locs cells slots) => ?_)
      refine lv_dup_x1 C.ex C.by d_AL_grow_I_55 rfl rfl ?_
      let h3 : AH := up_R h2 r0 0 (some q1)
      replace hw := hw h3 rfl
      refine fx_putR C F lf_AL_9 hk1 rfl rfl (fx_mayF.no rfl rfl) d_AL_grow_I_56 (fun H locs (F : fx_F D h0 h3 H locs _ _) => ?_)
      exact fx_aret C F (Or.inr ⟨_, rfl⟩) d_AL_grow_I_59 (Or.inl ⟨_, rfl, hw⟩)
    · replace hw := hw.2 hc
      exact b_AL_grow_I_20 C hl _ _ _ _ hw _ _ _ _ _ (lv_sub hv [1, 2, 0] rfl) F
theorem hm_AL_grow_I : fx_hd y_AL_grow_I prog_31_method_6_code 4 (Option.some (FieldType.array (FieldType.object "java/lang/Object"))) [] ∈ tables_1 := (fx_m5 (List.mem_of_getElem? (i := 13) rfl))
theorem hi_AL_grow_I : Cond.initialized y_AL_grow_I.cls ∈ tables_1 := (fx_m1 (List.mem_of_getElem? (i := 5) rfl))
theorem c_AL_grow_I {l : Launch} (hl : l.flags = flags0) {D : DD} {Q : Nat → AH → Prop} {r0 : Nat} {x1 : Int32} {h : AH} (hw : m_AL_grow_I Q r0 x1 h) : fx_Mt l D y_AL_grow_I (fx_hd y_AL_grow_I prog_31_method_6_code 4 (Option.some (FieldType.array (FieldType.object "java/lang/Object"))) []) 3 47 [.ref r0, .int x1] h (fx_oR Q fx_no) := by
  refine fx_ofW (by decide +kernel) (fun p e s m below meth c C F => ?_)
  have hv := lv_entry ([.ref r0, .int x1]) (n := 4) (Nat.le_of_ble_eq_true rfl)
  rw [lg_entry_eq]
  generalize (lg_sl ([.ref r0, .int x1]) ++ List.replicate (4 - (lg_sl ([.ref r0, .int x1])).length) Slot.unset).toArray = ls at hv ⊢
  have hv : lv_has ls 4 [(0, .ref r0), (1, .int x1)] := hv
  exact b_AL_grow_I_0 C hl _ _ _ hw _ _ _ _ _ hv F
/-! java/util/ArrayList.grow()[Ljava/lang/Object;: frames 4, words 62 -/
abbrev y_AL_grow_ : MethodName := ⟨"java/util/ArrayList", "grow", "()[Ljava/lang/Object;"⟩
theorem lm_AL_69 : Cond.methodLink "java/util/ArrayList" 69 y_AL_grow_I ∈ tables_1 ∨ ∃ host, Cond.methodLinkNest "java/util/ArrayList" 69 y_AL_grow_I host ∈ tables_1 := Or.inl (fx_m5 (List.mem_of_getElem? (i := 10) rfl))
section
variable {p : Program} {l : Launch} {e : Env} {R : Room} {s : State} {m : MethodId} {args : Array Value} {below : List Frame} {meth : Method} {c : Code} {H : Heap} {locs : List Loc} {cells slots : Nat}
variable {D : DD} {y : MethodName} {cc : ByteArray} {nL kf kw : Nat} {ret : Option FieldType} {hh : List (Nat × Nat × Nat × Nat)} {h0 h : AH} {pc : Nat} {ls : Array Slot} {rest : List Value} {b idx : Nat}
theorem iv_AL_grow_I {x1 : Int32} (C : fx_CX D y cc nL kf kw ret hh h0 p R s m meth c) (F : fx_F D h0 h H locs cells slots) (hw1 : Cond.methodLink y.cls idx y_AL_grow_I ∈ tables_1 ∨ ∃ host, Cond.methodLinkNest y.cls idx y_AL_grow_I host ∈ tables_1) (hk : hp_k h b = 12) (hd : decode cc pc = .ok (.invokevirtual idx, 3)) : fx_IV p l e R s m args below meth c H locs cells slots (F0 m pc ls (.int x1 :: .ref b :: rest)) rest y_AL_grow_I [.ref b, .int x1] 3 := fun T hT X => fx_invV (As := [.int x1]) (Cn := "java/util/ArrayList") C X hw1 (fx_m5 (List.mem_of_getElem? (i := 12) rfl)) (fx_selP C ⟨by decide, by decide⟩ (fx_m1 (List.mem_of_getElem? (i := 59) rfl)) (fx_m5 (List.mem_of_getElem? (i := 11) rfl)) (fx_m5 (List.mem_of_getElem? (i := 12) rfl))) hm_AL_grow_I ⟨by decide, by decide⟩ (by rw [hT]; exact fx_clsO (ci := 11) (r := ("java/util/ArrayList", fx_T11, 3)) C F rfl (by decide) hk) rfl (n := 1) (by decide +kernel) rfl rfl hd
end
def dl_AL_grow_ : List (Nat × Instr × Nat) := [(0, .aload_n 0, 1), (1, .aload_n 0, 1), (2, .getfield 48, 3), (5, .iconst 1, 1), (6, .iadd, 1), (7, .invokevirtual 69, 3), (10, .areturn, 1)]
theorem dk_AL_grow_ : fx_dec prog_31_method_7_code dl_AL_grow_ = true := by decide +kernel
theorem d_AL_grow__0 : decode prog_31_method_7_code 0 = .ok (.aload_n 0, 1) := fx_dat dk_AL_grow_ 0 rfl
theorem d_AL_grow__1 : decode prog_31_method_7_code 1 = .ok (.aload_n 0, 1) := fx_dat dk_AL_grow_ 1 rfl
theorem d_AL_grow__2 : decode prog_31_method_7_code 2 = .ok (.getfield 48, 3) := fx_dat dk_AL_grow_ 2 rfl
theorem d_AL_grow__5 : decode prog_31_method_7_code 5 = .ok (.iconst 1, 1) := fx_dat dk_AL_grow_ 3 rfl
theorem d_AL_grow__6 : decode prog_31_method_7_code 6 = .ok (.iadd, 1) := fx_dat dk_AL_grow_ 4 rfl
theorem d_AL_grow__7 : decode prog_31_method_7_code 7 = .ok (.invokevirtual 69, 3) := fx_dat dk_AL_grow_ 5 rfl
theorem d_AL_grow__10 : decode prog_31_method_7_code 10 = .ok (.areturn, 1) := fx_dat dk_AL_grow_ 6 rfl
def m_AL_grow_ (Q : Nat → AH → Prop) (r0 : Nat) (h : AH) : Prop := hp_k h r0 = 12 ∧ m_AL_grow_I (fun q1 h1 => fx_ext h h1 → Q q1 h1) r0 ((hp_I h r0 1) + (1 : Int32)) h
theorem b_AL_grow__0 {p : Program} {l : Launch} {e : Env} {R : Room} {s : State} {m : MethodId} {args : Array Value} {below : List Frame} {meth : Method} {c : Code} {D : DD} {h0 : AH} {Q : Nat → AH → Prop} (C : fx_CX D y_AL_grow_ prog_31_method_7_code 1 4 62 (Option.some (FieldType.array (FieldType.object "java/lang/Object"))) [] h0 p R s m meth c) (hl : l.flags = flags0) (r0 : Nat) (h : AH) (hw : m_AL_grow_ Q r0 h) : ∀ (ls : Array Slot) (H : Heap) (locs : List Loc) (cells slots : Nat), lv_has ls 1 [(0, .ref r0)] → fx_F D h0 h H locs cells slots → W p l e R s m args below meth c H locs cells slots (fx_Z D below s h0 (fx_oR Q fx_no)) (F0 m 0 ls []) := by
  unfold m_AL_grow_ at hw
  intro ls H locs cells slots hv F
  refine lv_aload_n C.ex C.by d_AL_grow__0 rfl (lv_at hv 0 rfl) ?_
  refine lv_aload_n C.ex C.by d_AL_grow__1 rfl (lv_at hv 0 rfl) ?_
  obtain ⟨hk1, hw⟩ := hw
  refine fx_getI C F lf_AL_48 hk1 rfl d_AL_grow__2 ?_
  refine lv_iconst (v := (1 : Int32)) C.ex C.by d_AL_grow__5 (by decide) ?_
  refine lv_iadd C.ex C.by d_AL_grow__6 ?_
  refine fx_callR C F (c_AL_grow_I hl hw) hm_AL_grow_I hi_AL_grow_I hv.1 (by decide) (Nat.le_of_ble_eq_true rfl) (iv_AL_grow_I C F lm_AL_69 hk1 d_AL_grow__7) (fx_out0 _) fx_eno (fun q1 h1 H locs cells slots hw hx1 F => ?_)
  replace hw := hw hx1
  have hk1 := (hx1).k hk1
  exact fx_aret C F (Or.inr ⟨_, rfl⟩) d_AL_grow__10 (Or.inl ⟨_, rfl, hw⟩)
theorem hm_AL_grow_ : fx_hd y_AL_grow_ prog_31_method_7_code 1 (Option.some (FieldType.array (FieldType.object "java/lang/Object"))) [] ∈ tables_1 := (fx_m5 (List.mem_of_getElem? (i := 9) rfl))
theorem hi_AL_grow_ : Cond.initialized y_AL_grow_.cls ∈ tables_1 := (fx_m1 (List.mem_of_getElem? (i := 5) rfl))
theorem c_AL_grow_ {l : Launch} (hl : l.flags = flags0) {D : DD} {Q : Nat → AH → Prop} {r0 : Nat} {h : AH} (hw : m_AL_grow_ Q r0 h) : fx_Mt l D y_AL_grow_ (fx_hd y_AL_grow_ prog_31_method_7_code 1 (Option.some (FieldType.array (FieldType.object "java/lang/Object"))) []) 4 62 [.ref r0] h (fx_oR Q fx_no) := by
  refine fx_ofW (by decide +kernel) (fun p e s m below meth c C F => ?_)
  have hv := lv_entry ([.ref r0]) (n := 1) (Nat.le_of_ble_eq_true rfl)
  rw [lg_entry_eq]
  generalize (lg_sl ([.ref r0]) ++ List.replicate (1 - (lg_sl ([.ref r0])).length) Slot.unset).toArray = ls at hv ⊢
  have hv : lv_has ls 1 [(0, .ref r0)] := hv
  exact b_AL_grow__0 C hl _ _ hw _ _ _ _ _ hv F
/-! java/util/ArrayList.add(Ljava/lang/Object;[Ljava/lang/Object;I)V: frames 5, words 74 -/
abbrev y_AL_add_OOI : MethodName := ⟨"java/util/ArrayList", "add", "(Ljava/lang/Object;[Ljava/lang/Object;I)V"⟩
theorem lm_AL_129 : Cond.methodLink "java/util/ArrayList" 129 y_AL_grow_ ∈ tables_1 ∨ ∃ host, Cond.methodLinkNest "java/util/ArrayList" 129 y_AL_grow_ host ∈ tables_1 := Or.inl (fx_m5 (List.mem_of_getElem? (i := 6) rfl))
section
variable {p : Program} {l : Launch} {e : Env} {R : Room} {s : State} {m : MethodId} {args : Array Value} {below : List Frame} {meth : Method} {c : Code} {H : Heap} {locs : List Loc} {cells slots : Nat}
variable {D : DD} {y : MethodName} {cc : ByteArray} {nL kf kw : Nat} {ret : Option FieldType} {hh : List (Nat × Nat × Nat × Nat)} {h0 h : AH} {pc : Nat} {ls : Array Slot} {rest : List Value} {b idx : Nat}
theorem iv_AL_grow_ (C : fx_CX D y cc nL kf kw ret hh h0 p R s m meth c) (F : fx_F D h0 h H locs cells slots) (hw1 : Cond.methodLink y.cls idx y_AL_grow_ ∈ tables_1 ∨ ∃ host, Cond.methodLinkNest y.cls idx y_AL_grow_ host ∈ tables_1) (hk : hp_k h b = 12) (hd : decode cc pc = .ok (.invokevirtual idx, 3)) : fx_IV p l e R s m args below meth c H locs cells slots (F0 m pc ls (.ref b :: rest)) rest y_AL_grow_ [.ref b] 3 := fun T hT X => fx_invV (As := []) (Cn := "java/util/ArrayList") C X hw1 (fx_m5 (List.mem_of_getElem? (i := 8) rfl)) (fx_selP C ⟨by decide, by decide⟩ (fx_m1 (List.mem_of_getElem? (i := 59) rfl)) (fx_m5 (List.mem_of_getElem? (i := 7) rfl)) (fx_m5 (List.mem_of_getElem? (i := 8) rfl))) hm_AL_grow_ ⟨by decide, by decide⟩ (by rw [hT]; exact fx_clsO (ci := 11) (r := ("java/util/ArrayList", fx_T11, 3)) C F rfl (by decide) hk) rfl (n := 0) (by decide +kernel) rfl rfl hd
end
def dl_AL_add_OOI : List (Nat × Instr × Nat) := [(0, .iload_n 3, 1), (1, .aload_n 2, 1), (2, .arraylength, 1), (3, .if_icmp .ne 8, 3), (6, .aload_n 0, 1), (7, .invokevirtual 129, 3), (10, .astore_n 2, 1), (11, .aload_n 2, 1), (12, .iload_n 3, 1), (13, .aload_n 1, 1), (14, .aastore, 1), (15, .aload_n 0, 1), (16, .iload_n 3, 1), (17, .iconst 1, 1), (18, .iadd, 1), (19, .putfield 48, 3), (22, .return_, 1)]
theorem dk_AL_add_OOI : fx_dec prog_31_method_24_code dl_AL_add_OOI = true := by decide +kernel
theorem d_AL_add_OOI_0 : decode prog_31_method_24_code 0 = .ok (.iload_n 3, 1) := fx_dat dk_AL_add_OOI 0 rfl
theorem d_AL_add_OOI_1 : decode prog_31_method_24_code 1 = .ok (.aload_n 2, 1) := fx_dat dk_AL_add_OOI 1 rfl
theorem d_AL_add_OOI_2 : decode prog_31_method_24_code 2 = .ok (.arraylength, 1) := fx_dat dk_AL_add_OOI 2 rfl
theorem d_AL_add_OOI_3 : decode prog_31_method_24_code 3 = .ok (.if_icmp .ne 8, 3) := fx_dat dk_AL_add_OOI 3 rfl
theorem d_AL_add_OOI_6 : decode prog_31_method_24_code 6 = .ok (.aload_n 0, 1) := fx_dat dk_AL_add_OOI 4 rfl
theorem d_AL_add_OOI_7 : decode prog_31_method_24_code 7 = .ok (.invokevirtual 129, 3) := fx_dat dk_AL_add_OOI 5 rfl
theorem d_AL_add_OOI_10 : decode prog_31_method_24_code 10 = .ok (.astore_n 2, 1) := fx_dat dk_AL_add_OOI 6 rfl
theorem d_AL_add_OOI_11 : decode prog_31_method_24_code 11 = .ok (.aload_n 2, 1) := fx_dat dk_AL_add_OOI 7 rfl
theorem d_AL_add_OOI_12 : decode prog_31_method_24_code 12 = .ok (.iload_n 3, 1) := fx_dat dk_AL_add_OOI 8 rfl
theorem d_AL_add_OOI_13 : decode prog_31_method_24_code 13 = .ok (.aload_n 1, 1) := fx_dat dk_AL_add_OOI 9 rfl
theorem d_AL_add_OOI_14 : decode prog_31_method_24_code 14 = .ok (.aastore, 1) := fx_dat dk_AL_add_OOI 10 rfl
theorem d_AL_add_OOI_15 : decode prog_31_method_24_code 15 = .ok (.aload_n 0, 1) := fx_dat dk_AL_add_OOI 11 rfl
theorem d_AL_add_OOI_16 : decode prog_31_method_24_code 16 = .ok (.iload_n 3, 1) := fx_dat dk_AL_add_OOI 12 rfl
theorem d_AL_add_OOI_17 : decode prog_31_method_24_code 17 = .ok (.iconst 1, 1) := fx_dat dk_AL_add_OOI 13 rfl
theorem d_AL_add_OOI_18 : decode prog_31_method_24_code 18 = .ok (.iadd, 1) := fx_dat dk_AL_add_OOI 14 rfl
theorem d_AL_add_OOI_19 : decode prog_31_method_24_code 19 = .ok (.putfield 48, 3) := fx_dat dk_AL_add_OOI 15 rfl
theorem d_AL_add_OOI_22 : decode prog_31_method_24_code 22 = .ok (.return_, 1) := fx_dat dk_AL_add_OOI 16 rfl
def m_AL_add_OOI_11 (Q : AH → Prop) (r0 : Nat) (r1 : Nat) (r2 : Nat) (x3 : Int32) (h : AH) : Prop := hp_k h r2 = 104 ∧ vp_in x3 (hp_n h r2) ∧ (hp_k h r1 = 3 ∨ hp_k h r1 = 8) ∧ ∀ h1 : AH, h1 = up_R h r2 (x3).toNatClampNeg (some r1) → hp_k h1 r0 = 12 ∧ ∀ h2 : AH, h2 = up_I h1 r0 1 (x3 + (1 : Int32)) → Q h2
def m_AL_add_OOI (Q : AH → Prop) (r0 : Nat) (r1 : Nat) (r2 : Nat) (x3 : Int32) (h : AH) : Prop := ok (hp_k h r2) ∧ (¬ x3 = (nI (hp_n h r2)) → m_AL_add_OOI_11 Q r0 r1 r2 x3 h) ∧ (x3 = (nI (hp_n h r2)) → hp_k h r0 = 12 ∧ m_AL_grow_ (fun q1 h1 => fx_ext h h1 → m_AL_add_OOI_11 Q r0 r1 q1 x3 h1) r0 h)
theorem b_AL_add_OOI_11 {p : Program} {l : Launch} {e : Env} {R : Room} {s : State} {m : MethodId} {args : Array Value} {below : List Frame} {meth : Method} {c : Code} {D : DD} {h0 : AH} {Q : AH → Prop} (C : fx_CX D y_AL_add_OOI prog_31_method_24_code 4 5 74 (none) [] h0 p R s m meth c) (hl : l.flags = flags0) (r0 : Nat) (r1 : Nat) (r2 : Nat) (x3 : Int32) (h : AH) (hw : m_AL_add_OOI_11 Q r0 r1 r2 x3 h) : ∀ (ls : Array Slot) (H : Heap) (locs : List Loc) (cells slots : Nat), lv_has ls 4 [(0, .ref r0), (1, .ref r1), (2, .ref r2), (3, .int x3)] → fx_F D h0 h H locs cells slots → W p l e R s m args below meth c H locs cells slots (fx_Z D below s h0 (fx_oV Q fx_no)) (F0 m 11 ls []) := by
  unfold m_AL_add_OOI_11 at hw
  intro ls H locs cells slots hv F
  refine lv_aload_n C.ex C.by d_AL_add_OOI_11 rfl (lv_at hv 2 rfl) ?_
  refine lv_iload_n C.ex C.by d_AL_add_OOI_12 rfl (lv_at hv 3 rfl) ?_
  refine lv_aload_n C.ex C.by d_AL_add_OOI_13 rfl (lv_at hv 1 rfl) ?_
  obtain ⟨hk1, hw⟩ := hw
  obtain ⟨hi1, hw⟩ := hw
  obtain ⟨hp1, hw⟩ := hw
  let h1 : AH := up_R h r2 (x3).toNatClampNeg (some r1)
  replace hw := hw h1 rfl
  refine fx_aastP C F hk1 hi1 hp1 (fx_m8 (List.mem_of_getElem? (i := 23) rfl)) (fx_m8 (List.mem_of_getElem? (i := 18) rfl)) d_AL_add_OOI_14 (fun H locs (F : fx_F D h0 h1 H locs _ _) => ?_)
  refine lv_aload_n C.ex C.by d_AL_add_OOI_15 rfl (lv_at hv 0 rfl) ?_
  refine lv_iload_n C.ex C.by d_AL_add_OOI_16 rfl (lv_at hv 3 rfl) ?_
  refine lv_iconst (v := (1 : Int32)) C.ex C.by d_AL_add_OOI_17 (by decide) ?_
  refine lv_iadd C.ex C.by d_AL_add_OOI_18 ?_
  obtain ⟨hk2, hw⟩ := hw
  let h2 : AH := up_I h1 r0 1 (x3 + (1 : Int32))
  replace hw := hw h2 rfl
  refine fx_putI C F lf_AL_48 hk2 rfl rfl (fx_mayF.no rfl rfl) d_AL_add_OOI_19 (fun H locs (F : fx_F D h0 h2 H locs _ _) => ?_)
  exact fx_vret C F d_AL_add_OOI_22 (Or.inl ⟨rfl, hw⟩)
theorem b_AL_add_OOI_0 {p : Program} {l : Launch} {e : Env} {R : Room} {s : State} {m : MethodId} {args : Array Value} {below : List Frame} {meth : Method} {c : Code} {D : DD} {h0 : AH} {Q : AH → Prop} (C : fx_CX D y_AL_add_OOI prog_31_method_24_code 4 5 74 (none) [] h0 p R s m meth c) (hl : l.flags = flags0) (r0 : Nat) (r1 : Nat) (r2 : Nat) (x3 : Int32) (h : AH) (hw : m_AL_add_OOI Q r0 r1 r2 x3 h) : ∀ (ls : Array Slot) (H : Heap) (locs : List Loc) (cells slots : Nat), lv_has ls 4 [(0, .ref r0), (1, .ref r1), (2, .ref r2), (3, .int x3)] → fx_F D h0 h H locs cells slots → W p l e R s m args below meth c H locs cells slots (fx_Z D below s h0 (fx_oV Q fx_no)) (F0 m 0 ls []) := by
  unfold m_AL_add_OOI at hw
  intro ls H locs cells slots hv F
  refine lv_iload_n C.ex C.by d_AL_add_OOI_0 rfl (lv_at hv 3 rfl) ?_
  refine lv_aload_n C.ex C.by d_AL_add_OOI_1 rfl (lv_at hv 2 rfl) ?_
  obtain ⟨hk1, hw⟩ := hw
  refine fx_alen C F hk1.gt d_AL_add_OOI_2 ?_
  refine lv_icmp_ne C.ex C.by d_AL_add_OOI_3 rfl (fun hc => ?_) (fun hc => ?_)
  · replace hw := hw.1 hc
    exact b_AL_add_OOI_11 C hl _ _ _ _ _ hw _ _ _ _ _ hv F
  · replace hw := hw.2 hc
    refine lv_aload_n C.ex C.by d_AL_add_OOI_6 rfl (lv_at hv 0 rfl) ?_
    obtain ⟨hk2, hw⟩ := hw
    refine fx_callR C F (c_AL_grow_ hl hw) hm_AL_grow_ hi_AL_grow_ hv.1 (by decide) (Nat.le_of_ble_eq_true rfl) (iv_AL_grow_ C F lm_AL_129 hk2 d_AL_add_OOI_7) (fx_out0 _) fx_eno (fun q1 h1 H locs cells slots hw hx1 F => ?_)
    replace hw := hw hx1
    have hk2 := (hx1).k hk2
    have hk1 := (hx1).go hk1
    refine lv_astore_n (lv' := [(2, .ref q1), (0, .ref r0), (1, .ref r1), (3, .int x3)]) C.ex C.by d_AL_add_OOI_10 rfl hv (by decide) rfl (fun ls hv => ?_)
    exact b_AL_add_OOI_11 C hl _ _ _ _ _ hw _ _ _ _ _ (lv_sub hv [1, 2, 0, 3] rfl) F
theorem hm_AL_add_OOI : fx_hd y_AL_add_OOI prog_31_method_24_code 4 (none) [] ∈ tables_1 := (fx_m5 (List.mem_of_getElem? (i := 5) rfl))
theorem hi_AL_add_OOI : Cond.initialized y_AL_add_OOI.cls ∈ tables_1 := (fx_m1 (List.mem_of_getElem? (i := 5) rfl))
theorem c_AL_add_OOI {l : Launch} (hl : l.flags = flags0) {D : DD} {Q : AH → Prop} {r0 : Nat} {r1 : Nat} {r2 : Nat} {x3 : Int32} {h : AH} (hw : m_AL_add_OOI Q r0 r1 r2 x3 h) : fx_Mt l D y_AL_add_OOI (fx_hd y_AL_add_OOI prog_31_method_24_code 4 (none) []) 5 74 [.ref r0, .ref r1, .ref r2, .int x3] h (fx_oV Q fx_no) := by
  refine fx_ofW (by decide +kernel) (fun p e s m below meth c C F => ?_)
  have hv := lv_entry ([.ref r0, .ref r1, .ref r2, .int x3]) (n := 4) (Nat.le_of_ble_eq_true rfl)
  rw [lg_entry_eq]
  generalize (lg_sl ([.ref r0, .ref r1, .ref r2, .int x3]) ++ List.replicate (4 - (lg_sl ([.ref r0, .ref r1, .ref r2, .int x3])).length) Slot.unset).toArray = ls at hv ⊢
  have hv : lv_has ls 4 [(0, .ref r0), (1, .ref r1), (2, .ref r2), (3, .int x3)] := hv
  exact b_AL_add_OOI_0 C hl _ _ _ _ _ hw _ _ _ _ _ hv F
/-! java/util/ArrayList.add(Ljava/lang/Object;)Z: frames 6, words 89 -/
abbrev y_AL_add_O : MethodName := ⟨"java/util/ArrayList", "add", "(Ljava/lang/Object;)Z"⟩
theorem lf_AL_63 : fx_Lk "java/util/ArrayList" 63 11 2 := fx_Lk.mkS (C := "java/util/ArrayList") (T := fx_T11) (N := 3) rfl (by decide) (by decide) (fx_m1 (List.mem_of_getElem? (i := 75) rfl)) (fx_m1 (List.mem_of_getElem? (i := 76) rfl))
theorem lm_AL_131 : Cond.methodLink "java/util/ArrayList" 131 y_AL_add_OOI ∈ tables_1 ∨ ∃ host, Cond.methodLinkNest "java/util/ArrayList" 131 y_AL_add_OOI host ∈ tables_1 := Or.inl (fx_m5 (List.mem_of_getElem? (i := 2) rfl))
section
variable {p : Program} {l : Launch} {e : Env} {R : Room} {s : State} {m : MethodId} {args : Array Value} {below : List Frame} {meth : Method} {c : Code} {H : Heap} {locs : List Loc} {cells slots : Nat}
variable {D : DD} {y : MethodName} {cc : ByteArray} {nL kf kw : Nat} {ret : Option FieldType} {hh : List (Nat × Nat × Nat × Nat)} {h0 h : AH} {pc : Nat} {ls : Array Slot} {rest : List Value} {b idx : Nat}
theorem iv_AL_add_OOI {r1 : Nat} {r2 : Nat} {x3 : Int32} (C : fx_CX D y cc nL kf kw ret hh h0 p R s m meth c) (F : fx_F D h0 h H locs cells slots) (hw1 : Cond.methodLink y.cls idx y_AL_add_OOI ∈ tables_1 ∨ ∃ host, Cond.methodLinkNest y.cls idx y_AL_add_OOI host ∈ tables_1) (hk : hp_k h b = 12) (hd : decode cc pc = .ok (.invokevirtual idx, 3)) : fx_IV p l e R s m args below meth c H locs cells slots (F0 m pc ls (.int x3 :: .ref r2 :: .ref r1 :: .ref b :: rest)) rest y_AL_add_OOI [.ref b, .ref r1, .ref r2, .int x3] 3 := fun T hT X => fx_invV (As := [.ref r1, .ref r2, .int x3]) (Cn := "java/util/ArrayList") C X hw1 (fx_m5 (List.mem_of_getElem? (i := 4) rfl)) (fx_selP C ⟨by decide, by decide⟩ (fx_m1 (List.mem_of_getElem? (i := 59) rfl)) (fx_m5 (List.mem_of_getElem? (i := 3) rfl)) (fx_m5 (List.mem_of_getElem? (i := 4) rfl))) hm_AL_add_OOI ⟨by decide, by decide⟩ (by rw [hT]; exact fx_clsO (ci := 11) (r := ("java/util/ArrayList", fx_T11, 3)) C F rfl (by decide) hk) rfl (n := 3) (by decide +kernel) rfl rfl hd
end
def dl_AL_add_O : List (Nat × Instr × Nat) := [(0, .aload_n 0, 1), (1, .dup, 1), (2, .getfield 63, 3), (5, .iconst 1, 1), (6, .iadd, 1), (7, .putfield 63, 3), (10, .aload_n 0, 1), (11, .aload_n 1, 1), (12, .aload_n 0, 1), (13, .getfield 9, 3), (16, .aload_n 0, 1), (17, .getfield 48, 3), (20, .invokevirtual 131, 3), (23, .iconst 1, 1), (24, .ireturn, 1)]
theorem dk_AL_add_O : fx_dec prog_31_method_25_code dl_AL_add_O = true := by decide +kernel
theorem d_AL_add_O_0 : decode prog_31_method_25_code 0 = .ok (.aload_n 0, 1) := fx_dat dk_AL_add_O 0 rfl
theorem d_AL_add_O_1 : decode prog_31_method_25_code 1 = .ok (.dup, 1) := fx_dat dk_AL_add_O 1 rfl
theorem d_AL_add_O_2 : decode prog_31_method_25_code 2 = .ok (.getfield 63, 3) := fx_dat dk_AL_add_O 2 rfl
theorem d_AL_add_O_5 : decode prog_31_method_25_code 5 = .ok (.iconst 1, 1) := fx_dat dk_AL_add_O 3 rfl
theorem d_AL_add_O_6 : decode prog_31_method_25_code 6 = .ok (.iadd, 1) := fx_dat dk_AL_add_O 4 rfl
theorem d_AL_add_O_7 : decode prog_31_method_25_code 7 = .ok (.putfield 63, 3) := fx_dat dk_AL_add_O 5 rfl
theorem d_AL_add_O_10 : decode prog_31_method_25_code 10 = .ok (.aload_n 0, 1) := fx_dat dk_AL_add_O 6 rfl
theorem d_AL_add_O_11 : decode prog_31_method_25_code 11 = .ok (.aload_n 1, 1) := fx_dat dk_AL_add_O 7 rfl
theorem d_AL_add_O_12 : decode prog_31_method_25_code 12 = .ok (.aload_n 0, 1) := fx_dat dk_AL_add_O 8 rfl
theorem d_AL_add_O_13 : decode prog_31_method_25_code 13 = .ok (.getfield 9, 3) := fx_dat dk_AL_add_O 9 rfl
theorem d_AL_add_O_16 : decode prog_31_method_25_code 16 = .ok (.aload_n 0, 1) := fx_dat dk_AL_add_O 10 rfl
theorem d_AL_add_O_17 : decode prog_31_method_25_code 17 = .ok (.getfield 48, 3) := fx_dat dk_AL_add_O 11 rfl
theorem d_AL_add_O_20 : decode prog_31_method_25_code 20 = .ok (.invokevirtual 131, 3) := fx_dat dk_AL_add_O 12 rfl
theorem d_AL_add_O_23 : decode prog_31_method_25_code 23 = .ok (.iconst 1, 1) := fx_dat dk_AL_add_O 13 rfl
theorem d_AL_add_O_24 : decode prog_31_method_25_code 24 = .ok (.ireturn, 1) := fx_dat dk_AL_add_O 14 rfl
def m_AL_add_O (Q : Int32 → AH → Prop) (r0 : Nat) (r1 : Nat) (h : AH) : Prop := hp_k h r0 = 12 ∧ ∀ h1 : AH, h1 = up_I h r0 2 ((hp_I h r0 2) + (1 : Int32)) → ∃ b1, hp_R h1 r0 0 = some b1 ∧ m_AL_add_OOI (fun h2 => fx_ext h1 h2 → Q (1 : Int32) h2) r0 r1 b1 (hp_I h1 r0 1) h1
theorem b_AL_add_O_0 {p : Program} {l : Launch} {e : Env} {R : Room} {s : State} {m : MethodId} {args : Array Value} {below : List Frame} {meth : Method} {c : Code} {D : DD} {h0 : AH} {Q : Int32 → AH → Prop} (C : fx_CX D y_AL_add_O prog_31_method_25_code 2 6 89 (Option.some FieldType.boolean) [] h0 p R s m meth c) (hl : l.flags = flags0) (r0 : Nat) (r1 : Nat) (h : AH) (hw : m_AL_add_O Q r0 r1 h) : ∀ (ls : Array Slot) (H : Heap) (locs : List Loc) (cells slots : Nat), lv_has ls 2 [(0, .ref r0), (1, .ref r1)] → fx_F D h0 h H locs cells slots → W p l e R s m args below meth c H locs cells slots (fx_Z D below s h0 (fx_oZ Q fx_no)) (F0 m 0 ls []) := by
  unfold m_AL_add_O at hw
  intro ls H locs cells slots hv F
  refine lv_aload_n C.ex C.by d_AL_add_O_0 rfl (lv_at hv 0 rfl) ?_
  refine lv_dup C.ex C.by d_AL_add_O_1 rfl ?_
  obtain ⟨hk1, hw⟩ := hw
  refine fx_getI C F lf_AL_63 hk1 rfl d_AL_add_O_2 ?_
  refine lv_iconst (v := (1 : Int32)) C.ex C.by d_AL_add_O_5 (by decide) ?_
  refine lv_iadd C.ex C.by d_AL_add_O_6 ?_
  let h1 : AH := up_I h r0 2 ((hp_I h r0 2) + (1 : Int32))
  replace hw := hw h1 rfl
  refine fx_putI C F lf_AL_63 hk1 rfl rfl (fx_mayF.no rfl rfl) d_AL_add_O_7 (fun H locs (F : fx_F D h0 h1 H locs _ _) => ?_)
  refine lv_aload_n C.ex C.by d_AL_add_O_10 rfl (lv_at hv 0 rfl) ?_
  refine lv_aload_n C.ex C.by d_AL_add_O_11 rfl (lv_at hv 1 rfl) ?_
  refine lv_aload_n C.ex C.by d_AL_add_O_12 rfl (lv_at hv 0 rfl) ?_
  obtain ⟨b1, hb1, hw⟩ := hw
  refine fx_getR C F lf_AL_9 hk1 rfl hb1 d_AL_add_O_13 ?_
  refine lv_aload_n C.ex C.by d_AL_add_O_16 rfl (lv_at hv 0 rfl) ?_
  refine fx_getI C F lf_AL_48 hk1 rfl d_AL_add_O_17 ?_
  refine fx_callV C F (c_AL_add_OOI hl hw) hm_AL_add_OOI hi_AL_add_OOI hv.1 (by decide) (Nat.le_of_ble_eq_true rfl) (iv_AL_add_OOI C F lm_AL_131 hk1 d_AL_add_O_20) (fx_out0 _) fx_eno (fun h2 H locs cells slots hw hx1 F => ?_)
  replace hw := hw hx1
  have hk1 := (hx1).k hk1
  refine lv_iconst (v := (1 : Int32)) C.ex C.by d_AL_add_O_23 (by decide) ?_
  exact fx_zret C F d_AL_add_O_24 (Or.inr rfl) (Or.inl ⟨_, rfl, Or.inr rfl, hw⟩)
theorem hm_AL_add_O : fx_hd y_AL_add_O prog_31_method_25_code 2 (Option.some FieldType.boolean) [] ∈ tables_1 := (fx_m5 (List.mem_of_getElem? (i := 1) rfl))
theorem hi_AL_add_O : Cond.initialized y_AL_add_O.cls ∈ tables_1 := (fx_m1 (List.mem_of_getElem? (i := 5) rfl))
theorem c_AL_add_O {l : Launch} (hl : l.flags = flags0) {D : DD} {Q : Int32 → AH → Prop} {r0 : Nat} {r1 : Nat} {h : AH} (hw : m_AL_add_O Q r0 r1 h) : fx_Mt l D y_AL_add_O (fx_hd y_AL_add_O prog_31_method_25_code 2 (Option.some FieldType.boolean) []) 6 89 [.ref r0, .ref r1] h (fx_oZ Q fx_no) := by
  refine fx_ofW (by decide +kernel) (fun p e s m below meth c C F => ?_)
  have hv := lv_entry ([.ref r0, .ref r1]) (n := 2) (Nat.le_of_ble_eq_true rfl)
  rw [lg_entry_eq]
  generalize (lg_sl ([.ref r0, .ref r1]) ++ List.replicate (2 - (lg_sl ([.ref r0, .ref r1])).length) Slot.unset).toArray = ls at hv ⊢
  have hv : lv_has ls 2 [(0, .ref r0), (1, .ref r1)] := hv
  exact b_AL_add_O_0 C hl _ _ _ hw _ _ _ _ _ hv F
/-! ChainJudge.hold([BIII)I: frames 7, words 102, throws -/
abbrev y_J_hold : MethodName := ⟨"ChainJudge", "hold", "([BIII)I"⟩
theorem lm_J_221 : Cond.methodLink "ChainJudge" 221 y_J_roomFor ∈ tables_1 ∨ ∃ host, Cond.methodLinkNest "ChainJudge" 221 y_J_roomFor host ∈ tables_1 := Or.inl (fx_m4 (List.mem_of_getElem? (i := 218) rfl))
theorem lm_J_224 : Cond.methodLink "ChainJudge" 224 y_Held_init ∈ tables_1 ∨ ∃ host, Cond.methodLinkNest "ChainJudge" 224 y_Held_init host ∈ tables_1 := Or.inl (fx_m4 (List.mem_of_getElem? (i := 224) rfl))
theorem lm_J_227 : Cond.methodLink "ChainJudge" 227 y_AL_add_O ∈ tables_1 ∨ ∃ host, Cond.methodLinkNest "ChainJudge" 227 y_AL_add_O host ∈ tables_1 := Or.inl (fx_m4 (List.mem_of_getElem? (i := 238) rfl))
section
variable {p : Program} {l : Launch} {e : Env} {R : Room} {s : State} {m : MethodId} {args : Array Value} {below : List Frame} {meth : Method} {c : Code} {H : Heap} {locs : List Loc} {cells slots : Nat}
variable {D : DD} {y : MethodName} {cc : ByteArray} {nL kf kw : Nat} {ret : Option FieldType} {hh : List (Nat × Nat × Nat × Nat)} {h0 h : AH} {pc : Nat} {ls : Array Slot} {rest : List Value} {b idx : Nat}
theorem iv_Held_init {r1 : Nat} {x2 : Int32} {x3 : Int32} {x4 : Int32} (C : fx_CX D y cc nL kf kw ret hh h0 p R s m meth c) (F : fx_F D h0 h H locs cells slots) (hw1 : Cond.methodLink y.cls idx y_Held_init ∈ tables_1 ∨ ∃ host, Cond.methodLinkNest y.cls idx y_Held_init host ∈ tables_1) (hd : decode cc pc = .ok (.invokespecial idx, 3)) : fx_IV p l e R s m args below meth c H locs cells slots (F0 m pc ls (.int x4 :: .int x3 :: .int x2 :: .ref r1 :: .ref b :: rest)) rest y_Held_init [.ref b, .ref r1, .int x2, .int x3, .int x4] 3 := fun T hT X => fx_invI (As := [.ref r1, .int x2, .int x3, .int x4]) C X hw1 (fx_m4 (List.mem_of_getElem? (i := 225) rfl)) hm_Held_init ⟨by decide, by decide⟩ rfl rfl (n := 4) (by decide +kernel) rfl rfl hd
theorem iv_J_roomFor {x1 : Int32} (C : fx_CX D y cc nL kf kw ret hh h0 p R s m meth c) (F : fx_F D h0 h H locs cells slots) (hw1 : Cond.methodLink y.cls idx y_J_roomFor ∈ tables_1 ∨ ∃ host, Cond.methodLinkNest y.cls idx y_J_roomFor host ∈ tables_1) (hk : hp_k h b = 1) (hd : decode cc pc = .ok (.invokevirtual idx, 3)) : fx_IV p l e R s m args below meth c H locs cells slots (F0 m pc ls (.int x1 :: .ref b :: rest)) rest y_J_roomFor [.ref b, .int x1] 3 := fun T hT X => fx_invV (As := [.int x1]) (Cn := "ChainJudge") C X hw1 (fx_m4 (List.mem_of_getElem? (i := 220) rfl)) (fx_selP C ⟨by decide, by decide⟩ (fx_m1 (List.mem_of_getElem? (i := 33) rfl)) (fx_m4 (List.mem_of_getElem? (i := 219) rfl)) (fx_m4 (List.mem_of_getElem? (i := 220) rfl))) hm_J_roomFor ⟨by decide, by decide⟩ (by rw [hT]; exact fx_clsO (ci := 0) (r := ("ChainJudge", fx_T0, 16)) C F rfl (by decide) hk) rfl (n := 1) (by decide +kernel) rfl rfl hd
theorem iv_AL_add_O {r1 : Nat} (C : fx_CX D y cc nL kf kw ret hh h0 p R s m meth c) (F : fx_F D h0 h H locs cells slots) (hw1 : Cond.methodLink y.cls idx y_AL_add_O ∈ tables_1 ∨ ∃ host, Cond.methodLinkNest y.cls idx y_AL_add_O host ∈ tables_1) (hk : hp_k h b = 12) (hd : decode cc pc = .ok (.invokevirtual idx, 3)) : fx_IV p l e R s m args below meth c H locs cells slots (F0 m pc ls (.ref r1 :: .ref b :: rest)) rest y_AL_add_O [.ref b, .ref r1] 3 := fun T hT X => fx_invV (As := [.ref r1]) (Cn := "java/util/ArrayList") C X hw1 (fx_m4 (List.mem_of_getElem? (i := 239) rfl)) (fx_selW C (fx_m5 (List.mem_of_getElem? (i := 0) rfl))) hm_AL_add_O ⟨by decide, by decide⟩ (by rw [hT]; exact fx_clsO (ci := 11) (r := ("java/util/ArrayList", fx_T11, 3)) C F rfl (by decide) hk) rfl (n := 1) (by decide +kernel) rfl rfl hd
end
def dl_J_hold : List (Nat × Instr × Nat) := [(0, .aload_n 0, 1), (1, .iload_n 3, 1), (2, .invokevirtual 221, 3), (5, .aload_n 0, 1), (6, .dup, 1), (7, .getfield 93, 3), (10, .iload_n 3, 1), (11, .iadd, 1), (12, .putfield 93, 3), (15, .aload_n 0, 1), (16, .getfield 36, 3), (19, .new 135, 3), (22, .dup, 1), (23, .aload_n 1, 1), (24, .iload_n 2, 1), (25, .iload_n 3, 1), (26, .iload 4, 2), (28, .invokespecial 224, 3), (31, .invokevirtual 227, 3), (34, .pop, 1), (35, .aload_n 0, 1), (36, .getfield 14, 3), (39, .iconst 0, 1), (40, .putfield 96, 3), (43, .aload_n 0, 1), (44, .getfield 36, 3), (47, .invokevirtual 125, 3), (50, .iconst 1, 1), (51, .isub, 1), (52, .ireturn, 1)]
theorem dk_J_hold : fx_dec prog_1_method_15_code dl_J_hold = true := by decide +kernel
theorem d_J_hold_0 : decode prog_1_method_15_code 0 = .ok (.aload_n 0, 1) := fx_dat dk_J_hold 0 rfl
theorem d_J_hold_1 : decode prog_1_method_15_code 1 = .ok (.iload_n 3, 1) := fx_dat dk_J_hold 1 rfl
theorem d_J_hold_2 : decode prog_1_method_15_code 2 = .ok (.invokevirtual 221, 3) := fx_dat dk_J_hold 2 rfl
theorem d_J_hold_5 : decode prog_1_method_15_code 5 = .ok (.aload_n 0, 1) := fx_dat dk_J_hold 3 rfl
theorem d_J_hold_6 : decode prog_1_method_15_code 6 = .ok (.dup, 1) := fx_dat dk_J_hold 4 rfl
theorem d_J_hold_7 : decode prog_1_method_15_code 7 = .ok (.getfield 93, 3) := fx_dat dk_J_hold 5 rfl
theorem d_J_hold_10 : decode prog_1_method_15_code 10 = .ok (.iload_n 3, 1) := fx_dat dk_J_hold 6 rfl
theorem d_J_hold_11 : decode prog_1_method_15_code 11 = .ok (.iadd, 1) := fx_dat dk_J_hold 7 rfl
theorem d_J_hold_12 : decode prog_1_method_15_code 12 = .ok (.putfield 93, 3) := fx_dat dk_J_hold 8 rfl
theorem d_J_hold_15 : decode prog_1_method_15_code 15 = .ok (.aload_n 0, 1) := fx_dat dk_J_hold 9 rfl
theorem d_J_hold_16 : decode prog_1_method_15_code 16 = .ok (.getfield 36, 3) := fx_dat dk_J_hold 10 rfl
theorem d_J_hold_19 : decode prog_1_method_15_code 19 = .ok (.new 135, 3) := fx_dat dk_J_hold 11 rfl
theorem d_J_hold_22 : decode prog_1_method_15_code 22 = .ok (.dup, 1) := fx_dat dk_J_hold 12 rfl
theorem d_J_hold_23 : decode prog_1_method_15_code 23 = .ok (.aload_n 1, 1) := fx_dat dk_J_hold 13 rfl
theorem d_J_hold_24 : decode prog_1_method_15_code 24 = .ok (.iload_n 2, 1) := fx_dat dk_J_hold 14 rfl
theorem d_J_hold_25 : decode prog_1_method_15_code 25 = .ok (.iload_n 3, 1) := fx_dat dk_J_hold 15 rfl
theorem d_J_hold_26 : decode prog_1_method_15_code 26 = .ok (.iload 4, 2) := fx_dat dk_J_hold 16 rfl
theorem d_J_hold_28 : decode prog_1_method_15_code 28 = .ok (.invokespecial 224, 3) := fx_dat dk_J_hold 17 rfl
theorem d_J_hold_31 : decode prog_1_method_15_code 31 = .ok (.invokevirtual 227, 3) := fx_dat dk_J_hold 18 rfl
theorem d_J_hold_34 : decode prog_1_method_15_code 34 = .ok (.pop, 1) := fx_dat dk_J_hold 19 rfl
theorem d_J_hold_35 : decode prog_1_method_15_code 35 = .ok (.aload_n 0, 1) := fx_dat dk_J_hold 20 rfl
theorem d_J_hold_36 : decode prog_1_method_15_code 36 = .ok (.getfield 14, 3) := fx_dat dk_J_hold 21 rfl
theorem d_J_hold_39 : decode prog_1_method_15_code 39 = .ok (.iconst 0, 1) := fx_dat dk_J_hold 22 rfl
theorem d_J_hold_40 : decode prog_1_method_15_code 40 = .ok (.putfield 96, 3) := fx_dat dk_J_hold 23 rfl
theorem d_J_hold_43 : decode prog_1_method_15_code 43 = .ok (.aload_n 0, 1) := fx_dat dk_J_hold 24 rfl
theorem d_J_hold_44 : decode prog_1_method_15_code 44 = .ok (.getfield 36, 3) := fx_dat dk_J_hold 25 rfl
theorem d_J_hold_47 : decode prog_1_method_15_code 47 = .ok (.invokevirtual 125, 3) := fx_dat dk_J_hold 26 rfl
theorem d_J_hold_50 : decode prog_1_method_15_code 50 = .ok (.iconst 1, 1) := fx_dat dk_J_hold 27 rfl
theorem d_J_hold_51 : decode prog_1_method_15_code 51 = .ok (.isub, 1) := fx_dat dk_J_hold 28 rfl
theorem d_J_hold_52 : decode prog_1_method_15_code 52 = .ok (.ireturn, 1) := fx_dat dk_J_hold 29 rfl
def m_J_hold (Q : Int32 → AH → Prop) (E : Nat → AH → Prop) (r0 : Nat) (r1 : Nat) (x2 : Int32) (x3 : Int32) (x4 : Int32) (h : AH) : Prop := hp_k h r0 = 1 ∧ m_J_roomFor (fun h1 => fx_ext h h1 → ∀ h2 : AH, h2 = up_I h1 r0 15 ((hp_I h1 r0 15) + x3) → ∃ b1, hp_R h2 r0 4 = some b1 ∧ fx_has h2 2 ∧ ∀ (_ : fx_wf h2) (q1 : Nat), q1 = hp_z h2 → ∀ h3 : AH, h3 = up_N h2 3 0 2 → m_Held_init (fun h4 => fx_ext h3 h4 → hp_k h4 b1 = 12 ∧ m_AL_add_O (fun v1 h5 => fx_ext h4 h5 → zb v1 → ∃ b2, hp_R h5 r0 0 = some b2 ∧ hp_k h5 b2 = 2 ∧ ∀ h6 : AH, h6 = up_I h5 b2 1 (0 : Int32) → ∃ b3, hp_R h6 r0 4 = some b3 ∧ hp_k h6 b3 = 12 ∧ m_AL_size (fun v2 h7 => fx_ext h6 h7 → Q (v2 - (1 : Int32)) h7) b3 h6) b1 q1 h4) q1 r1 x2 x3 x4 h3) (fun a ht => fx_ext h ht → E a ht) r0 x3 h
theorem b_J_hold_0 {p : Program} {l : Launch} {e : Env} {R : Room} {s : State} {m : MethodId} {args : Array Value} {below : List Frame} {meth : Method} {c : Code} {D : DD} {h0 : AH} {Q : Int32 → AH → Prop} {E : Nat → AH → Prop} (C : fx_CX D y_J_hold prog_1_method_15_code 5 7 102 (Option.some FieldType.int) [] h0 p R s m meth c) (hl : l.flags = flags0) (r0 : Nat) (r1 : Nat) (x2 : Int32) (x3 : Int32) (x4 : Int32) (h : AH) (hw : m_J_hold Q E r0 r1 x2 x3 x4 h) : ∀ (ls : Array Slot) (H : Heap) (locs : List Loc) (cells slots : Nat), lv_has ls 5 [(0, .ref r0), (1, .ref r1), (2, .int x2), (3, .int x3), (4, .int x4)] → fx_F D h0 h H locs cells slots → W p l e R s m args below meth c H locs cells slots (fx_Z D below s h0 (fx_oI Q E)) (F0 m 0 ls []) := by
  unfold m_J_hold at hw
  intro ls H locs cells slots hv F
  refine lv_aload_n C.ex C.by d_J_hold_0 rfl (lv_at hv 0 rfl) ?_
  refine lv_iload_n C.ex C.by d_J_hold_1 rfl (lv_at hv 3 rfl) ?_
  obtain ⟨hk1, hw⟩ := hw
  refine fx_callV C F (c_J_roomFor hl hw) hm_J_roomFor hi_J_roomFor hv.1 (by decide) (Nat.le_of_ble_eq_true rfl) (iv_J_roomFor C F lm_J_221 hk1 d_J_hold_2) (fx_out0 _) (fun _ _ hE hx => Or.inr ⟨_, rfl, hE hx⟩) (fun h1 H locs cells slots hw hx1 F => ?_)
  replace hw := hw hx1
  have hk1 := (hx1).k hk1
  refine lv_aload_n C.ex C.by d_J_hold_5 rfl (lv_at hv 0 rfl) ?_
  refine lv_dup C.ex C.by d_J_hold_6 rfl ?_
  refine fx_getI C F lf_J_93 hk1 rfl d_J_hold_7 ?_
  refine lv_iload_n C.ex C.by d_J_hold_10 rfl (lv_at hv 3 rfl) ?_
  refine lv_iadd C.ex C.by d_J_hold_11 ?_
  let h2 : AH := up_I h1 r0 15 ((hp_I h1 r0 15) + x3)
  replace hw := hw h2 rfl
  refine fx_putI C F lf_J_93 hk1 rfl rfl (fx_mayF.no rfl rfl) d_J_hold_12 (fun H locs (F : fx_F D h0 h2 H locs _ _) => ?_)
  refine lv_aload_n C.ex C.by d_J_hold_15 rfl (lv_at hv 0 rfl) ?_
  obtain ⟨b1, hb1, hw⟩ := hw
  refine fx_getR C F lf_J_36 hk1 rfl hb1 d_J_hold_16 ?_
  obtain ⟨hs, hw⟩ := hw
  let q1 : Nat := hp_z h2
  let h3 : AH := up_N h2 3 0 2
  replace hw := hw F.wf q1 rfl h3 rfl
  have hk1 := (F.xN (k := 3) (n := 0) (m := 2)).k hk1
  have hkq1 : hp_k h3 q1 = 3 := fx_nk _ _ _ _
  refine fx_new (ci := 2) (r := ("ChainJudge$Held", fx_T2, 2)) C F rfl (fx_m3 (List.mem_of_getElem? (i := 108) rfl)) (fx_m4 (List.mem_of_getElem? (i := 223) rfl)) (fx_m1 (List.mem_of_getElem? (i := 29) rfl)) hs d_J_hold_19 (fun H cells slots (F : fx_F D h0 h3 H locs cells slots) => ?_)
  refine lv_dup C.ex C.by d_J_hold_22 rfl ?_
  refine lv_aload_n C.ex C.by d_J_hold_23 rfl (lv_at hv 1 rfl) ?_
  refine lv_iload_n C.ex C.by d_J_hold_24 rfl (lv_at hv 2 rfl) ?_
  refine lv_iload_n C.ex C.by d_J_hold_25 rfl (lv_at hv 3 rfl) ?_
  refine lv_iload C.ex C.by d_J_hold_26 (lv_at hv 4 rfl) ?_
  refine fx_callV C F (c_Held_init hl hw) hm_Held_init hi_Held_init hv.1 (by decide) (Nat.le_of_ble_eq_true rfl) (iv_Held_init C F lm_J_224 d_J_hold_28) (fx_out0 _) fx_eno (fun h4 H locs cells slots hw hx2 F => ?_)
  replace hw := hw hx2
  have hkq1 := (hx2).k hkq1
  have hk1 := (hx2).k hk1
  obtain ⟨hk2, hw⟩ := hw
  refine fx_callZ C F (c_AL_add_O hl hw) hm_AL_add_O hi_AL_add_O hv.1 (by decide) (Nat.le_of_ble_eq_true rfl) (iv_AL_add_O C F lm_J_227 hk2 d_J_hold_31) (fx_out0 _) fx_eno (fun v1 h5 H locs cells slots hw hx3 hzb F => ?_)
  replace hw := hw hx3 hzb
  have hk2 := (hx3).k hk2
  have hkq1 := (hx3).k hkq1
  have hk1 := (hx3).k hk1
  refine lv_pop C.ex C.by d_J_hold_34 rfl ?_
  refine lv_aload_n C.ex C.by d_J_hold_35 rfl (lv_at hv 0 rfl) ?_
  obtain ⟨b2, hb2, hw⟩ := hw
  refine fx_getR C F lf_J_14 hk1 rfl hb2 d_J_hold_36 ?_
  refine lv_iconst (v := (0 : Int32)) C.ex C.by d_J_hold_39 (by decide) ?_
  obtain ⟨hk3, hw⟩ := hw
  let h6 : AH := up_I h5 b2 1 (0 : Int32)
  replace hw := hw h6 rfl
  refine fx_putI C F lf_J_96 hk3 rfl rfl (fx_mayF.no rfl rfl) d_J_hold_40 (fun H locs (F : fx_F D h0 h6 H locs _ _) => ?_)
  refine lv_aload_n C.ex C.by d_J_hold_43 rfl (lv_at hv 0 rfl) ?_
  obtain ⟨b3, hb3, hw⟩ := hw
  refine fx_getR C F lf_J_36 hk1 rfl hb3 d_J_hold_44 ?_
  obtain ⟨hk4, hw⟩ := hw
  refine fx_callI C F (c_AL_size hl hw) hm_AL_size hi_AL_size hv.1 (by decide) (Nat.le_of_ble_eq_true rfl) (iv_AL_size C F lm_J_125 hk4 d_J_hold_47) (fx_out0 _) fx_eno (fun v2 h7 H locs cells slots hw hx4 F => ?_)
  replace hw := hw hx4
  have hk2 := (hx4).k hk2
  have hk3 := (hx4).k hk3
  have hk4 := (hx4).k hk4
  have hkq1 := (hx4).k hkq1
  have hk1 := (hx4).k hk1
  refine lv_iconst (v := (1 : Int32)) C.ex C.by d_J_hold_50 (by decide) ?_
  refine lv_isub C.ex C.by d_J_hold_51 ?_
  exact fx_iret C F d_J_hold_52 (Or.inl ⟨_, rfl, hw⟩)
theorem hm_J_hold : fx_hd y_J_hold prog_1_method_15_code 5 (Option.some FieldType.int) [] ∈ tables_1 := (fx_m4 (List.mem_of_getElem? (i := 217) rfl))
theorem hi_J_hold : Cond.initialized y_J_hold.cls ∈ tables_1 := (fx_m1 (List.mem_of_getElem? (i := 1) rfl))
theorem c_J_hold {l : Launch} (hl : l.flags = flags0) {D : DD} {Q : Int32 → AH → Prop} {E : Nat → AH → Prop} {r0 : Nat} {r1 : Nat} {x2 : Int32} {x3 : Int32} {x4 : Int32} {h : AH} (hw : m_J_hold Q E r0 r1 x2 x3 x4 h) : fx_Mt l D y_J_hold (fx_hd y_J_hold prog_1_method_15_code 5 (Option.some FieldType.int) []) 7 102 [.ref r0, .ref r1, .int x2, .int x3, .int x4] h (fx_oI Q E) := by
  refine fx_ofW (plainFor_of_name (by decide)) (fun p e s m below meth c C F => ?_)
  have hv := lv_entry ([.ref r0, .ref r1, .int x2, .int x3, .int x4]) (n := 5) (Nat.le_of_ble_eq_true rfl)
  rw [lg_entry_eq]
  generalize (lg_sl ([.ref r0, .ref r1, .int x2, .int x3, .int x4]) ++ List.replicate (5 - (lg_sl ([.ref r0, .ref r1, .int x2, .int x3, .int x4])).length) Slot.unset).toArray = ls at hv ⊢
  have hv : lv_has ls 5 [(0, .ref r0), (1, .ref r1), (2, .int x2), (3, .int x3), (4, .int x4)] := hv
  exact b_J_hold_0 C hl _ _ _ _ _ _ hw _ _ _ _ _ hv F
