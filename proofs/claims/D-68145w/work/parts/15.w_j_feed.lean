set_option maxRecDepth 10000
/-! ChainJudge.feed(IIIII)I: frames 6, words 81, throws -/
abbrev y_J_feed : MethodName := ⟨"ChainJudge", "feed", "(IIIII)I"⟩
theorem lm_J_103 : Cond.methodLink "ChainJudge" 103 y_Row_four ∈ tables_1 ∨ ∃ host, Cond.methodLinkNest "ChainJudge" 103 y_Row_four host ∈ tables_1 := Or.inl (fx_m3 (List.mem_of_getElem? (i := 10) rfl))
theorem ex_J_102 : fx_eW "ChainJudge" 102 "java/lang/IllegalStateException" fx_rn := fx_eWmk (fx_m2 (List.mem_of_getElem? (i := 229) rfl)) (fx_m2 (List.mem_of_getElem? (i := 230) rfl)) (fx_m2 (List.mem_of_getElem? (i := 231) rfl)) (fx_m2 (List.mem_of_getElem? (i := 228) rfl)) (fx_m2 (List.mem_of_getElem? (i := 186) rfl)) (fx_m2 (List.mem_of_getElem? (i := 187) rfl)) (fx_m2 (List.mem_of_getElem? (i := 194) rfl)) (fx_m2 (List.mem_of_getElem? (i := 195) rfl)) (fx_m2 (List.mem_of_getElem? (i := 196) rfl)) (fx_m2 (List.mem_of_getElem? (i := 198) rfl)) (fx_m2 (List.mem_of_getElem? (i := 200) rfl)) (fx_m2 (List.mem_of_getElem? (i := 202) rfl)) (fx_m2 (List.mem_of_getElem? (i := 204) rfl))
section
variable {p : Program} {l : Launch} {e : Env} {R : Room} {s : State} {m : MethodId} {args : Array Value} {below : List Frame} {meth : Method} {c : Code} {H : Heap} {locs : List Loc} {cells slots : Nat}
variable {D : DD} {y : MethodName} {cc : ByteArray} {nL kf kw : Nat} {ret : Option FieldType} {hh : List (Nat × Nat × Nat × Nat)} {h0 h : AH} {pc : Nat} {ls : Array Slot} {rest : List Value} {b idx : Nat}
theorem iv_Row_four {x1 : Int32} (C : fx_CX D y cc nL kf kw ret hh h0 p R s m meth c) (F : fx_F D h0 h H locs cells slots) (hw1 : Cond.methodLink y.cls idx y_Row_four ∈ tables_1 ∨ ∃ host, Cond.methodLinkNest y.cls idx y_Row_four host ∈ tables_1) (hk : hp_k h b = 2) (hd : decode cc pc = .ok (.invokevirtual idx, 3)) : fx_IV p l e R s m args below meth c H locs cells slots (F0 m pc ls (.int x1 :: .ref b :: rest)) rest y_Row_four [.ref b, .int x1] 3 := fun T hT X => fx_invV (As := [.int x1]) (Cn := "ChainJudge$Row") C X hw1 (fx_m3 (List.mem_of_getElem? (i := 11) rfl)) (fx_selW C (fx_m3 (List.mem_of_getElem? (i := 12) rfl))) hm_Row_four ⟨by decide, by decide⟩ (by rw [hT]; exact fx_clsO (ci := 1) (r := ("ChainJudge$Row", fx_T1, 2)) C F rfl (by decide) hk) rfl (n := 1) (by decide +kernel) rfl rfl hd
end
def dl_J_feed : List (Nat × Instr × Nat) := [(0, .aload_n 0, 1), (1, .getfield 14, 3), (4, .getfield 96, 3), (7, .ldc 99, 2), (9, .if_icmp .le 11, 3), (12, .new 100, 3), (15, .dup, 1), (16, .invokespecial 102, 3), (19, .athrow, 1), (20, .aload_n 0, 1), (21, .getfield 14, 3), (24, .iload_n 1, 1), (25, .invokevirtual 103, 3), (28, .aload_n 0, 1), (29, .getfield 14, 3), (32, .iload_n 2, 1), (33, .invokevirtual 103, 3), (36, .aload_n 0, 1), (37, .getfield 14, 3), (40, .iload_n 3, 1), (41, .invokevirtual 103, 3), (44, .aload_n 0, 1), (45, .getfield 14, 3), (48, .iload 4, 2), (50, .invokevirtual 103, 3), (53, .aload_n 0, 1), (54, .getfield 14, 3), (57, .iload 5, 2), (59, .invokevirtual 103, 3), (62, .aload_n 0, 1), (63, .getfield 14, 3), (66, .getfield 96, 3), (69, .ireturn, 1)]
theorem dk_J_feed : fx_dec prog_1_method_5_code dl_J_feed = true := by decide +kernel
theorem d_J_feed_0 : decode prog_1_method_5_code 0 = .ok (.aload_n 0, 1) := fx_dat dk_J_feed 0 rfl
theorem d_J_feed_1 : decode prog_1_method_5_code 1 = .ok (.getfield 14, 3) := fx_dat dk_J_feed 1 rfl
theorem d_J_feed_4 : decode prog_1_method_5_code 4 = .ok (.getfield 96, 3) := fx_dat dk_J_feed 2 rfl
theorem d_J_feed_7 : decode prog_1_method_5_code 7 = .ok (.ldc 99, 2) := fx_dat dk_J_feed 3 rfl
theorem d_J_feed_9 : decode prog_1_method_5_code 9 = .ok (.if_icmp .le 11, 3) := fx_dat dk_J_feed 4 rfl
theorem d_J_feed_12 : decode prog_1_method_5_code 12 = .ok (.new 100, 3) := fx_dat dk_J_feed 5 rfl
theorem d_J_feed_15 : decode prog_1_method_5_code 15 = .ok (.dup, 1) := fx_dat dk_J_feed 6 rfl
theorem d_J_feed_16 : decode prog_1_method_5_code 16 = .ok (.invokespecial 102, 3) := fx_dat dk_J_feed 7 rfl
theorem d_J_feed_19 : decode prog_1_method_5_code 19 = .ok (.athrow, 1) := fx_dat dk_J_feed 8 rfl
theorem d_J_feed_20 : decode prog_1_method_5_code 20 = .ok (.aload_n 0, 1) := fx_dat dk_J_feed 9 rfl
theorem d_J_feed_21 : decode prog_1_method_5_code 21 = .ok (.getfield 14, 3) := fx_dat dk_J_feed 10 rfl
theorem d_J_feed_24 : decode prog_1_method_5_code 24 = .ok (.iload_n 1, 1) := fx_dat dk_J_feed 11 rfl
theorem d_J_feed_25 : decode prog_1_method_5_code 25 = .ok (.invokevirtual 103, 3) := fx_dat dk_J_feed 12 rfl
theorem d_J_feed_28 : decode prog_1_method_5_code 28 = .ok (.aload_n 0, 1) := fx_dat dk_J_feed 13 rfl
theorem d_J_feed_29 : decode prog_1_method_5_code 29 = .ok (.getfield 14, 3) := fx_dat dk_J_feed 14 rfl
theorem d_J_feed_32 : decode prog_1_method_5_code 32 = .ok (.iload_n 2, 1) := fx_dat dk_J_feed 15 rfl
theorem d_J_feed_33 : decode prog_1_method_5_code 33 = .ok (.invokevirtual 103, 3) := fx_dat dk_J_feed 16 rfl
theorem d_J_feed_36 : decode prog_1_method_5_code 36 = .ok (.aload_n 0, 1) := fx_dat dk_J_feed 17 rfl
theorem d_J_feed_37 : decode prog_1_method_5_code 37 = .ok (.getfield 14, 3) := fx_dat dk_J_feed 18 rfl
theorem d_J_feed_40 : decode prog_1_method_5_code 40 = .ok (.iload_n 3, 1) := fx_dat dk_J_feed 19 rfl
theorem d_J_feed_41 : decode prog_1_method_5_code 41 = .ok (.invokevirtual 103, 3) := fx_dat dk_J_feed 20 rfl
theorem d_J_feed_44 : decode prog_1_method_5_code 44 = .ok (.aload_n 0, 1) := fx_dat dk_J_feed 21 rfl
theorem d_J_feed_45 : decode prog_1_method_5_code 45 = .ok (.getfield 14, 3) := fx_dat dk_J_feed 22 rfl
theorem d_J_feed_48 : decode prog_1_method_5_code 48 = .ok (.iload 4, 2) := fx_dat dk_J_feed 23 rfl
theorem d_J_feed_50 : decode prog_1_method_5_code 50 = .ok (.invokevirtual 103, 3) := fx_dat dk_J_feed 24 rfl
theorem d_J_feed_53 : decode prog_1_method_5_code 53 = .ok (.aload_n 0, 1) := fx_dat dk_J_feed 25 rfl
theorem d_J_feed_54 : decode prog_1_method_5_code 54 = .ok (.getfield 14, 3) := fx_dat dk_J_feed 26 rfl
theorem d_J_feed_57 : decode prog_1_method_5_code 57 = .ok (.iload 5, 2) := fx_dat dk_J_feed 27 rfl
theorem d_J_feed_59 : decode prog_1_method_5_code 59 = .ok (.invokevirtual 103, 3) := fx_dat dk_J_feed 28 rfl
theorem d_J_feed_62 : decode prog_1_method_5_code 62 = .ok (.aload_n 0, 1) := fx_dat dk_J_feed 29 rfl
theorem d_J_feed_63 : decode prog_1_method_5_code 63 = .ok (.getfield 14, 3) := fx_dat dk_J_feed 30 rfl
theorem d_J_feed_66 : decode prog_1_method_5_code 66 = .ok (.getfield 96, 3) := fx_dat dk_J_feed 31 rfl
theorem d_J_feed_69 : decode prog_1_method_5_code 69 = .ok (.ireturn, 1) := fx_dat dk_J_feed 32 rfl
def m_J_feed (Q : Int32 → AH → Prop) (E : Nat → AH → Prop) (r0 : Nat) (x1 : Int32) (x2 : Int32) (x3 : Int32) (x4 : Int32) (x5 : Int32) (h : AH) : Prop := hp_k h r0 = 1 ∧ ∃ b1, hp_R h r0 0 = some b1 ∧ hp_k h b1 = 2 ∧ ((hp_I h b1 1) ≤ (65516 : Int32) → m_Row_four (fun h1 => fx_ext h h1 → ∃ b2, hp_R h1 r0 0 = some b2 ∧ hp_k h1 b2 = 2 ∧ m_Row_four (fun h2 => fx_ext h1 h2 → ∃ b3, hp_R h2 r0 0 = some b3 ∧ hp_k h2 b3 = 2 ∧ m_Row_four (fun h3 => fx_ext h2 h3 → ∃ b4, hp_R h3 r0 0 = some b4 ∧ hp_k h3 b4 = 2 ∧ m_Row_four (fun h4 => fx_ext h3 h4 → ∃ b5, hp_R h4 r0 0 = some b5 ∧ hp_k h4 b5 = 2 ∧ m_Row_four (fun h5 => fx_ext h4 h5 → ∃ b6, hp_R h5 r0 0 = some b6 ∧ hp_k h5 b6 = 2 ∧ Q (hp_I h5 b6 1) h5) b5 x5 h4) b4 x4 h3) b3 x3 h2) b2 x2 h1) b1 x1 h) ∧ (¬ (hp_I h b1 1) ≤ (65516 : Int32) → fx_has h 6 ∧ ∀ (_ : fx_wf h) (q1 : Nat), q1 = hp_z h → ∀ h6 : AH, h6 = up_N h 15 0 6 → E q1 h6)
theorem b_J_feed_0 {p : Program} {l : Launch} {e : Env} {R : Room} {s : State} {m : MethodId} {args : Array Value} {below : List Frame} {meth : Method} {c : Code} {D : DD} {h0 : AH} {Q : Int32 → AH → Prop} {E : Nat → AH → Prop} (C : fx_CX D y_J_feed prog_1_method_5_code 6 6 81 (Option.some FieldType.int) [] h0 p R s m meth c) (hl : l.flags = flags0) (r0 : Nat) (x1 : Int32) (x2 : Int32) (x3 : Int32) (x4 : Int32) (x5 : Int32) (h : AH) (hw : m_J_feed Q E r0 x1 x2 x3 x4 x5 h) : ∀ (ls : Array Slot) (H : Heap) (locs : List Loc) (cells slots : Nat), lv_has ls 6 [(0, .ref r0), (1, .int x1), (2, .int x2), (3, .int x3), (4, .int x4), (5, .int x5)] → fx_F D h0 h H locs cells slots → W p l e R s m args below meth c H locs cells slots (fx_Z D below s h0 (fx_oI Q E)) (F0 m 0 ls []) := by
  unfold m_J_feed at hw
  intro ls H locs cells slots hv F
  refine lv_aload_n C.ex C.by d_J_feed_0 rfl (lv_at hv 0 rfl) ?_
  obtain ⟨hk1, hw⟩ := hw
  obtain ⟨b1, hb1, hw⟩ := hw
  refine fx_getR C F lf_J_14 hk1 rfl hb1 d_J_feed_1 ?_
  obtain ⟨hk2, hw⟩ := hw
  refine fx_getI C F lf_J_96 hk2 rfl d_J_feed_4 ?_
  refine lv_ldc (v := (65516 : Int32)) C.ex C.by C.ow (C.tw.at (fx_m2 (List.mem_of_getElem? (i := 184) rfl)) rfl rfl) d_J_feed_7 ?_
  refine lv_icmp_le C.ex C.by d_J_feed_9 rfl (fun hc => ?_) (fun hc => ?_)
  · replace hw := hw.1 hc
    refine lv_aload_n C.ex C.by d_J_feed_20 rfl (lv_at hv 0 rfl) ?_
    refine fx_getR C F lf_J_14 hk1 rfl hb1 d_J_feed_21 ?_
    refine lv_iload_n C.ex C.by d_J_feed_24 rfl (lv_at hv 1 rfl) ?_
    refine fx_callV C F (c_Row_four hl hw) hm_Row_four hi_Row_four hv.1 (by decide) (Nat.le_of_ble_eq_true rfl) (iv_Row_four C F lm_J_103 hk2 d_J_feed_25) (fx_out0 _) fx_eno (fun h1 H locs cells slots hw hx1 F => ?_)
    replace hw := hw hx1
    have hk2 := (hx1).k hk2
    have hk1 := (hx1).k hk1
    refine lv_aload_n C.ex C.by d_J_feed_28 rfl (lv_at hv 0 rfl) ?_
    obtain ⟨b2, hb2, hw⟩ := hw
    refine fx_getR C F lf_J_14 hk1 rfl hb2 d_J_feed_29 ?_
    refine lv_iload_n C.ex C.by d_J_feed_32 rfl (lv_at hv 2 rfl) ?_
    obtain ⟨hk3, hw⟩ := hw
    refine fx_callV C F (c_Row_four hl hw) hm_Row_four hi_Row_four hv.1 (by decide) (Nat.le_of_ble_eq_true rfl) (iv_Row_four C F lm_J_103 hk3 d_J_feed_33) (fx_out0 _) fx_eno (fun h2 H locs cells slots hw hx2 F => ?_)
    replace hw := hw hx2
    have hk2 := (hx2).k hk2
    have hk3 := (hx2).k hk3
    have hk1 := (hx2).k hk1
    refine lv_aload_n C.ex C.by d_J_feed_36 rfl (lv_at hv 0 rfl) ?_
    obtain ⟨b3, hb3, hw⟩ := hw
    refine fx_getR C F lf_J_14 hk1 rfl hb3 d_J_feed_37 ?_
    refine lv_iload_n C.ex C.by d_J_feed_40 rfl (lv_at hv 3 rfl) ?_
    obtain ⟨hk4, hw⟩ := hw
    refine fx_callV C F (c_Row_four hl hw) hm_Row_four hi_Row_four hv.1 (by decide) (Nat.le_of_ble_eq_true rfl) (iv_Row_four C F lm_J_103 hk4 d_J_feed_41) (fx_out0 _) fx_eno (fun h3 H locs cells slots hw hx3 F => ?_)
    replace hw := hw hx3
    have hk2 := (hx3).k hk2
    have hk3 := (hx3).k hk3
    have hk4 := (hx3).k hk4
    have hk1 := (hx3).k hk1
    refine lv_aload_n C.ex C.by d_J_feed_44 rfl (lv_at hv 0 rfl) ?_
    obtain ⟨b4, hb4, hw⟩ := hw
    refine fx_getR C F lf_J_14 hk1 rfl hb4 d_J_feed_45 ?_
    refine lv_iload C.ex C.by d_J_feed_48 (lv_at hv 4 rfl) ?_
    obtain ⟨hk5, hw⟩ := hw
    refine fx_callV C F (c_Row_four hl hw) hm_Row_four hi_Row_four hv.1 (by decide) (Nat.le_of_ble_eq_true rfl) (iv_Row_four C F lm_J_103 hk5 d_J_feed_50) (fx_out0 _) fx_eno (fun h4 H locs cells slots hw hx4 F => ?_)
    replace hw := hw hx4
    have hk2 := (hx4).k hk2
    have hk3 := (hx4).k hk3
    have hk4 := (hx4).k hk4
    have hk5 := (hx4).k hk5
    have hk1 := (hx4).k hk1
    refine lv_aload_n C.ex C.by d_J_feed_53 rfl (lv_at hv 0 rfl) ?_
    obtain ⟨b5, hb5, hw⟩ := hw
    refine fx_getR C F lf_J_14 hk1 rfl hb5 d_J_feed_54 ?_
    refine lv_iload C.ex C.by d_J_feed_57 (lv_at hv 5 rfl) ?_
    obtain ⟨hk6, hw⟩ := hw
    refine fx_callV C F (c_Row_four hl hw) hm_Row_four hi_Row_four hv.1 (by decide) (Nat.le_of_ble_eq_true rfl) (iv_Row_four C F lm_J_103 hk6 d_J_feed_59) (fx_out0 _) fx_eno (fun h5 H locs cells slots hw hx5 F => ?_)
    replace hw := hw hx5
    have hk2 := (hx5).k hk2
    have hk3 := (hx5).k hk3
    have hk4 := (hx5).k hk4
    have hk5 := (hx5).k hk5
    have hk6 := (hx5).k hk6
    have hk1 := (hx5).k hk1
    refine lv_aload_n C.ex C.by d_J_feed_62 rfl (lv_at hv 0 rfl) ?_
    obtain ⟨b6, hb6, hw⟩ := hw
    refine fx_getR C F lf_J_14 hk1 rfl hb6 d_J_feed_63 ?_
    obtain ⟨hk7, hw⟩ := hw
    refine fx_getI C F lf_J_96 hk7 rfl d_J_feed_66 ?_
    exact fx_iret C F d_J_feed_69 (Or.inl ⟨_, rfl, hw⟩)
  · replace hw := hw.2 hc
    obtain ⟨hs, hw⟩ := hw
    let q1 : Nat := hp_z h
    let h6 : AH := up_N h 15 0 6
    replace hw := hw F.wf q1 rfl h6 rfl
    have hk2 := (F.xN (k := 15) (n := 0) (m := 6)).k hk2
    have hk1 := (F.xN (k := 15) (n := 0) (m := 6)).k hk1
    have hkq1 : hp_k h6 q1 = 15 := fx_nk _ _ _ _
    refine fx_exc (r := ("java/lang/IllegalStateException", fx_T14, 0)) (names := fx_rn) C F rfl rfl (fx_m2 (List.mem_of_getElem? (i := 185) rfl)) (fx_m1 (List.mem_of_getElem? (i := 19) rfl)) (by decide +kernel) (by decide +kernel) ex_J_102 hs hv.1 hl d_J_feed_12 d_J_feed_15 d_J_feed_16 (by decide) (Nat.le_of_ble_eq_true rfl) (fun H locs cells slots (F : fx_F D h0 h6 H locs cells slots) => ?_)
    exact fx_athrow C F (fx_out0 _) d_J_feed_19 (Or.inr ⟨_, rfl, hw⟩)
theorem hm_J_feed : fx_hd y_J_feed prog_1_method_5_code 6 (Option.some FieldType.int) [] ∈ tables_1 := (fx_m2 (List.mem_of_getElem? (i := 183) rfl))
theorem hi_J_feed : Cond.initialized y_J_feed.cls ∈ tables_1 := (fx_m1 (List.mem_of_getElem? (i := 1) rfl))
theorem c_J_feed {l : Launch} (hl : l.flags = flags0) {D : DD} {Q : Int32 → AH → Prop} {E : Nat → AH → Prop} {r0 : Nat} {x1 : Int32} {x2 : Int32} {x3 : Int32} {x4 : Int32} {x5 : Int32} {h : AH} (hw : m_J_feed Q E r0 x1 x2 x3 x4 x5 h) : fx_Mt l D y_J_feed (fx_hd y_J_feed prog_1_method_5_code 6 (Option.some FieldType.int) []) 6 81 [.ref r0, .int x1, .int x2, .int x3, .int x4, .int x5] h (fx_oI Q E) := by
  refine fx_ofW (plainFor_of_name (by decide)) (fun p e s m below meth c C F => ?_)
  have hv := lv_entry ([.ref r0, .int x1, .int x2, .int x3, .int x4, .int x5]) (n := 6) (Nat.le_of_ble_eq_true rfl)
  rw [lg_entry_eq]
  generalize (lg_sl ([.ref r0, .int x1, .int x2, .int x3, .int x4, .int x5]) ++ List.replicate (6 - (lg_sl ([.ref r0, .int x1, .int x2, .int x3, .int x4, .int x5])).length) Slot.unset).toArray = ls at hv ⊢
  have hv : lv_has ls 6 [(0, .ref r0), (1, .int x1), (2, .int x2), (3, .int x3), (4, .int x4), (5, .int x5)] := hv
  exact b_J_feed_0 C hl _ _ _ _ _ _ _ hw _ _ _ _ _ hv F
/-! ChainJudgeLaw.feed(LChainJudge;IIIII[J)I: frames 7, words 100 -/
abbrev y_Law_feed : MethodName := ⟨"ChainJudgeLaw", "feed", "(LChainJudge;IIIII[J)I"⟩
theorem lm_Law_7 : Cond.methodLink "ChainJudgeLaw" 7 y_J_feed ∈ tables_1 ∨ ∃ host, Cond.methodLinkNest "ChainJudgeLaw" 7 y_J_feed host ∈ tables_1 := Or.inl (fx_m2 (List.mem_of_getElem? (i := 180) rfl))
section
variable {p : Program} {l : Launch} {e : Env} {R : Room} {s : State} {m : MethodId} {args : Array Value} {below : List Frame} {meth : Method} {c : Code} {H : Heap} {locs : List Loc} {cells slots : Nat}
variable {D : DD} {y : MethodName} {cc : ByteArray} {nL kf kw : Nat} {ret : Option FieldType} {hh : List (Nat × Nat × Nat × Nat)} {h0 h : AH} {pc : Nat} {ls : Array Slot} {rest : List Value} {b idx : Nat}
theorem iv_J_feed {x1 : Int32} {x2 : Int32} {x3 : Int32} {x4 : Int32} {x5 : Int32} (C : fx_CX D y cc nL kf kw ret hh h0 p R s m meth c) (F : fx_F D h0 h H locs cells slots) (hw1 : Cond.methodLink y.cls idx y_J_feed ∈ tables_1 ∨ ∃ host, Cond.methodLinkNest y.cls idx y_J_feed host ∈ tables_1) (hk : hp_k h b = 1) (hd : decode cc pc = .ok (.invokevirtual idx, 3)) : fx_IV p l e R s m args below meth c H locs cells slots (F0 m pc ls (.int x5 :: .int x4 :: .int x3 :: .int x2 :: .int x1 :: .ref b :: rest)) rest y_J_feed [.ref b, .int x1, .int x2, .int x3, .int x4, .int x5] 3 := fun T hT X => fx_invV (As := [.int x1, .int x2, .int x3, .int x4, .int x5]) (Cn := "ChainJudge") C X hw1 (fx_m2 (List.mem_of_getElem? (i := 181) rfl)) (fx_selW C (fx_m2 (List.mem_of_getElem? (i := 182) rfl))) hm_J_feed ⟨by decide, by decide⟩ (by rw [hT]; exact fx_clsO (ci := 0) (r := ("ChainJudge", fx_T0, 16)) C F rfl (by decide) hk) rfl (n := 5) (by decide +kernel) rfl rfl hd
end
def dl_Law_feed : List (Nat × Instr × Nat) := [(0, .aload 6, 2), (2, .iconst 0, 1), (3, .aload_n 0, 1), (4, .iload_n 1, 1), (5, .iload_n 2, 1), (6, .iload_n 3, 1), (7, .iload 4, 2), (9, .iload 5, 2), (11, .invokevirtual 7, 3), (14, .i2l, 1), (15, .lastore, 1), (16, .goto 7, 3), (19, .astore 7, 2), (21, .iconst 1, 1), (22, .ireturn, 1), (23, .iconst 0, 1), (24, .ireturn, 1)]
theorem dk_Law_feed : fx_dec method_3_code dl_Law_feed = true := by decide +kernel
theorem d_Law_feed_0 : decode method_3_code 0 = .ok (.aload 6, 2) := fx_dat dk_Law_feed 0 rfl
theorem d_Law_feed_2 : decode method_3_code 2 = .ok (.iconst 0, 1) := fx_dat dk_Law_feed 1 rfl
theorem d_Law_feed_3 : decode method_3_code 3 = .ok (.aload_n 0, 1) := fx_dat dk_Law_feed 2 rfl
theorem d_Law_feed_4 : decode method_3_code 4 = .ok (.iload_n 1, 1) := fx_dat dk_Law_feed 3 rfl
theorem d_Law_feed_5 : decode method_3_code 5 = .ok (.iload_n 2, 1) := fx_dat dk_Law_feed 4 rfl
theorem d_Law_feed_6 : decode method_3_code 6 = .ok (.iload_n 3, 1) := fx_dat dk_Law_feed 5 rfl
theorem d_Law_feed_7 : decode method_3_code 7 = .ok (.iload 4, 2) := fx_dat dk_Law_feed 6 rfl
theorem d_Law_feed_9 : decode method_3_code 9 = .ok (.iload 5, 2) := fx_dat dk_Law_feed 7 rfl
theorem d_Law_feed_11 : decode method_3_code 11 = .ok (.invokevirtual 7, 3) := fx_dat dk_Law_feed 8 rfl
theorem d_Law_feed_14 : decode method_3_code 14 = .ok (.i2l, 1) := fx_dat dk_Law_feed 9 rfl
theorem d_Law_feed_15 : decode method_3_code 15 = .ok (.lastore, 1) := fx_dat dk_Law_feed 10 rfl
theorem d_Law_feed_16 : decode method_3_code 16 = .ok (.goto 7, 3) := fx_dat dk_Law_feed 11 rfl
theorem d_Law_feed_19 : decode method_3_code 19 = .ok (.astore 7, 2) := fx_dat dk_Law_feed 12 rfl
theorem d_Law_feed_21 : decode method_3_code 21 = .ok (.iconst 1, 1) := fx_dat dk_Law_feed 13 rfl
theorem d_Law_feed_22 : decode method_3_code 22 = .ok (.ireturn, 1) := fx_dat dk_Law_feed 14 rfl
theorem d_Law_feed_23 : decode method_3_code 23 = .ok (.iconst 0, 1) := fx_dat dk_Law_feed 15 rfl
theorem d_Law_feed_24 : decode method_3_code 24 = .ok (.ireturn, 1) := fx_dat dk_Law_feed 16 rfl
def m_Law_feed (Q : Int32 → AH → Prop) (r0 : Nat) (x1 : Int32) (x2 : Int32) (x3 : Int32) (x4 : Int32) (x5 : Int32) (r6 : Nat) (h : AH) : Prop := hp_k h r0 = 1 ∧ m_J_feed (fun v1 h1 => fx_ext h h1 → hp_k h1 r6 = 103 ∧ vp_in (0 : Int32) (hp_n h1 r6) ∧ ∀ h2 : AH, h2 = up_L h1 r6 ((0 : Int32)).toNatClampNeg ((v1).toInt64) → Q (0 : Int32) h2) (fun q1 h3 => fx_ext h h3 → (hp_k h3 q1 = 15 ∧ Q (1 : Int32) h3)) r0 x1 x2 x3 x4 x5 h
theorem b_Law_feed_0 {p : Program} {l : Launch} {e : Env} {R : Room} {s : State} {m : MethodId} {args : Array Value} {below : List Frame} {meth : Method} {c : Code} {D : DD} {h0 : AH} {Q : Int32 → AH → Prop} (C : fx_CX D y_Law_feed method_3_code 8 7 100 (Option.some FieldType.int) [(0, 16, 19, 13)] h0 p R s m meth c) (hl : l.flags = flags0) (r0 : Nat) (x1 : Int32) (x2 : Int32) (x3 : Int32) (x4 : Int32) (x5 : Int32) (r6 : Nat) (h : AH) (hw : m_Law_feed Q r0 x1 x2 x3 x4 x5 r6 h) : ∀ (ls : Array Slot) (H : Heap) (locs : List Loc) (cells slots : Nat), lv_has ls 8 [(0, .ref r0), (1, .int x1), (2, .int x2), (3, .int x3), (4, .int x4), (5, .int x5), (6, .ref r6)] → fx_F D h0 h H locs cells slots → W p l e R s m args below meth c H locs cells slots (fx_Z D below s h0 (fx_oI Q fx_no)) (F0 m 0 ls []) := by
  unfold m_Law_feed at hw
  intro ls H locs cells slots hv F
  refine lv_aload C.ex C.by d_Law_feed_0 (lv_at hv 6 rfl) ?_
  refine lv_iconst (v := (0 : Int32)) C.ex C.by d_Law_feed_2 (by decide) ?_
  refine lv_aload_n C.ex C.by d_Law_feed_3 rfl (lv_at hv 0 rfl) ?_
  refine lv_iload_n C.ex C.by d_Law_feed_4 rfl (lv_at hv 1 rfl) ?_
  refine lv_iload_n C.ex C.by d_Law_feed_5 rfl (lv_at hv 2 rfl) ?_
  refine lv_iload_n C.ex C.by d_Law_feed_6 rfl (lv_at hv 3 rfl) ?_
  refine lv_iload C.ex C.by d_Law_feed_7 (lv_at hv 4 rfl) ?_
  refine lv_iload C.ex C.by d_Law_feed_9 (lv_at hv 5 rfl) ?_
  obtain ⟨hk1, hw⟩ := hw
  refine fx_callIc C F (c_J_feed hl hw) hm_J_feed hi_J_feed hv.1 (by decide) (Nat.le_of_ble_eq_true rfl) (iv_J_feed C F lm_Law_7 hk1 d_Law_feed_11) (fun v1 h1 H locs cells slots hw hx1 F => ?_) (fun q1 h3 T locs cells slots hw hx1 F X => ?_)
  · replace hw := hw hx1
    have hk1 := (hx1).k hk1
    refine lv_i2l (v := ((v1).toInt64)) C.ex C.by d_Law_feed_14 rfl ?_
    obtain ⟨hk2, hw⟩ := hw
    obtain ⟨hi1, hw⟩ := hw
    let h2 : AH := up_L h1 r6 ((0 : Int32)).toNatClampNeg ((v1).toInt64)
    replace hw := hw h2 rfl
    refine fx_last C F hk2 hi1 d_Law_feed_15 (fun H locs (F : fx_F D h0 h2 H locs _ _) => ?_)
    refine lv_goto C.ex C.by d_Law_feed_16 rfl ?_
    refine lv_iconst (v := (0 : Int32)) C.ex C.by d_Law_feed_23 (by decide) ?_
    exact fx_iret C F d_Law_feed_24 (Or.inl ⟨_, rfl, hw⟩)
  · replace hw := hw hx1
    rcases hw with ⟨hk9, hw⟩
    · have hp0 : ∀ q ∈ ([] : List ((Nat × Nat × Nat × Nat) × String)), fx_passes "ChainJudgeLaw" "java/lang/IllegalStateException" 11 q := by
        intro q hq
        cases hq
      refine fx_caught (ci := 14) (r := ("java/lang/IllegalStateException", fx_T14, 0)) C F X rfl (by decide) hk9 [] (0, 16, 19, 13) [] "java/lang/IllegalStateException" rfl hp0 rfl (by decide) (fx_m2 (List.mem_of_getElem? (i := 179) rfl)) (fx_m2 (List.mem_of_getElem? (i := 187) rfl)) (fun H locs cells slots F => ?_)
      have hk1 := (hx1).k hk1
      refine lv_astore (lv' := [(7, .ref q1), (0, .ref r0), (1, .int x1), (2, .int x2), (3, .int x3), (4, .int x4), (5, .int x5), (6, .ref r6)]) C.ex C.by d_Law_feed_19 hv (by decide) rfl (fun ls hv => ?_)
      refine lv_iconst (v := (1 : Int32)) C.ex C.by d_Law_feed_21 (by decide) ?_
      exact fx_iret C F d_Law_feed_22 (Or.inl ⟨_, rfl, hw⟩)
theorem hm_Law_feed : fx_hd y_Law_feed method_3_code 8 (Option.some FieldType.int) [(0, 16, 19, 13)] ∈ tables_1 := (fx_m2 (List.mem_of_getElem? (i := 178) rfl))
theorem hi_Law_feed : Cond.initialized y_Law_feed.cls ∈ tables_1 := (fx_m1 (List.mem_of_getElem? (i := 0) rfl))
theorem c_Law_feed {l : Launch} (hl : l.flags = flags0) {D : DD} {Q : Int32 → AH → Prop} {r0 : Nat} {x1 : Int32} {x2 : Int32} {x3 : Int32} {x4 : Int32} {x5 : Int32} {r6 : Nat} {h : AH} (hw : m_Law_feed Q r0 x1 x2 x3 x4 x5 r6 h) : fx_Mt l D y_Law_feed (fx_hd y_Law_feed method_3_code 8 (Option.some FieldType.int) [(0, 16, 19, 13)]) 7 100 [.ref r0, .int x1, .int x2, .int x3, .int x4, .int x5, .ref r6] h (fx_oI Q fx_no) := by
  refine fx_ofW (plainFor_of_name (by decide)) (fun p e s m below meth c C F => ?_)
  have hv := lv_entry ([.ref r0, .int x1, .int x2, .int x3, .int x4, .int x5, .ref r6]) (n := 8) (Nat.le_of_ble_eq_true rfl)
  rw [lg_entry_eq]
  generalize (lg_sl ([.ref r0, .int x1, .int x2, .int x3, .int x4, .int x5, .ref r6]) ++ List.replicate (8 - (lg_sl ([.ref r0, .int x1, .int x2, .int x3, .int x4, .int x5, .ref r6])).length) Slot.unset).toArray = ls at hv ⊢
  have hv : lv_has ls 8 [(0, .ref r0), (1, .int x1), (2, .int x2), (3, .int x3), (4, .int x4), (5, .int x5), (6, .ref r6)] := hv
  exact b_Law_feed_0 C hl _ _ _ _ _ _ _ _ hw _ _ _ _ _ hv F
/-! ChainJudge.end(I)I: frames 6, words 81, throws -/
abbrev y_J_end : MethodName := ⟨"ChainJudge", "end", "(I)I"⟩
theorem ex_J_109 : fx_eW "ChainJudge" 109 "java/lang/IllegalArgumentException" fx_rn := fx_eWmk (fx_m3 (List.mem_of_getElem? (i := 46) rfl)) (fx_m3 (List.mem_of_getElem? (i := 47) rfl)) (fx_m3 (List.mem_of_getElem? (i := 48) rfl)) (fx_m3 (List.mem_of_getElem? (i := 45) rfl)) (fx_m3 (List.mem_of_getElem? (i := 37) rfl)) (fx_m3 (List.mem_of_getElem? (i := 38) rfl)) (fx_m3 (List.mem_of_getElem? (i := 39) rfl)) (fx_m2 (List.mem_of_getElem? (i := 218) rfl)) (fx_m3 (List.mem_of_getElem? (i := 40) rfl)) (fx_m3 (List.mem_of_getElem? (i := 41) rfl)) (fx_m3 (List.mem_of_getElem? (i := 42) rfl)) (fx_m3 (List.mem_of_getElem? (i := 43) rfl)) (fx_m3 (List.mem_of_getElem? (i := 44) rfl))
def dl_J_end : List (Nat × Instr × Nat) := [(0, .iload_n 1, 1), (1, .ifCond .lt 14, 3), (4, .iload_n 1, 1), (5, .aload_n 0, 1), (6, .getfield 14, 3), (9, .getfield 96, 3), (12, .if_icmp .le 11, 3), (15, .new 107, 3), (18, .dup, 1), (19, .invokespecial 109, 3), (22, .athrow, 1), (23, .aload_n 0, 1), (24, .getfield 14, 3), (27, .iload_n 1, 1), (28, .putfield 96, 3), (31, .iload_n 1, 1), (32, .ireturn, 1)]
theorem dk_J_end : fx_dec prog_1_method_6_code dl_J_end = true := by decide +kernel
theorem d_J_end_0 : decode prog_1_method_6_code 0 = .ok (.iload_n 1, 1) := fx_dat dk_J_end 0 rfl
theorem d_J_end_1 : decode prog_1_method_6_code 1 = .ok (.ifCond .lt 14, 3) := fx_dat dk_J_end 1 rfl
theorem d_J_end_4 : decode prog_1_method_6_code 4 = .ok (.iload_n 1, 1) := fx_dat dk_J_end 2 rfl
theorem d_J_end_5 : decode prog_1_method_6_code 5 = .ok (.aload_n 0, 1) := fx_dat dk_J_end 3 rfl
theorem d_J_end_6 : decode prog_1_method_6_code 6 = .ok (.getfield 14, 3) := fx_dat dk_J_end 4 rfl
theorem d_J_end_9 : decode prog_1_method_6_code 9 = .ok (.getfield 96, 3) := fx_dat dk_J_end 5 rfl
theorem d_J_end_12 : decode prog_1_method_6_code 12 = .ok (.if_icmp .le 11, 3) := fx_dat dk_J_end 6 rfl
theorem d_J_end_15 : decode prog_1_method_6_code 15 = .ok (.new 107, 3) := fx_dat dk_J_end 7 rfl
theorem d_J_end_18 : decode prog_1_method_6_code 18 = .ok (.dup, 1) := fx_dat dk_J_end 8 rfl
theorem d_J_end_19 : decode prog_1_method_6_code 19 = .ok (.invokespecial 109, 3) := fx_dat dk_J_end 9 rfl
theorem d_J_end_22 : decode prog_1_method_6_code 22 = .ok (.athrow, 1) := fx_dat dk_J_end 10 rfl
theorem d_J_end_23 : decode prog_1_method_6_code 23 = .ok (.aload_n 0, 1) := fx_dat dk_J_end 11 rfl
theorem d_J_end_24 : decode prog_1_method_6_code 24 = .ok (.getfield 14, 3) := fx_dat dk_J_end 12 rfl
theorem d_J_end_27 : decode prog_1_method_6_code 27 = .ok (.iload_n 1, 1) := fx_dat dk_J_end 13 rfl
theorem d_J_end_28 : decode prog_1_method_6_code 28 = .ok (.putfield 96, 3) := fx_dat dk_J_end 14 rfl
theorem d_J_end_31 : decode prog_1_method_6_code 31 = .ok (.iload_n 1, 1) := fx_dat dk_J_end 15 rfl
theorem d_J_end_32 : decode prog_1_method_6_code 32 = .ok (.ireturn, 1) := fx_dat dk_J_end 16 rfl
def m_J_end_15 (Q : Int32 → AH → Prop) (E : Nat → AH → Prop) (h : AH) : Prop := fx_has h 6 ∧ ∀ (_ : fx_wf h) (q1 : Nat), q1 = hp_z h → ∀ h1 : AH, h1 = up_N h 14 0 6 → E q1 h1
def m_J_end (Q : Int32 → AH → Prop) (E : Nat → AH → Prop) (r0 : Nat) (x1 : Int32) (h : AH) : Prop := (x1 < 0 → m_J_end_15 Q E h) ∧ (¬ x1 < 0 → hp_k h r0 = 1 ∧ ∃ b1, hp_R h r0 0 = some b1 ∧ hp_k h b1 = 2 ∧ (x1 ≤ (hp_I h b1 1) → ∀ h1 : AH, h1 = up_I h b1 1 x1 → Q x1 h1) ∧ (¬ x1 ≤ (hp_I h b1 1) → m_J_end_15 Q E h))
theorem b_J_end_15 {p : Program} {l : Launch} {e : Env} {R : Room} {s : State} {m : MethodId} {args : Array Value} {below : List Frame} {meth : Method} {c : Code} {D : DD} {h0 : AH} {Q : Int32 → AH → Prop} {E : Nat → AH → Prop} (C : fx_CX D y_J_end prog_1_method_6_code 2 6 81 (Option.some FieldType.int) [] h0 p R s m meth c) (hl : l.flags = flags0) (h : AH) (hw : m_J_end_15 Q E h) : ∀ (ls : Array Slot) (H : Heap) (locs : List Loc) (cells slots : Nat), lv_has ls 2 [] → fx_F D h0 h H locs cells slots → W p l e R s m args below meth c H locs cells slots (fx_Z D below s h0 (fx_oI Q E)) (F0 m 15 ls []) := by
  unfold m_J_end_15 at hw
  intro ls H locs cells slots hv F
  obtain ⟨hs, hw⟩ := hw
  let q1 : Nat := hp_z h
  let h1 : AH := up_N h 14 0 6
  replace hw := hw F.wf q1 rfl h1 rfl
  have hkq1 : hp_k h1 q1 = 14 := fx_nk _ _ _ _
  refine fx_exc (r := ("java/lang/IllegalArgumentException", fx_T13, 0)) (names := fx_rn) C F rfl rfl (fx_m3 (List.mem_of_getElem? (i := 36) rfl)) (fx_m1 (List.mem_of_getElem? (i := 22) rfl)) (by decide +kernel) (by decide +kernel) ex_J_109 hs hv.1 hl d_J_end_15 d_J_end_18 d_J_end_19 (by decide) (Nat.le_of_ble_eq_true rfl) (fun H locs cells slots (F : fx_F D h0 h1 H locs cells slots) => ?_)
  exact fx_athrow C F (fx_out0 _) d_J_end_22 (Or.inr ⟨_, rfl, hw⟩)
theorem b_J_end_0 {p : Program} {l : Launch} {e : Env} {R : Room} {s : State} {m : MethodId} {args : Array Value} {below : List Frame} {meth : Method} {c : Code} {D : DD} {h0 : AH} {Q : Int32 → AH → Prop} {E : Nat → AH → Prop} (C : fx_CX D y_J_end prog_1_method_6_code 2 6 81 (Option.some FieldType.int) [] h0 p R s m meth c) (hl : l.flags = flags0) (r0 : Nat) (x1 : Int32) (h : AH) (hw : m_J_end Q E r0 x1 h) : ∀ (ls : Array Slot) (H : Heap) (locs : List Loc) (cells slots : Nat), lv_has ls 2 [(0, .ref r0), (1, .int x1)] → fx_F D h0 h H locs cells slots → W p l e R s m args below meth c H locs cells slots (fx_Z D below s h0 (fx_oI Q E)) (F0 m 0 ls []) := by
  unfold m_J_end at hw
  intro ls H locs cells slots hv F
  refine lv_iload_n C.ex C.by d_J_end_0 rfl (lv_at hv 1 rfl) ?_
  refine lv_if_lt C.ex C.by d_J_end_1 rfl (fun hc => ?_) (fun hc => ?_)
  · replace hw := hw.1 hc
    exact b_J_end_15 C hl _ hw _ _ _ _ _ (lv_sub hv [] rfl) F
  · replace hw := hw.2 hc
    refine lv_iload_n C.ex C.by d_J_end_4 rfl (lv_at hv 1 rfl) ?_
    refine lv_aload_n C.ex C.by d_J_end_5 rfl (lv_at hv 0 rfl) ?_
    obtain ⟨hk1, hw⟩ := hw
    obtain ⟨b1, hb1, hw⟩ := hw
    refine fx_getR C F lf_J_14 hk1 rfl hb1 d_J_end_6 ?_
    obtain ⟨hk2, hw⟩ := hw
    refine fx_getI C F lf_J_96 hk2 rfl d_J_end_9 ?_
    refine lv_icmp_le C.ex C.by d_J_end_12 rfl (fun hc => ?_) (fun hc => ?_)
    · replace hw := hw.1 hc
      refine lv_aload_n C.ex C.by d_J_end_23 rfl (lv_at hv 0 rfl) ?_
      refine fx_getR C F lf_J_14 hk1 rfl hb1 d_J_end_24 ?_
      refine lv_iload_n C.ex C.by d_J_end_27 rfl (lv_at hv 1 rfl) ?_
      let h1 : AH := up_I h b1 1 x1
      replace hw := hw h1 rfl
      refine fx_putI C F lf_J_96 hk2 rfl rfl (fx_mayF.no rfl rfl) d_J_end_28 (fun H locs (F : fx_F D h0 h1 H locs _ _) => ?_)
      refine lv_iload_n C.ex C.by d_J_end_31 rfl (lv_at hv 1 rfl) ?_
      exact fx_iret C F d_J_end_32 (Or.inl ⟨_, rfl, hw⟩)
    · replace hw := hw.2 hc
      exact b_J_end_15 C hl _ hw _ _ _ _ _ (lv_sub hv [] rfl) F
theorem hm_J_end : fx_hd y_J_end prog_1_method_6_code 2 (Option.some FieldType.int) [] ∈ tables_1 := (fx_m3 (List.mem_of_getElem? (i := 35) rfl))
theorem hi_J_end : Cond.initialized y_J_end.cls ∈ tables_1 := (fx_m1 (List.mem_of_getElem? (i := 1) rfl))
theorem c_J_end {l : Launch} (hl : l.flags = flags0) {D : DD} {Q : Int32 → AH → Prop} {E : Nat → AH → Prop} {r0 : Nat} {x1 : Int32} {h : AH} (hw : m_J_end Q E r0 x1 h) : fx_Mt l D y_J_end (fx_hd y_J_end prog_1_method_6_code 2 (Option.some FieldType.int) []) 6 81 [.ref r0, .int x1] h (fx_oI Q E) := by
  refine fx_ofW (plainFor_of_name (by decide)) (fun p e s m below meth c C F => ?_)
  have hv := lv_entry ([.ref r0, .int x1]) (n := 2) (Nat.le_of_ble_eq_true rfl)
  rw [lg_entry_eq]
  generalize (lg_sl ([.ref r0, .int x1]) ++ List.replicate (2 - (lg_sl ([.ref r0, .int x1])).length) Slot.unset).toArray = ls at hv ⊢
  have hv : lv_has ls 2 [(0, .ref r0), (1, .int x1)] := hv
  exact b_J_end_0 C hl _ _ _ hw _ _ _ _ _ hv F
/-! ChainJudgeLaw.end(LChainJudge;I[J)I: frames 7, words 96 -/
abbrev y_Law_end : MethodName := ⟨"ChainJudgeLaw", "end", "(LChainJudge;I[J)I"⟩
theorem lm_Law_15 : Cond.methodLink "ChainJudgeLaw" 15 y_J_end ∈ tables_1 ∨ ∃ host, Cond.methodLinkNest "ChainJudgeLaw" 15 y_J_end host ∈ tables_1 := Or.inl (fx_m3 (List.mem_of_getElem? (i := 32) rfl))
section
variable {p : Program} {l : Launch} {e : Env} {R : Room} {s : State} {m : MethodId} {args : Array Value} {below : List Frame} {meth : Method} {c : Code} {H : Heap} {locs : List Loc} {cells slots : Nat}
variable {D : DD} {y : MethodName} {cc : ByteArray} {nL kf kw : Nat} {ret : Option FieldType} {hh : List (Nat × Nat × Nat × Nat)} {h0 h : AH} {pc : Nat} {ls : Array Slot} {rest : List Value} {b idx : Nat}
theorem iv_J_end {x1 : Int32} (C : fx_CX D y cc nL kf kw ret hh h0 p R s m meth c) (F : fx_F D h0 h H locs cells slots) (hw1 : Cond.methodLink y.cls idx y_J_end ∈ tables_1 ∨ ∃ host, Cond.methodLinkNest y.cls idx y_J_end host ∈ tables_1) (hk : hp_k h b = 1) (hd : decode cc pc = .ok (.invokevirtual idx, 3)) : fx_IV p l e R s m args below meth c H locs cells slots (F0 m pc ls (.int x1 :: .ref b :: rest)) rest y_J_end [.ref b, .int x1] 3 := fun T hT X => fx_invV (As := [.int x1]) (Cn := "ChainJudge") C X hw1 (fx_m3 (List.mem_of_getElem? (i := 33) rfl)) (fx_selW C (fx_m3 (List.mem_of_getElem? (i := 34) rfl))) hm_J_end ⟨by decide, by decide⟩ (by rw [hT]; exact fx_clsO (ci := 0) (r := ("ChainJudge", fx_T0, 16)) C F rfl (by decide) hk) rfl (n := 1) (by decide +kernel) rfl rfl hd
end
def dl_Law_end : List (Nat × Instr × Nat) := [(0, .aload_n 2, 1), (1, .iconst 0, 1), (2, .aload_n 0, 1), (3, .iload_n 1, 1), (4, .invokevirtual 15, 3), (7, .i2l, 1), (8, .lastore, 1), (9, .goto 6, 3), (12, .astore_n 3, 1), (13, .iconst 1, 1), (14, .ireturn, 1), (15, .iconst 0, 1), (16, .ireturn, 1)]
theorem dk_Law_end : fx_dec method_4_code dl_Law_end = true := by decide +kernel
theorem d_Law_end_0 : decode method_4_code 0 = .ok (.aload_n 2, 1) := fx_dat dk_Law_end 0 rfl
theorem d_Law_end_1 : decode method_4_code 1 = .ok (.iconst 0, 1) := fx_dat dk_Law_end 1 rfl
theorem d_Law_end_2 : decode method_4_code 2 = .ok (.aload_n 0, 1) := fx_dat dk_Law_end 2 rfl
theorem d_Law_end_3 : decode method_4_code 3 = .ok (.iload_n 1, 1) := fx_dat dk_Law_end 3 rfl
theorem d_Law_end_4 : decode method_4_code 4 = .ok (.invokevirtual 15, 3) := fx_dat dk_Law_end 4 rfl
theorem d_Law_end_7 : decode method_4_code 7 = .ok (.i2l, 1) := fx_dat dk_Law_end 5 rfl
theorem d_Law_end_8 : decode method_4_code 8 = .ok (.lastore, 1) := fx_dat dk_Law_end 6 rfl
theorem d_Law_end_9 : decode method_4_code 9 = .ok (.goto 6, 3) := fx_dat dk_Law_end 7 rfl
theorem d_Law_end_12 : decode method_4_code 12 = .ok (.astore_n 3, 1) := fx_dat dk_Law_end 8 rfl
theorem d_Law_end_13 : decode method_4_code 13 = .ok (.iconst 1, 1) := fx_dat dk_Law_end 9 rfl
theorem d_Law_end_14 : decode method_4_code 14 = .ok (.ireturn, 1) := fx_dat dk_Law_end 10 rfl
theorem d_Law_end_15 : decode method_4_code 15 = .ok (.iconst 0, 1) := fx_dat dk_Law_end 11 rfl
theorem d_Law_end_16 : decode method_4_code 16 = .ok (.ireturn, 1) := fx_dat dk_Law_end 12 rfl
def m_Law_end (Q : Int32 → AH → Prop) (r0 : Nat) (x1 : Int32) (r2 : Nat) (h : AH) : Prop := hp_k h r0 = 1 ∧ m_J_end (fun v1 h1 => fx_ext h h1 → hp_k h1 r2 = 103 ∧ vp_in (0 : Int32) (hp_n h1 r2) ∧ ∀ h2 : AH, h2 = up_L h1 r2 ((0 : Int32)).toNatClampNeg ((v1).toInt64) → Q (0 : Int32) h2) (fun q1 h3 => fx_ext h h3 → (hp_k h3 q1 = 14 ∧ Q (1 : Int32) h3)) r0 x1 h
theorem b_Law_end_0 {p : Program} {l : Launch} {e : Env} {R : Room} {s : State} {m : MethodId} {args : Array Value} {below : List Frame} {meth : Method} {c : Code} {D : DD} {h0 : AH} {Q : Int32 → AH → Prop} (C : fx_CX D y_Law_end method_4_code 4 7 96 (Option.some FieldType.int) [(0, 9, 12, 19)] h0 p R s m meth c) (hl : l.flags = flags0) (r0 : Nat) (x1 : Int32) (r2 : Nat) (h : AH) (hw : m_Law_end Q r0 x1 r2 h) : ∀ (ls : Array Slot) (H : Heap) (locs : List Loc) (cells slots : Nat), lv_has ls 4 [(0, .ref r0), (1, .int x1), (2, .ref r2)] → fx_F D h0 h H locs cells slots → W p l e R s m args below meth c H locs cells slots (fx_Z D below s h0 (fx_oI Q fx_no)) (F0 m 0 ls []) := by
  unfold m_Law_end at hw
  intro ls H locs cells slots hv F
  refine lv_aload_n C.ex C.by d_Law_end_0 rfl (lv_at hv 2 rfl) ?_
  refine lv_iconst (v := (0 : Int32)) C.ex C.by d_Law_end_1 (by decide) ?_
  refine lv_aload_n C.ex C.by d_Law_end_2 rfl (lv_at hv 0 rfl) ?_
  refine lv_iload_n C.ex C.by d_Law_end_3 rfl (lv_at hv 1 rfl) ?_
  obtain ⟨hk1, hw⟩ := hw
  refine fx_callIc C F (c_J_end hl hw) hm_J_end hi_J_end hv.1 (by decide) (Nat.le_of_ble_eq_true rfl) (iv_J_end C F lm_Law_15 hk1 d_Law_end_4) (fun v1 h1 H locs cells slots hw hx1 F => ?_) (fun q1 h3 T locs cells slots hw hx1 F X => ?_)
  · replace hw := hw hx1
    have hk1 := (hx1).k hk1
    refine lv_i2l (v := ((v1).toInt64)) C.ex C.by d_Law_end_7 rfl ?_
    obtain ⟨hk2, hw⟩ := hw
    obtain ⟨hi1, hw⟩ := hw
    let h2 : AH := up_L h1 r2 ((0 : Int32)).toNatClampNeg ((v1).toInt64)
    replace hw := hw h2 rfl
    refine fx_last C F hk2 hi1 d_Law_end_8 (fun H locs (F : fx_F D h0 h2 H locs _ _) => ?_)
    refine lv_goto C.ex C.by d_Law_end_9 rfl ?_
    refine lv_iconst (v := (0 : Int32)) C.ex C.by d_Law_end_15 (by decide) ?_
    exact fx_iret C F d_Law_end_16 (Or.inl ⟨_, rfl, hw⟩)
  · replace hw := hw hx1
    rcases hw with ⟨hk9, hw⟩
    · have hp0 : ∀ q ∈ ([] : List ((Nat × Nat × Nat × Nat) × String)), fx_passes "ChainJudgeLaw" "java/lang/IllegalArgumentException" 4 q := by
        intro q hq
        cases hq
      refine fx_caught (ci := 13) (r := ("java/lang/IllegalArgumentException", fx_T13, 0)) C F X rfl (by decide) hk9 [] (0, 9, 12, 19) [] "java/lang/IllegalArgumentException" rfl hp0 rfl (by decide) (fx_m3 (List.mem_of_getElem? (i := 31) rfl)) (fx_m3 (List.mem_of_getElem? (i := 38) rfl)) (fun H locs cells slots F => ?_)
      have hk1 := (hx1).k hk1
      refine lv_astore_n (lv' := [(3, .ref q1), (0, .ref r0), (1, .int x1), (2, .ref r2)]) C.ex C.by d_Law_end_12 rfl hv (by decide) rfl (fun ls hv => ?_)
      refine lv_iconst (v := (1 : Int32)) C.ex C.by d_Law_end_13 (by decide) ?_
      exact fx_iret C F d_Law_end_14 (Or.inl ⟨_, rfl, hw⟩)
theorem hm_Law_end : fx_hd y_Law_end method_4_code 4 (Option.some FieldType.int) [(0, 9, 12, 19)] ∈ tables_1 := (fx_m3 (List.mem_of_getElem? (i := 30) rfl))
theorem hi_Law_end : Cond.initialized y_Law_end.cls ∈ tables_1 := (fx_m1 (List.mem_of_getElem? (i := 0) rfl))
theorem c_Law_end {l : Launch} (hl : l.flags = flags0) {D : DD} {Q : Int32 → AH → Prop} {r0 : Nat} {x1 : Int32} {r2 : Nat} {h : AH} (hw : m_Law_end Q r0 x1 r2 h) : fx_Mt l D y_Law_end (fx_hd y_Law_end method_4_code 4 (Option.some FieldType.int) [(0, 9, 12, 19)]) 7 96 [.ref r0, .int x1, .ref r2] h (fx_oI Q fx_no) := by
  refine fx_ofW (plainFor_of_name (by decide)) (fun p e s m below meth c C F => ?_)
  have hv := lv_entry ([.ref r0, .int x1, .ref r2]) (n := 4) (Nat.le_of_ble_eq_true rfl)
  rw [lg_entry_eq]
  generalize (lg_sl ([.ref r0, .int x1, .ref r2]) ++ List.replicate (4 - (lg_sl ([.ref r0, .int x1, .ref r2])).length) Slot.unset).toArray = ls at hv ⊢
  have hv : lv_has ls 4 [(0, .ref r0), (1, .int x1), (2, .ref r2)] := hv
  exact b_Law_end_0 C hl _ _ _ _ hw _ _ _ _ _ hv F
/-! java/lang/Math.min(II)I: frames 0, words 0 -/
abbrev y_Math_min : MethodName := ⟨"java/lang/Math", "min", "(II)I"⟩
def dl_Math_min : List (Nat × Instr × Nat) := [(0, .iload_n 0, 1), (1, .iload_n 1, 1), (2, .if_icmp .gt 7, 3), (5, .iload_n 0, 1), (6, .goto 4, 3), (9, .iload_n 1, 1), (10, .ireturn, 1)]
theorem dk_Math_min : fx_dec prog_24_method_69_code dl_Math_min = true := by decide +kernel
theorem d_Math_min_0 : decode prog_24_method_69_code 0 = .ok (.iload_n 0, 1) := fx_dat dk_Math_min 0 rfl
theorem d_Math_min_1 : decode prog_24_method_69_code 1 = .ok (.iload_n 1, 1) := fx_dat dk_Math_min 1 rfl
theorem d_Math_min_2 : decode prog_24_method_69_code 2 = .ok (.if_icmp .gt 7, 3) := fx_dat dk_Math_min 2 rfl
theorem d_Math_min_5 : decode prog_24_method_69_code 5 = .ok (.iload_n 0, 1) := fx_dat dk_Math_min 3 rfl
theorem d_Math_min_6 : decode prog_24_method_69_code 6 = .ok (.goto 4, 3) := fx_dat dk_Math_min 4 rfl
theorem d_Math_min_9 : decode prog_24_method_69_code 9 = .ok (.iload_n 1, 1) := fx_dat dk_Math_min 5 rfl
theorem d_Math_min_10 : decode prog_24_method_69_code 10 = .ok (.ireturn, 1) := fx_dat dk_Math_min 6 rfl
def m_Math_min_10 (Q : Int32 → AH → Prop) (sx0 : Int32) (h : AH) : Prop := Q sx0 h
def m_Math_min (Q : Int32 → AH → Prop) (x0 : Int32) (x1 : Int32) (h : AH) : Prop := (x1 < x0 → m_Math_min_10 Q x1 h) ∧ (¬ x1 < x0 → m_Math_min_10 Q x0 h)
theorem b_Math_min_10 {p : Program} {l : Launch} {e : Env} {R : Room} {s : State} {m : MethodId} {args : Array Value} {below : List Frame} {meth : Method} {c : Code} {D : DD} {h0 : AH} {Q : Int32 → AH → Prop} (C : fx_CX D y_Math_min prog_24_method_69_code 2 0 0 (Option.some FieldType.int) [] h0 p R s m meth c) (hl : l.flags = flags0) (sx0 : Int32) (h : AH) (hw : m_Math_min_10 Q sx0 h) : ∀ (ls : Array Slot) (H : Heap) (locs : List Loc) (cells slots : Nat), lv_has ls 2 [] → fx_F D h0 h H locs cells slots → W p l e R s m args below meth c H locs cells slots (fx_Z D below s h0 (fx_oI Q fx_no)) (F0 m 10 ls [.int sx0]) := by
  unfold m_Math_min_10 at hw
  intro ls H locs cells slots hv F
  exact fx_iret C F d_Math_min_10 (Or.inl ⟨_, rfl, hw⟩)
theorem b_Math_min_0 {p : Program} {l : Launch} {e : Env} {R : Room} {s : State} {m : MethodId} {args : Array Value} {below : List Frame} {meth : Method} {c : Code} {D : DD} {h0 : AH} {Q : Int32 → AH → Prop} (C : fx_CX D y_Math_min prog_24_method_69_code 2 0 0 (Option.some FieldType.int) [] h0 p R s m meth c) (hl : l.flags = flags0) (x0 : Int32) (x1 : Int32) (h : AH) (hw : m_Math_min Q x0 x1 h) : ∀ (ls : Array Slot) (H : Heap) (locs : List Loc) (cells slots : Nat), lv_has ls 2 [(0, .int x0), (1, .int x1)] → fx_F D h0 h H locs cells slots → W p l e R s m args below meth c H locs cells slots (fx_Z D below s h0 (fx_oI Q fx_no)) (F0 m 0 ls []) := by
  unfold m_Math_min at hw
  intro ls H locs cells slots hv F
  refine lv_iload_n C.ex C.by d_Math_min_0 rfl (lv_at hv 0 rfl) ?_
  refine lv_iload_n C.ex C.by d_Math_min_1 rfl (lv_at hv 1 rfl) ?_
  refine lv_icmp_gt C.ex C.by d_Math_min_2 rfl (fun hc => ?_) (fun hc => ?_)
  · replace hw := hw.1 hc
    refine lv_iload_n C.ex C.by d_Math_min_9 rfl (lv_at hv 1 rfl) ?_
    exact b_Math_min_10 C hl _ _ hw _ _ _ _ _ (lv_sub hv [] rfl) F
  · replace hw := hw.2 hc
    refine lv_iload_n C.ex C.by d_Math_min_5 rfl (lv_at hv 0 rfl) ?_
    refine lv_goto C.ex C.by d_Math_min_6 rfl ?_
    exact b_Math_min_10 C hl _ _ hw _ _ _ _ _ (lv_sub hv [] rfl) F
theorem hm_Math_min : fx_hd y_Math_min prog_24_method_69_code 2 (Option.some FieldType.int) [] ∈ tables_1 := (fx_m3 (List.mem_of_getElem? (i := 60) rfl))
theorem hi_Math_min : Cond.initialized y_Math_min.cls ∈ tables_1 := (fx_m1 (List.mem_of_getElem? (i := 20) rfl))
theorem c_Math_min {l : Launch} (hl : l.flags = flags0) {D : DD} {Q : Int32 → AH → Prop} {x0 : Int32} {x1 : Int32} {h : AH} (hw : m_Math_min Q x0 x1 h) : fx_Mt l D y_Math_min (fx_hd y_Math_min prog_24_method_69_code 2 (Option.some FieldType.int) []) 0 0 [.int x0, .int x1] h (fx_oI Q fx_no) := by
  refine fx_ofW (by decide +kernel) (fun p e s m below meth c C F => ?_)
  have hv := lv_entry ([.int x0, .int x1]) (n := 2) (Nat.le_of_ble_eq_true rfl)
  rw [lg_entry_eq]
  generalize (lg_sl ([.int x0, .int x1]) ++ List.replicate (2 - (lg_sl ([.int x0, .int x1])).length) Slot.unset).toArray = ls at hv ⊢
  have hv : lv_has ls 2 [(0, .int x0), (1, .int x1)] := hv
  exact b_Math_min_0 C hl _ _ _ hw _ _ _ _ _ hv F
/-! ChainJudge.key()I: frames 6, words 81, throws -/
abbrev y_J_key : MethodName := ⟨"ChainJudge", "key", "()I"⟩
theorem lf_J_110 : fx_Lk "ChainJudge" 110 1 0 := fx_Lk.mk (C := "ChainJudge$Row") (T := fx_T1) (N := 2) rfl (by decide) (by decide) (fx_m1 (List.mem_of_getElem? (i := 47) rfl))
theorem lm_J_113 : Cond.methodLink "ChainJudge" 113 y_Math_min ∈ tables_1 ∨ ∃ host, Cond.methodLinkNest "ChainJudge" 113 y_Math_min host ∈ tables_1 := Or.inl (fx_m3 (List.mem_of_getElem? (i := 58) rfl))
section
variable {p : Program} {l : Launch} {e : Env} {R : Room} {s : State} {m : MethodId} {args : Array Value} {below : List Frame} {meth : Method} {c : Code} {H : Heap} {locs : List Loc} {cells slots : Nat}
variable {D : DD} {y : MethodName} {cc : ByteArray} {nL kf kw : Nat} {ret : Option FieldType} {hh : List (Nat × Nat × Nat × Nat)} {h0 h : AH} {pc : Nat} {ls : Array Slot} {rest : List Value} {b idx : Nat}
theorem iv_Math_min {x0 : Int32} {x1 : Int32} (C : fx_CX D y cc nL kf kw ret hh h0 p R s m meth c) (F : fx_F D h0 h H locs cells slots) (hw1 : Cond.methodLink y.cls idx y_Math_min ∈ tables_1 ∨ ∃ host, Cond.methodLinkNest y.cls idx y_Math_min host ∈ tables_1) (hd : decode cc pc = .ok (.invokestatic idx, 3)) : fx_IV p l e R s m args below meth c H locs cells slots (F0 m pc ls (.int x1 :: .int x0 :: rest)) rest y_Math_min [.int x0, .int x1] 3 := fun T hT X => fx_invS (As := [.int x0, .int x1]) C X hw1 (fx_m3 (List.mem_of_getElem? (i := 59) rfl)) hi_Math_min hm_Math_min ⟨by decide, by decide⟩ rfl (n := 2) (by decide +kernel) rfl rfl hd
end
def dl_J_key : List (Nat × Instr × Nat) := [(0, .aload_n 0, 1), (1, .getfield 29, 3), (4, .bipush 100, 2), (6, .if_icmp .ne 11, 3), (9, .new 100, 3), (12, .dup, 1), (13, .invokespecial 102, 3), (16, .athrow, 1), (17, .bipush 32, 2), (19, .newarray .byte, 2), (21, .astore_n 1, 1), (22, .aload_n 0, 1), (23, .getfield 14, 3), (26, .getfield 110, 3), (29, .iconst 0, 1), (30, .aload_n 1, 1), (31, .iconst 0, 1), (32, .bipush 32, 2), (34, .aload_n 0, 1), (35, .getfield 14, 3), (38, .getfield 96, 3), (41, .invokestatic 113, 3), (44, .invokestatic 119, 3), (47, .aload_n 0, 1), (48, .getfield 25, 3), (51, .aload_n 0, 1), (52, .getfield 29, 3), (55, .aload_n 1, 1), (56, .aastore, 1), (57, .aload_n 0, 1), (58, .getfield 14, 3), (61, .iconst 0, 1), (62, .putfield 96, 3), (65, .aload_n 0, 1), (66, .dup, 1), (67, .getfield 29, 3), (70, .dup_x1, 1), (71, .iconst 1, 1), (72, .iadd, 1), (73, .putfield 29, 3), (76, .ireturn, 1)]
theorem dk_J_key : fx_dec prog_1_method_7_code dl_J_key = true := by decide +kernel
theorem d_J_key_0 : decode prog_1_method_7_code 0 = .ok (.aload_n 0, 1) := fx_dat dk_J_key 0 rfl
theorem d_J_key_1 : decode prog_1_method_7_code 1 = .ok (.getfield 29, 3) := fx_dat dk_J_key 1 rfl
theorem d_J_key_4 : decode prog_1_method_7_code 4 = .ok (.bipush 100, 2) := fx_dat dk_J_key 2 rfl
theorem d_J_key_6 : decode prog_1_method_7_code 6 = .ok (.if_icmp .ne 11, 3) := fx_dat dk_J_key 3 rfl
theorem d_J_key_9 : decode prog_1_method_7_code 9 = .ok (.new 100, 3) := fx_dat dk_J_key 4 rfl
theorem d_J_key_12 : decode prog_1_method_7_code 12 = .ok (.dup, 1) := fx_dat dk_J_key 5 rfl
theorem d_J_key_13 : decode prog_1_method_7_code 13 = .ok (.invokespecial 102, 3) := fx_dat dk_J_key 6 rfl
theorem d_J_key_16 : decode prog_1_method_7_code 16 = .ok (.athrow, 1) := fx_dat dk_J_key 7 rfl
theorem d_J_key_17 : decode prog_1_method_7_code 17 = .ok (.bipush 32, 2) := fx_dat dk_J_key 8 rfl
theorem d_J_key_19 : decode prog_1_method_7_code 19 = .ok (.newarray .byte, 2) := fx_dat dk_J_key 9 rfl
theorem d_J_key_21 : decode prog_1_method_7_code 21 = .ok (.astore_n 1, 1) := fx_dat dk_J_key 10 rfl
theorem d_J_key_22 : decode prog_1_method_7_code 22 = .ok (.aload_n 0, 1) := fx_dat dk_J_key 11 rfl
theorem d_J_key_23 : decode prog_1_method_7_code 23 = .ok (.getfield 14, 3) := fx_dat dk_J_key 12 rfl
theorem d_J_key_26 : decode prog_1_method_7_code 26 = .ok (.getfield 110, 3) := fx_dat dk_J_key 13 rfl
theorem d_J_key_29 : decode prog_1_method_7_code 29 = .ok (.iconst 0, 1) := fx_dat dk_J_key 14 rfl
theorem d_J_key_30 : decode prog_1_method_7_code 30 = .ok (.aload_n 1, 1) := fx_dat dk_J_key 15 rfl
theorem d_J_key_31 : decode prog_1_method_7_code 31 = .ok (.iconst 0, 1) := fx_dat dk_J_key 16 rfl
theorem d_J_key_32 : decode prog_1_method_7_code 32 = .ok (.bipush 32, 2) := fx_dat dk_J_key 17 rfl
theorem d_J_key_34 : decode prog_1_method_7_code 34 = .ok (.aload_n 0, 1) := fx_dat dk_J_key 18 rfl
theorem d_J_key_35 : decode prog_1_method_7_code 35 = .ok (.getfield 14, 3) := fx_dat dk_J_key 19 rfl
theorem d_J_key_38 : decode prog_1_method_7_code 38 = .ok (.getfield 96, 3) := fx_dat dk_J_key 20 rfl
theorem d_J_key_41 : decode prog_1_method_7_code 41 = .ok (.invokestatic 113, 3) := fx_dat dk_J_key 21 rfl
theorem d_J_key_44 : decode prog_1_method_7_code 44 = .ok (.invokestatic 119, 3) := fx_dat dk_J_key 22 rfl
theorem d_J_key_47 : decode prog_1_method_7_code 47 = .ok (.aload_n 0, 1) := fx_dat dk_J_key 23 rfl
theorem d_J_key_48 : decode prog_1_method_7_code 48 = .ok (.getfield 25, 3) := fx_dat dk_J_key 24 rfl
theorem d_J_key_51 : decode prog_1_method_7_code 51 = .ok (.aload_n 0, 1) := fx_dat dk_J_key 25 rfl
theorem d_J_key_52 : decode prog_1_method_7_code 52 = .ok (.getfield 29, 3) := fx_dat dk_J_key 26 rfl
theorem d_J_key_55 : decode prog_1_method_7_code 55 = .ok (.aload_n 1, 1) := fx_dat dk_J_key 27 rfl
theorem d_J_key_56 : decode prog_1_method_7_code 56 = .ok (.aastore, 1) := fx_dat dk_J_key 28 rfl
theorem d_J_key_57 : decode prog_1_method_7_code 57 = .ok (.aload_n 0, 1) := fx_dat dk_J_key 29 rfl
theorem d_J_key_58 : decode prog_1_method_7_code 58 = .ok (.getfield 14, 3) := fx_dat dk_J_key 30 rfl
theorem d_J_key_61 : decode prog_1_method_7_code 61 = .ok (.iconst 0, 1) := fx_dat dk_J_key 31 rfl
theorem d_J_key_62 : decode prog_1_method_7_code 62 = .ok (.putfield 96, 3) := fx_dat dk_J_key 32 rfl
theorem d_J_key_65 : decode prog_1_method_7_code 65 = .ok (.aload_n 0, 1) := fx_dat dk_J_key 33 rfl
theorem d_J_key_66 : decode prog_1_method_7_code 66 = .ok (.dup, 1) := fx_dat dk_J_key 34 rfl
theorem d_J_key_67 : decode prog_1_method_7_code 67 = .ok (.getfield 29, 3) := fx_dat dk_J_key 35 rfl
theorem d_J_key_70 : decode prog_1_method_7_code 70 = .ok (.dup_x1, 1) := fx_dat dk_J_key 36 rfl
theorem d_J_key_71 : decode prog_1_method_7_code 71 = .ok (.iconst 1, 1) := fx_dat dk_J_key 37 rfl
theorem d_J_key_72 : decode prog_1_method_7_code 72 = .ok (.iadd, 1) := fx_dat dk_J_key 38 rfl
theorem d_J_key_73 : decode prog_1_method_7_code 73 = .ok (.putfield 29, 3) := fx_dat dk_J_key 39 rfl
theorem d_J_key_76 : decode prog_1_method_7_code 76 = .ok (.ireturn, 1) := fx_dat dk_J_key 40 rfl
def m_J_key (Q : Int32 → AH → Prop) (E : Nat → AH → Prop) (r0 : Nat) (h : AH) : Prop := hp_k h r0 = 1 ∧ (¬ (hp_I h r0 3) = (100 : Int32) → fx_has h 32 ∧ ∀ (_ : fx_wf h) (q1 : Nat), q1 = hp_z h → ∀ h1 : AH, h1 = up_N h 101 32 32 → ∃ b1, hp_R h1 r0 0 = some b1 ∧ hp_k h1 b1 = 2 ∧ ∃ b2, hp_R h1 b1 0 = some b2 ∧ m_Math_min (fun v1 h2 => fx_ext h1 h2 → bk (hp_k h2 b2) ∧ ¬ (0 : Int32) < 0 ∧ ¬ (0 : Int32) < 0 ∧ ¬ v1 < 0 ∧ (0 : Int32).toNatClampNeg + v1.toNatClampNeg ≤ hp_n h2 b2 ∧ (0 : Int32).toNatClampNeg + v1.toNatClampNeg ≤ hp_n h2 q1 ∧ ∀ h3 : AH, h3 = up_CI h2 b2 (0 : Int32).toNatClampNeg q1 (0 : Int32).toNatClampNeg v1.toNatClampNeg → ∃ b3, hp_R h3 r0 2 = some b3 ∧ hp_k h3 b3 = 105 ∧ vp_in (hp_I h3 r0 3) (hp_n h3 b3) ∧ ∀ h4 : AH, h4 = up_R h3 b3 ((hp_I h3 r0 3)).toNatClampNeg (some q1) → ∃ b4, hp_R h4 r0 0 = some b4 ∧ hp_k h4 b4 = 2 ∧ ∀ h5 : AH, h5 = up_I h4 b4 1 (0 : Int32) → ∀ h6 : AH, h6 = up_I h5 r0 3 ((hp_I h5 r0 3) + (1 : Int32)) → Q (hp_I h5 r0 3) h6) (32 : Int32) (hp_I h1 b1 1) h1) ∧ ((hp_I h r0 3) = (100 : Int32) → fx_has h 6 ∧ ∀ (_ : fx_wf h) (q2 : Nat), q2 = hp_z h → ∀ h7 : AH, h7 = up_N h 15 0 6 → E q2 h7)
theorem b_J_key_0 {p : Program} {l : Launch} {e : Env} {R : Room} {s : State} {m : MethodId} {args : Array Value} {below : List Frame} {meth : Method} {c : Code} {D : DD} {h0 : AH} {Q : Int32 → AH → Prop} {E : Nat → AH → Prop} (C : fx_CX D y_J_key prog_1_method_7_code 2 6 81 (Option.some FieldType.int) [] h0 p R s m meth c) (hl : l.flags = flags0) (r0 : Nat) (h : AH) (hw : m_J_key Q E r0 h) : ∀ (ls : Array Slot) (H : Heap) (locs : List Loc) (cells slots : Nat), lv_has ls 2 [(0, .ref r0)] → fx_F D h0 h H locs cells slots → W p l e R s m args below meth c H locs cells slots (fx_Z D below s h0 (fx_oI Q E)) (F0 m 0 ls []) := by
  unfold m_J_key at hw
  intro ls H locs cells slots hv F
  refine lv_aload_n C.ex C.by d_J_key_0 rfl (lv_at hv 0 rfl) ?_
  obtain ⟨hk1, hw⟩ := hw
  refine fx_getI C F lf_J_29 hk1 rfl d_J_key_1 ?_
  refine lv_bipush (v := (100 : Int32)) C.ex C.by d_J_key_4 (by decide) ?_
  refine lv_icmp_ne C.ex C.by d_J_key_6 rfl (fun hc => ?_) (fun hc => ?_)
  · replace hw := hw.1 hc
    refine lv_bipush (v := (32 : Int32)) C.ex C.by d_J_key_17 (by decide) ?_
    obtain ⟨hs, hw⟩ := hw
    let q1 : Nat := hp_z h
    let h1 : AH := up_N h 101 32 32
    replace hw := hw F.wf q1 rfl h1 rfl
    have hk1 := (F.xN (k := 101) (n := 32) (m := 32)).k hk1
    have hkq1 : hp_k h1 q1 = 101 := fx_nk _ _ _ _
    refine fx_newaB (n := (32 : Int32)) C F (fx_m1 (List.mem_of_getElem? (i := 55) rfl)) (by decide) (by decide) hs d_J_key_19 (fun H cells slots (F : fx_F D h0 h1 H locs cells slots) => ?_)
    refine lv_astore_n (lv' := [(1, .ref q1), (0, .ref r0)]) C.ex C.by d_J_key_21 rfl hv (by decide) rfl (fun ls hv => ?_)
    refine lv_aload_n C.ex C.by d_J_key_22 rfl (lv_at hv 1 rfl) ?_
    obtain ⟨b1, hb1, hw⟩ := hw
    refine fx_getR C F lf_J_14 hk1 rfl hb1 d_J_key_23 ?_
    obtain ⟨hk2, hw⟩ := hw
    obtain ⟨b2, hb2, hw⟩ := hw
    refine fx_getR C F lf_J_110 hk2 rfl hb2 d_J_key_26 ?_
    refine lv_iconst (v := (0 : Int32)) C.ex C.by d_J_key_29 (by decide) ?_
    refine lv_aload_n C.ex C.by d_J_key_30 rfl (lv_at hv 0 rfl) ?_
    refine lv_iconst (v := (0 : Int32)) C.ex C.by d_J_key_31 (by decide) ?_
    refine lv_bipush (v := (32 : Int32)) C.ex C.by d_J_key_32 (by decide) ?_
    refine lv_aload_n C.ex C.by d_J_key_34 rfl (lv_at hv 1 rfl) ?_
    refine fx_getR C F lf_J_14 hk1 rfl hb1 d_J_key_35 ?_
    refine fx_getI C F lf_J_96 hk2 rfl d_J_key_38 ?_
    refine fx_callI C F (c_Math_min hl hw) hm_Math_min hi_Math_min hv.1 (by decide) (Nat.le_of_ble_eq_true rfl) (iv_Math_min C F lm_J_113 d_J_key_41) (fx_out0 _) fx_eno (fun v1 h2 H locs cells slots hw hx1 F => ?_)
    replace hw := hw hx1
    have hk2 := (hx1).k hk2
    have hkq1 := (hx1).k hkq1
    have hk1 := (hx1).k hk1
    obtain ⟨hk3, hw⟩ := hw
    obtain ⟨g1, g2, g3, g4, g5, hw⟩ := hw
    let h3 : AH := up_CI h2 b2 (0 : Int32).toNatClampNeg q1 (0 : Int32).toNatClampNeg v1.toNatClampNeg
    replace hw := hw h3 rfl
    refine fx_copyB C F (fx_m3 (List.mem_of_getElem? (i := 61) rfl)) (fx_m3 (List.mem_of_getElem? (i := 27) rfl)) (fx_m3 (List.mem_of_getElem? (i := 26) rfl)) (fx_m1 (List.mem_of_getElem? (i := 21) rfl)) hv.1 hk3 hkq1 g1 g2 g3 g4 g5 (by decide) (Nat.le_of_ble_eq_true rfl) d_J_key_44 (fun H locs (F : fx_F D h0 h3 H locs _ _) => ?_)
    refine lv_aload_n C.ex C.by d_J_key_47 rfl (lv_at hv 1 rfl) ?_
    obtain ⟨b3, hb3, hw⟩ := hw
    refine fx_getR C F lf_J_25 hk1 rfl hb3 d_J_key_48 ?_
    refine lv_aload_n C.ex C.by d_J_key_51 rfl (lv_at hv 1 rfl) ?_
    refine fx_getI C F lf_J_29 hk1 rfl d_J_key_52 ?_
    refine lv_aload_n C.ex C.by d_J_key_55 rfl (lv_at hv 0 rfl) ?_
    obtain ⟨hk4, hw⟩ := hw
    obtain ⟨hi1, hw⟩ := hw
    let h4 : AH := up_R h3 b3 ((hp_I h3 r0 3)).toNatClampNeg (some q1)
    replace hw := hw h4 rfl
    refine fx_aasb C F hk4 hi1 hkq1 d_J_key_56 (fun H locs (F : fx_F D h0 h4 H locs _ _) => ?_)
    refine lv_aload_n C.ex C.by d_J_key_57 rfl (lv_at hv 1 rfl) ?_
    obtain ⟨b4, hb4, hw⟩ := hw
    refine fx_getR C F lf_J_14 hk1 rfl hb4 d_J_key_58 ?_
    refine lv_iconst (v := (0 : Int32)) C.ex C.by d_J_key_61 (by decide) ?_
    obtain ⟨hk5, hw⟩ := hw
    let h5 : AH := up_I h4 b4 1 (0 : Int32)
    replace hw := hw h5 rfl
    refine fx_putI C F lf_J_96 hk5 rfl rfl (fx_mayF.no rfl rfl) d_J_key_62 (fun H locs (F : fx_F D h0 h5 H locs _ _) => ?_)
    refine lv_aload_n C.ex C.by d_J_key_65 rfl (lv_at hv 1 rfl) ?_
    refine lv_dup C.ex C.by d_J_key_66 rfl ?_
    refine fx_getI C F lf_J_29 hk1 rfl d_J_key_67 ?_
    refine lv_dup_x1 C.ex C.by d_J_key_70 rfl rfl ?_
    refine lv_iconst (v := (1 : Int32)) C.ex C.by d_J_key_71 (by decide) ?_
    refine lv_iadd C.ex C.by d_J_key_72 ?_
    let h6 : AH := up_I h5 r0 3 ((hp_I h5 r0 3) + (1 : Int32))
    replace hw := hw h6 rfl
    refine fx_putI C F lf_J_29 hk1 rfl rfl (fx_mayF.no rfl rfl) d_J_key_73 (fun H locs (F : fx_F D h0 h6 H locs _ _) => ?_)
    exact fx_iret C F d_J_key_76 (Or.inl ⟨_, rfl, hw⟩)
  · replace hw := hw.2 hc
    obtain ⟨hs, hw⟩ := hw
    let q2 : Nat := hp_z h
    let h7 : AH := up_N h 15 0 6
    replace hw := hw F.wf q2 rfl h7 rfl
    have hk1 := (F.xN (k := 15) (n := 0) (m := 6)).k hk1
    have hkq2 : hp_k h7 q2 = 15 := fx_nk _ _ _ _
    refine fx_exc (r := ("java/lang/IllegalStateException", fx_T14, 0)) (names := fx_rn) C F rfl rfl (fx_m2 (List.mem_of_getElem? (i := 185) rfl)) (fx_m1 (List.mem_of_getElem? (i := 19) rfl)) (by decide +kernel) (by decide +kernel) ex_J_102 hs hv.1 hl d_J_key_9 d_J_key_12 d_J_key_13 (by decide) (Nat.le_of_ble_eq_true rfl) (fun H locs cells slots (F : fx_F D h0 h7 H locs cells slots) => ?_)
    exact fx_athrow C F (fx_out0 _) d_J_key_16 (Or.inr ⟨_, rfl, hw⟩)
theorem hm_J_key : fx_hd y_J_key prog_1_method_7_code 2 (Option.some FieldType.int) [] ∈ tables_1 := (fx_m3 (List.mem_of_getElem? (i := 57) rfl))
theorem hi_J_key : Cond.initialized y_J_key.cls ∈ tables_1 := (fx_m1 (List.mem_of_getElem? (i := 1) rfl))
theorem c_J_key {l : Launch} (hl : l.flags = flags0) {D : DD} {Q : Int32 → AH → Prop} {E : Nat → AH → Prop} {r0 : Nat} {h : AH} (hw : m_J_key Q E r0 h) : fx_Mt l D y_J_key (fx_hd y_J_key prog_1_method_7_code 2 (Option.some FieldType.int) []) 6 81 [.ref r0] h (fx_oI Q E) := by
  refine fx_ofW (plainFor_of_name (by decide)) (fun p e s m below meth c C F => ?_)
  have hv := lv_entry ([.ref r0]) (n := 2) (Nat.le_of_ble_eq_true rfl)
  rw [lg_entry_eq]
  generalize (lg_sl ([.ref r0]) ++ List.replicate (2 - (lg_sl ([.ref r0])).length) Slot.unset).toArray = ls at hv ⊢
  have hv : lv_has ls 2 [(0, .ref r0)] := hv
  exact b_J_key_0 C hl _ _ hw _ _ _ _ _ hv F
/-! ChainJudgeLaw.key(LChainJudge;[J)I: frames 7, words 96 -/
abbrev y_Law_key : MethodName := ⟨"ChainJudgeLaw", "key", "(LChainJudge;[J)I"⟩
theorem lm_Law_21 : Cond.methodLink "ChainJudgeLaw" 21 y_J_key ∈ tables_1 ∨ ∃ host, Cond.methodLinkNest "ChainJudgeLaw" 21 y_J_key host ∈ tables_1 := Or.inl (fx_m3 (List.mem_of_getElem? (i := 54) rfl))
section
variable {p : Program} {l : Launch} {e : Env} {R : Room} {s : State} {m : MethodId} {args : Array Value} {below : List Frame} {meth : Method} {c : Code} {H : Heap} {locs : List Loc} {cells slots : Nat}
variable {D : DD} {y : MethodName} {cc : ByteArray} {nL kf kw : Nat} {ret : Option FieldType} {hh : List (Nat × Nat × Nat × Nat)} {h0 h : AH} {pc : Nat} {ls : Array Slot} {rest : List Value} {b idx : Nat}
theorem iv_J_key (C : fx_CX D y cc nL kf kw ret hh h0 p R s m meth c) (F : fx_F D h0 h H locs cells slots) (hw1 : Cond.methodLink y.cls idx y_J_key ∈ tables_1 ∨ ∃ host, Cond.methodLinkNest y.cls idx y_J_key host ∈ tables_1) (hk : hp_k h b = 1) (hd : decode cc pc = .ok (.invokevirtual idx, 3)) : fx_IV p l e R s m args below meth c H locs cells slots (F0 m pc ls (.ref b :: rest)) rest y_J_key [.ref b] 3 := fun T hT X => fx_invV (As := []) (Cn := "ChainJudge") C X hw1 (fx_m3 (List.mem_of_getElem? (i := 55) rfl)) (fx_selW C (fx_m3 (List.mem_of_getElem? (i := 56) rfl))) hm_J_key ⟨by decide, by decide⟩ (by rw [hT]; exact fx_clsO (ci := 0) (r := ("ChainJudge", fx_T0, 16)) C F rfl (by decide) hk) rfl (n := 0) (by decide +kernel) rfl rfl hd
end
def dl_Law_key : List (Nat × Instr × Nat) := [(0, .aload_n 1, 1), (1, .iconst 0, 1), (2, .aload_n 0, 1), (3, .invokevirtual 21, 3), (6, .i2l, 1), (7, .lastore, 1), (8, .goto 6, 3), (11, .astore_n 2, 1), (12, .iconst 1, 1), (13, .ireturn, 1), (14, .iconst 0, 1), (15, .ireturn, 1)]
theorem dk_Law_key : fx_dec method_5_code dl_Law_key = true := by decide +kernel
theorem d_Law_key_0 : decode method_5_code 0 = .ok (.aload_n 1, 1) := fx_dat dk_Law_key 0 rfl
theorem d_Law_key_1 : decode method_5_code 1 = .ok (.iconst 0, 1) := fx_dat dk_Law_key 1 rfl
theorem d_Law_key_2 : decode method_5_code 2 = .ok (.aload_n 0, 1) := fx_dat dk_Law_key 2 rfl
theorem d_Law_key_3 : decode method_5_code 3 = .ok (.invokevirtual 21, 3) := fx_dat dk_Law_key 3 rfl
theorem d_Law_key_6 : decode method_5_code 6 = .ok (.i2l, 1) := fx_dat dk_Law_key 4 rfl
theorem d_Law_key_7 : decode method_5_code 7 = .ok (.lastore, 1) := fx_dat dk_Law_key 5 rfl
theorem d_Law_key_8 : decode method_5_code 8 = .ok (.goto 6, 3) := fx_dat dk_Law_key 6 rfl
theorem d_Law_key_11 : decode method_5_code 11 = .ok (.astore_n 2, 1) := fx_dat dk_Law_key 7 rfl
theorem d_Law_key_12 : decode method_5_code 12 = .ok (.iconst 1, 1) := fx_dat dk_Law_key 8 rfl
theorem d_Law_key_13 : decode method_5_code 13 = .ok (.ireturn, 1) := fx_dat dk_Law_key 9 rfl
theorem d_Law_key_14 : decode method_5_code 14 = .ok (.iconst 0, 1) := fx_dat dk_Law_key 10 rfl
theorem d_Law_key_15 : decode method_5_code 15 = .ok (.ireturn, 1) := fx_dat dk_Law_key 11 rfl
def m_Law_key (Q : Int32 → AH → Prop) (r0 : Nat) (r1 : Nat) (h : AH) : Prop := hp_k h r0 = 1 ∧ m_J_key (fun v1 h1 => fx_ext h h1 → hp_k h1 r1 = 103 ∧ vp_in (0 : Int32) (hp_n h1 r1) ∧ ∀ h2 : AH, h2 = up_L h1 r1 ((0 : Int32)).toNatClampNeg ((v1).toInt64) → Q (0 : Int32) h2) (fun q1 h3 => fx_ext h h3 → (hp_k h3 q1 = 15 ∧ Q (1 : Int32) h3)) r0 h
theorem b_Law_key_0 {p : Program} {l : Launch} {e : Env} {R : Room} {s : State} {m : MethodId} {args : Array Value} {below : List Frame} {meth : Method} {c : Code} {D : DD} {h0 : AH} {Q : Int32 → AH → Prop} (C : fx_CX D y_Law_key method_5_code 3 7 96 (Option.some FieldType.int) [(0, 8, 11, 13)] h0 p R s m meth c) (hl : l.flags = flags0) (r0 : Nat) (r1 : Nat) (h : AH) (hw : m_Law_key Q r0 r1 h) : ∀ (ls : Array Slot) (H : Heap) (locs : List Loc) (cells slots : Nat), lv_has ls 3 [(0, .ref r0), (1, .ref r1)] → fx_F D h0 h H locs cells slots → W p l e R s m args below meth c H locs cells slots (fx_Z D below s h0 (fx_oI Q fx_no)) (F0 m 0 ls []) := by
  unfold m_Law_key at hw
  intro ls H locs cells slots hv F
  refine lv_aload_n C.ex C.by d_Law_key_0 rfl (lv_at hv 1 rfl) ?_
  refine lv_iconst (v := (0 : Int32)) C.ex C.by d_Law_key_1 (by decide) ?_
  refine lv_aload_n C.ex C.by d_Law_key_2 rfl (lv_at hv 0 rfl) ?_
  obtain ⟨hk1, hw⟩ := hw
  refine fx_callIc C F (c_J_key hl hw) hm_J_key hi_J_key hv.1 (by decide) (Nat.le_of_ble_eq_true rfl) (iv_J_key C F lm_Law_21 hk1 d_Law_key_3) (fun v1 h1 H locs cells slots hw hx1 F => ?_) (fun q1 h3 T locs cells slots hw hx1 F X => ?_)
  · replace hw := hw hx1
    have hk1 := (hx1).k hk1
    refine lv_i2l (v := ((v1).toInt64)) C.ex C.by d_Law_key_6 rfl ?_
    obtain ⟨hk2, hw⟩ := hw
    obtain ⟨hi1, hw⟩ := hw
    let h2 : AH := up_L h1 r1 ((0 : Int32)).toNatClampNeg ((v1).toInt64)
    replace hw := hw h2 rfl
    refine fx_last C F hk2 hi1 d_Law_key_7 (fun H locs (F : fx_F D h0 h2 H locs _ _) => ?_)
    refine lv_goto C.ex C.by d_Law_key_8 rfl ?_
    refine lv_iconst (v := (0 : Int32)) C.ex C.by d_Law_key_14 (by decide) ?_
    exact fx_iret C F d_Law_key_15 (Or.inl ⟨_, rfl, hw⟩)
  · replace hw := hw hx1
    rcases hw with ⟨hk9, hw⟩
    · have hp0 : ∀ q ∈ ([] : List ((Nat × Nat × Nat × Nat) × String)), fx_passes "ChainJudgeLaw" "java/lang/IllegalStateException" 3 q := by
        intro q hq
        cases hq
      refine fx_caught (ci := 14) (r := ("java/lang/IllegalStateException", fx_T14, 0)) C F X rfl (by decide) hk9 [] (0, 8, 11, 13) [] "java/lang/IllegalStateException" rfl hp0 rfl (by decide) (fx_m2 (List.mem_of_getElem? (i := 179) rfl)) (fx_m2 (List.mem_of_getElem? (i := 187) rfl)) (fun H locs cells slots F => ?_)
      have hk1 := (hx1).k hk1
      refine lv_astore_n (lv' := [(2, .ref q1), (0, .ref r0), (1, .ref r1)]) C.ex C.by d_Law_key_11 rfl hv (by decide) rfl (fun ls hv => ?_)
      refine lv_iconst (v := (1 : Int32)) C.ex C.by d_Law_key_12 (by decide) ?_
      exact fx_iret C F d_Law_key_13 (Or.inl ⟨_, rfl, hw⟩)
theorem hm_Law_key : fx_hd y_Law_key method_5_code 3 (Option.some FieldType.int) [(0, 8, 11, 13)] ∈ tables_1 := (fx_m3 (List.mem_of_getElem? (i := 53) rfl))
theorem hi_Law_key : Cond.initialized y_Law_key.cls ∈ tables_1 := (fx_m1 (List.mem_of_getElem? (i := 0) rfl))
theorem c_Law_key {l : Launch} (hl : l.flags = flags0) {D : DD} {Q : Int32 → AH → Prop} {r0 : Nat} {r1 : Nat} {h : AH} (hw : m_Law_key Q r0 r1 h) : fx_Mt l D y_Law_key (fx_hd y_Law_key method_5_code 3 (Option.some FieldType.int) [(0, 8, 11, 13)]) 7 96 [.ref r0, .ref r1] h (fx_oI Q fx_no) := by
  refine fx_ofW (plainFor_of_name (by decide)) (fun p e s m below meth c C F => ?_)
  have hv := lv_entry ([.ref r0, .ref r1]) (n := 3) (Nat.le_of_ble_eq_true rfl)
  rw [lg_entry_eq]
  generalize (lg_sl ([.ref r0, .ref r1]) ++ List.replicate (3 - (lg_sl ([.ref r0, .ref r1])).length) Slot.unset).toArray = ls at hv ⊢
  have hv : lv_has ls 3 [(0, .ref r0), (1, .ref r1)] := hv
  exact b_Law_key_0 C hl _ _ _ hw _ _ _ _ _ hv F
/-! ChainJudge.check(III)V: frames 6, words 81, throws -/
abbrev y_J_check : MethodName := ⟨"ChainJudge", "check", "(III)V"⟩
def dl_J_check : List (Nat × Instr × Nat) := [(0, .iload_n 2, 1), (1, .ifCond .lt 32, 3), (4, .iload_n 3, 1), (5, .ifCond .lt 28, 3), (8, .iload_n 1, 1), (9, .ifCond .lt 24, 3), (12, .iload_n 1, 1), (13, .sipush 2047, 3), (16, .if_icmp .gt 17, 3), (19, .iload_n 1, 1), (20, .iconst 1, 1), (21, .iand, 1), (22, .ifCond .ne 19, 3), (25, .iload_n 1, 1), (26, .sipush 254, 3), (29, .iand, 1), (30, .ifCond .eq 11, 3), (33, .new 107, 3), (36, .dup, 1), (37, .invokespecial 109, 3), (40, .athrow, 1), (41, .return_, 1)]
theorem dk_J_check : fx_dec prog_1_method_11_code dl_J_check = true := by decide +kernel
theorem d_J_check_0 : decode prog_1_method_11_code 0 = .ok (.iload_n 2, 1) := fx_dat dk_J_check 0 rfl
theorem d_J_check_1 : decode prog_1_method_11_code 1 = .ok (.ifCond .lt 32, 3) := fx_dat dk_J_check 1 rfl
theorem d_J_check_4 : decode prog_1_method_11_code 4 = .ok (.iload_n 3, 1) := fx_dat dk_J_check 2 rfl
theorem d_J_check_5 : decode prog_1_method_11_code 5 = .ok (.ifCond .lt 28, 3) := fx_dat dk_J_check 3 rfl
theorem d_J_check_8 : decode prog_1_method_11_code 8 = .ok (.iload_n 1, 1) := fx_dat dk_J_check 4 rfl
theorem d_J_check_9 : decode prog_1_method_11_code 9 = .ok (.ifCond .lt 24, 3) := fx_dat dk_J_check 5 rfl
theorem d_J_check_12 : decode prog_1_method_11_code 12 = .ok (.iload_n 1, 1) := fx_dat dk_J_check 6 rfl
theorem d_J_check_13 : decode prog_1_method_11_code 13 = .ok (.sipush 2047, 3) := fx_dat dk_J_check 7 rfl
theorem d_J_check_16 : decode prog_1_method_11_code 16 = .ok (.if_icmp .gt 17, 3) := fx_dat dk_J_check 8 rfl
theorem d_J_check_19 : decode prog_1_method_11_code 19 = .ok (.iload_n 1, 1) := fx_dat dk_J_check 9 rfl
theorem d_J_check_20 : decode prog_1_method_11_code 20 = .ok (.iconst 1, 1) := fx_dat dk_J_check 10 rfl
theorem d_J_check_21 : decode prog_1_method_11_code 21 = .ok (.iand, 1) := fx_dat dk_J_check 11 rfl
theorem d_J_check_22 : decode prog_1_method_11_code 22 = .ok (.ifCond .ne 19, 3) := fx_dat dk_J_check 12 rfl
theorem d_J_check_25 : decode prog_1_method_11_code 25 = .ok (.iload_n 1, 1) := fx_dat dk_J_check 13 rfl
theorem d_J_check_26 : decode prog_1_method_11_code 26 = .ok (.sipush 254, 3) := fx_dat dk_J_check 14 rfl
theorem d_J_check_29 : decode prog_1_method_11_code 29 = .ok (.iand, 1) := fx_dat dk_J_check 15 rfl
theorem d_J_check_30 : decode prog_1_method_11_code 30 = .ok (.ifCond .eq 11, 3) := fx_dat dk_J_check 16 rfl
theorem d_J_check_33 : decode prog_1_method_11_code 33 = .ok (.new 107, 3) := fx_dat dk_J_check 17 rfl
theorem d_J_check_36 : decode prog_1_method_11_code 36 = .ok (.dup, 1) := fx_dat dk_J_check 18 rfl
theorem d_J_check_37 : decode prog_1_method_11_code 37 = .ok (.invokespecial 109, 3) := fx_dat dk_J_check 19 rfl
theorem d_J_check_40 : decode prog_1_method_11_code 40 = .ok (.athrow, 1) := fx_dat dk_J_check 20 rfl
theorem d_J_check_41 : decode prog_1_method_11_code 41 = .ok (.return_, 1) := fx_dat dk_J_check 21 rfl
def m_J_check_33 (Q : AH → Prop) (E : Nat → AH → Prop) (h : AH) : Prop := fx_has h 6 ∧ ∀ (_ : fx_wf h) (q1 : Nat), q1 = hp_z h → ∀ h1 : AH, h1 = up_N h 14 0 6 → E q1 h1
def m_J_check_41 (Q : AH → Prop) (E : Nat → AH → Prop) (h : AH) : Prop := Q h
def m_J_check (Q : AH → Prop) (E : Nat → AH → Prop) (r0 : Nat) (x1 : Int32) (x2 : Int32) (x3 : Int32) (h : AH) : Prop := (x2 < 0 → m_J_check_33 Q E h) ∧ (¬ x2 < 0 → (x3 < 0 → m_J_check_33 Q E h) ∧ (¬ x3 < 0 → (x1 < 0 → m_J_check_33 Q E h) ∧ (¬ x1 < 0 → ((2047 : Int32) < x1 → m_J_check_33 Q E h) ∧ (¬ (2047 : Int32) < x1 → (¬ (x1 &&& (1 : Int32)) = 0 → m_J_check_41 Q E h) ∧ ((x1 &&& (1 : Int32)) = 0 → ((x1 &&& (254 : Int32)) = 0 → m_J_check_41 Q E h) ∧ (¬ (x1 &&& (254 : Int32)) = 0 → m_J_check_33 Q E h))))))
theorem b_J_check_33 {p : Program} {l : Launch} {e : Env} {R : Room} {s : State} {m : MethodId} {args : Array Value} {below : List Frame} {meth : Method} {c : Code} {D : DD} {h0 : AH} {Q : AH → Prop} {E : Nat → AH → Prop} (C : fx_CX D y_J_check prog_1_method_11_code 4 6 81 (none) [] h0 p R s m meth c) (hl : l.flags = flags0) (h : AH) (hw : m_J_check_33 Q E h) : ∀ (ls : Array Slot) (H : Heap) (locs : List Loc) (cells slots : Nat), lv_has ls 4 [] → fx_F D h0 h H locs cells slots → W p l e R s m args below meth c H locs cells slots (fx_Z D below s h0 (fx_oV Q E)) (F0 m 33 ls []) := by
  unfold m_J_check_33 at hw
  intro ls H locs cells slots hv F
  obtain ⟨hs, hw⟩ := hw
  let q1 : Nat := hp_z h
  let h1 : AH := up_N h 14 0 6
  replace hw := hw F.wf q1 rfl h1 rfl
  have hkq1 : hp_k h1 q1 = 14 := fx_nk _ _ _ _
  refine fx_exc (r := ("java/lang/IllegalArgumentException", fx_T13, 0)) (names := fx_rn) C F rfl rfl (fx_m3 (List.mem_of_getElem? (i := 36) rfl)) (fx_m1 (List.mem_of_getElem? (i := 22) rfl)) (by decide +kernel) (by decide +kernel) ex_J_109 hs hv.1 hl d_J_check_33 d_J_check_36 d_J_check_37 (by decide) (Nat.le_of_ble_eq_true rfl) (fun H locs cells slots (F : fx_F D h0 h1 H locs cells slots) => ?_)
  exact fx_athrow C F (fx_out0 _) d_J_check_40 (Or.inr ⟨_, rfl, hw⟩)
theorem b_J_check_41 {p : Program} {l : Launch} {e : Env} {R : Room} {s : State} {m : MethodId} {args : Array Value} {below : List Frame} {meth : Method} {c : Code} {D : DD} {h0 : AH} {Q : AH → Prop} {E : Nat → AH → Prop} (C : fx_CX D y_J_check prog_1_method_11_code 4 6 81 (none) [] h0 p R s m meth c) (hl : l.flags = flags0) (h : AH) (hw : m_J_check_41 Q E h) : ∀ (ls : Array Slot) (H : Heap) (locs : List Loc) (cells slots : Nat), lv_has ls 4 [] → fx_F D h0 h H locs cells slots → W p l e R s m args below meth c H locs cells slots (fx_Z D below s h0 (fx_oV Q E)) (F0 m 41 ls []) := by
  unfold m_J_check_41 at hw
  intro ls H locs cells slots hv F
  exact fx_vret C F d_J_check_41 (Or.inl ⟨rfl, hw⟩)
theorem b_J_check_0 {p : Program} {l : Launch} {e : Env} {R : Room} {s : State} {m : MethodId} {args : Array Value} {below : List Frame} {meth : Method} {c : Code} {D : DD} {h0 : AH} {Q : AH → Prop} {E : Nat → AH → Prop} (C : fx_CX D y_J_check prog_1_method_11_code 4 6 81 (none) [] h0 p R s m meth c) (hl : l.flags = flags0) (r0 : Nat) (x1 : Int32) (x2 : Int32) (x3 : Int32) (h : AH) (hw : m_J_check Q E r0 x1 x2 x3 h) : ∀ (ls : Array Slot) (H : Heap) (locs : List Loc) (cells slots : Nat), lv_has ls 4 [(0, .ref r0), (1, .int x1), (2, .int x2), (3, .int x3)] → fx_F D h0 h H locs cells slots → W p l e R s m args below meth c H locs cells slots (fx_Z D below s h0 (fx_oV Q E)) (F0 m 0 ls []) := by
  unfold m_J_check at hw
  intro ls H locs cells slots hv F
  refine lv_iload_n C.ex C.by d_J_check_0 rfl (lv_at hv 2 rfl) ?_
  refine lv_if_lt C.ex C.by d_J_check_1 rfl (fun hc => ?_) (fun hc => ?_)
  · replace hw := hw.1 hc
    exact b_J_check_33 C hl _ hw _ _ _ _ _ (lv_sub hv [] rfl) F
  · replace hw := hw.2 hc
    refine lv_iload_n C.ex C.by d_J_check_4 rfl (lv_at hv 3 rfl) ?_
    refine lv_if_lt C.ex C.by d_J_check_5 rfl (fun hc => ?_) (fun hc => ?_)
    · replace hw := hw.1 hc
      exact b_J_check_33 C hl _ hw _ _ _ _ _ (lv_sub hv [] rfl) F
    · replace hw := hw.2 hc
      refine lv_iload_n C.ex C.by d_J_check_8 rfl (lv_at hv 1 rfl) ?_
      refine lv_if_lt C.ex C.by d_J_check_9 rfl (fun hc => ?_) (fun hc => ?_)
      · replace hw := hw.1 hc
        exact b_J_check_33 C hl _ hw _ _ _ _ _ (lv_sub hv [] rfl) F
      · replace hw := hw.2 hc
        refine lv_iload_n C.ex C.by d_J_check_12 rfl (lv_at hv 1 rfl) ?_
        refine lv_sipush (v := (2047 : Int32)) C.ex C.by d_J_check_13 (by decide) ?_
        refine lv_icmp_gt C.ex C.by d_J_check_16 rfl (fun hc => ?_) (fun hc => ?_)
        · replace hw := hw.1 hc
          exact b_J_check_33 C hl _ hw _ _ _ _ _ (lv_sub hv [] rfl) F
        · replace hw := hw.2 hc
          refine lv_iload_n C.ex C.by d_J_check_19 rfl (lv_at hv 1 rfl) ?_
          refine lv_iconst (v := (1 : Int32)) C.ex C.by d_J_check_20 (by decide) ?_
          refine lv_iand C.ex C.by d_J_check_21 ?_
          refine lv_if_ne C.ex C.by d_J_check_22 rfl (fun hc => ?_) (fun hc => ?_)
          · replace hw := hw.1 hc
            exact b_J_check_41 C hl _ hw _ _ _ _ _ (lv_sub hv [] rfl) F
          · replace hw := hw.2 hc
            refine lv_iload_n C.ex C.by d_J_check_25 rfl (lv_at hv 1 rfl) ?_
            refine lv_sipush (v := (254 : Int32)) C.ex C.by d_J_check_26 (by decide) ?_
            refine lv_iand C.ex C.by d_J_check_29 ?_
            refine lv_if_eq C.ex C.by d_J_check_30 rfl (fun hc => ?_) (fun hc => ?_)
            · replace hw := hw.1 hc
              exact b_J_check_41 C hl _ hw _ _ _ _ _ (lv_sub hv [] rfl) F
            · replace hw := hw.2 hc
              exact b_J_check_33 C hl _ hw _ _ _ _ _ (lv_sub hv [] rfl) F
theorem hm_J_check : fx_hd y_J_check prog_1_method_11_code 4 (none) [] ∈ tables_1 := (fx_m3 (List.mem_of_getElem? (i := 89) rfl))
theorem hi_J_check : Cond.initialized y_J_check.cls ∈ tables_1 := (fx_m1 (List.mem_of_getElem? (i := 1) rfl))
theorem c_J_check {l : Launch} (hl : l.flags = flags0) {D : DD} {Q : AH → Prop} {E : Nat → AH → Prop} {r0 : Nat} {x1 : Int32} {x2 : Int32} {x3 : Int32} {h : AH} (hw : m_J_check Q E r0 x1 x2 x3 h) : fx_Mt l D y_J_check (fx_hd y_J_check prog_1_method_11_code 4 (none) []) 6 81 [.ref r0, .int x1, .int x2, .int x3] h (fx_oV Q E) := by
  refine fx_ofW (plainFor_of_name (by decide)) (fun p e s m below meth c C F => ?_)
  have hv := lv_entry ([.ref r0, .int x1, .int x2, .int x3]) (n := 4) (Nat.le_of_ble_eq_true rfl)
  rw [lg_entry_eq]
  generalize (lg_sl ([.ref r0, .int x1, .int x2, .int x3]) ++ List.replicate (4 - (lg_sl ([.ref r0, .int x1, .int x2, .int x3])).length) Slot.unset).toArray = ls at hv ⊢
  have hv : lv_has ls 4 [(0, .ref r0), (1, .int x1), (2, .int x2), (3, .int x3)] := hv
  exact b_J_check_0 C hl _ _ _ _ _ hw _ _ _ _ _ hv F
/-! ChainJudge.nameSize()I: frames 6, words 81, throws -/
abbrev y_J_nameSize : MethodName := ⟨"ChainJudge", "nameSize", "()I"⟩
def dl_J_nameSize : List (Nat × Instr × Nat) := [(0, .iconst (-1), 1), (1, .istore_n 1, 1), (2, .iconst 0, 1), (3, .istore_n 2, 1), (4, .iconst 0, 1), (5, .istore_n 3, 1), (6, .iload_n 3, 1), (7, .aload_n 0, 1), (8, .getfield 14, 3), (11, .getfield 96, 3), (14, .if_icmp .gt 109, 3), (17, .iload_n 3, 1), (18, .aload_n 0, 1), (19, .getfield 14, 3), (22, .getfield 96, 3), (25, .if_icmp .ge 15, 3), (28, .aload_n 0, 1), (29, .getfield 14, 3), (32, .getfield 110, 3), (35, .iload_n 3, 1), (36, .baload, 1), (37, .goto 5, 3), (40, .bipush 44, 2), (42, .istore 4, 2), (44, .iload 4, 2), (46, .bipush 33, 2), (48, .if_icmp .lt 10, 3), (51, .iload 4, 2), (53, .bipush 126, 2), (55, .if_icmp .le 11, 3), (58, .new 107, 3), (61, .dup, 1), (62, .invokespecial 109, 3), (65, .athrow, 1), (66, .iload 4, 2), (68, .bipush 44, 2), (70, .if_icmp .eq 6, 3), (73, .goto 44, 3), (76, .iload_n 3, 1), (77, .iload_n 2, 1), (78, .if_icmp .eq 21, 3), (81, .iload_n 3, 1), (82, .iload_n 2, 1), (83, .isub, 1), (84, .iload_n 1, 1), (85, .ifCond .ge 8, 3), (88, .bipush 64, 2), (90, .goto 6, 3), (93, .sipush 250, 3), (96, .if_icmp .le 11, 3), (99, .new 107, 3), (102, .dup, 1), (103, .invokespecial 109, 3), (106, .athrow, 1), (107, .iload_n 1, 1), (108, .ifCond .ge 5, 3), (111, .iload_n 3, 1), (112, .istore_n 1, 1), (113, .iload_n 3, 1), (114, .iconst 1, 1), (115, .iadd, 1), (116, .istore_n 2, 1), (117, .iinc 3 1, 3), (120, .goto (-114), 3), (123, .iload_n 1, 1), (124, .ireturn, 1)]
theorem dk_J_nameSize : fx_dec prog_1_method_10_code dl_J_nameSize = true := by decide +kernel
theorem d_J_nameSize_0 : decode prog_1_method_10_code 0 = .ok (.iconst (-1), 1) := fx_dat dk_J_nameSize 0 rfl
theorem d_J_nameSize_1 : decode prog_1_method_10_code 1 = .ok (.istore_n 1, 1) := fx_dat dk_J_nameSize 1 rfl
theorem d_J_nameSize_2 : decode prog_1_method_10_code 2 = .ok (.iconst 0, 1) := fx_dat dk_J_nameSize 2 rfl
theorem d_J_nameSize_3 : decode prog_1_method_10_code 3 = .ok (.istore_n 2, 1) := fx_dat dk_J_nameSize 3 rfl
theorem d_J_nameSize_4 : decode prog_1_method_10_code 4 = .ok (.iconst 0, 1) := fx_dat dk_J_nameSize 4 rfl
theorem d_J_nameSize_5 : decode prog_1_method_10_code 5 = .ok (.istore_n 3, 1) := fx_dat dk_J_nameSize 5 rfl
theorem d_J_nameSize_6 : decode prog_1_method_10_code 6 = .ok (.iload_n 3, 1) := fx_dat dk_J_nameSize 6 rfl
theorem d_J_nameSize_7 : decode prog_1_method_10_code 7 = .ok (.aload_n 0, 1) := fx_dat dk_J_nameSize 7 rfl
theorem d_J_nameSize_8 : decode prog_1_method_10_code 8 = .ok (.getfield 14, 3) := fx_dat dk_J_nameSize 8 rfl
theorem d_J_nameSize_11 : decode prog_1_method_10_code 11 = .ok (.getfield 96, 3) := fx_dat dk_J_nameSize 9 rfl
theorem d_J_nameSize_14 : decode prog_1_method_10_code 14 = .ok (.if_icmp .gt 109, 3) := fx_dat dk_J_nameSize 10 rfl
theorem d_J_nameSize_17 : decode prog_1_method_10_code 17 = .ok (.iload_n 3, 1) := fx_dat dk_J_nameSize 11 rfl
theorem d_J_nameSize_18 : decode prog_1_method_10_code 18 = .ok (.aload_n 0, 1) := fx_dat dk_J_nameSize 12 rfl
theorem d_J_nameSize_19 : decode prog_1_method_10_code 19 = .ok (.getfield 14, 3) := fx_dat dk_J_nameSize 13 rfl
theorem d_J_nameSize_22 : decode prog_1_method_10_code 22 = .ok (.getfield 96, 3) := fx_dat dk_J_nameSize 14 rfl
theorem d_J_nameSize_25 : decode prog_1_method_10_code 25 = .ok (.if_icmp .ge 15, 3) := fx_dat dk_J_nameSize 15 rfl
theorem d_J_nameSize_28 : decode prog_1_method_10_code 28 = .ok (.aload_n 0, 1) := fx_dat dk_J_nameSize 16 rfl
theorem d_J_nameSize_29 : decode prog_1_method_10_code 29 = .ok (.getfield 14, 3) := fx_dat dk_J_nameSize 17 rfl
theorem d_J_nameSize_32 : decode prog_1_method_10_code 32 = .ok (.getfield 110, 3) := fx_dat dk_J_nameSize 18 rfl
theorem d_J_nameSize_35 : decode prog_1_method_10_code 35 = .ok (.iload_n 3, 1) := fx_dat dk_J_nameSize 19 rfl
theorem d_J_nameSize_36 : decode prog_1_method_10_code 36 = .ok (.baload, 1) := fx_dat dk_J_nameSize 20 rfl
theorem d_J_nameSize_37 : decode prog_1_method_10_code 37 = .ok (.goto 5, 3) := fx_dat dk_J_nameSize 21 rfl
theorem d_J_nameSize_40 : decode prog_1_method_10_code 40 = .ok (.bipush 44, 2) := fx_dat dk_J_nameSize 22 rfl
theorem d_J_nameSize_42 : decode prog_1_method_10_code 42 = .ok (.istore 4, 2) := fx_dat dk_J_nameSize 23 rfl
theorem d_J_nameSize_44 : decode prog_1_method_10_code 44 = .ok (.iload 4, 2) := fx_dat dk_J_nameSize 24 rfl
theorem d_J_nameSize_46 : decode prog_1_method_10_code 46 = .ok (.bipush 33, 2) := fx_dat dk_J_nameSize 25 rfl
theorem d_J_nameSize_48 : decode prog_1_method_10_code 48 = .ok (.if_icmp .lt 10, 3) := fx_dat dk_J_nameSize 26 rfl
theorem d_J_nameSize_51 : decode prog_1_method_10_code 51 = .ok (.iload 4, 2) := fx_dat dk_J_nameSize 27 rfl
theorem d_J_nameSize_53 : decode prog_1_method_10_code 53 = .ok (.bipush 126, 2) := fx_dat dk_J_nameSize 28 rfl
theorem d_J_nameSize_55 : decode prog_1_method_10_code 55 = .ok (.if_icmp .le 11, 3) := fx_dat dk_J_nameSize 29 rfl
theorem d_J_nameSize_58 : decode prog_1_method_10_code 58 = .ok (.new 107, 3) := fx_dat dk_J_nameSize 30 rfl
theorem d_J_nameSize_61 : decode prog_1_method_10_code 61 = .ok (.dup, 1) := fx_dat dk_J_nameSize 31 rfl
theorem d_J_nameSize_62 : decode prog_1_method_10_code 62 = .ok (.invokespecial 109, 3) := fx_dat dk_J_nameSize 32 rfl
theorem d_J_nameSize_65 : decode prog_1_method_10_code 65 = .ok (.athrow, 1) := fx_dat dk_J_nameSize 33 rfl
theorem d_J_nameSize_66 : decode prog_1_method_10_code 66 = .ok (.iload 4, 2) := fx_dat dk_J_nameSize 34 rfl
theorem d_J_nameSize_68 : decode prog_1_method_10_code 68 = .ok (.bipush 44, 2) := fx_dat dk_J_nameSize 35 rfl
theorem d_J_nameSize_70 : decode prog_1_method_10_code 70 = .ok (.if_icmp .eq 6, 3) := fx_dat dk_J_nameSize 36 rfl
theorem d_J_nameSize_73 : decode prog_1_method_10_code 73 = .ok (.goto 44, 3) := fx_dat dk_J_nameSize 37 rfl
theorem d_J_nameSize_76 : decode prog_1_method_10_code 76 = .ok (.iload_n 3, 1) := fx_dat dk_J_nameSize 38 rfl
theorem d_J_nameSize_77 : decode prog_1_method_10_code 77 = .ok (.iload_n 2, 1) := fx_dat dk_J_nameSize 39 rfl
theorem d_J_nameSize_78 : decode prog_1_method_10_code 78 = .ok (.if_icmp .eq 21, 3) := fx_dat dk_J_nameSize 40 rfl
theorem d_J_nameSize_81 : decode prog_1_method_10_code 81 = .ok (.iload_n 3, 1) := fx_dat dk_J_nameSize 41 rfl
theorem d_J_nameSize_82 : decode prog_1_method_10_code 82 = .ok (.iload_n 2, 1) := fx_dat dk_J_nameSize 42 rfl
theorem d_J_nameSize_83 : decode prog_1_method_10_code 83 = .ok (.isub, 1) := fx_dat dk_J_nameSize 43 rfl
theorem d_J_nameSize_84 : decode prog_1_method_10_code 84 = .ok (.iload_n 1, 1) := fx_dat dk_J_nameSize 44 rfl
theorem d_J_nameSize_85 : decode prog_1_method_10_code 85 = .ok (.ifCond .ge 8, 3) := fx_dat dk_J_nameSize 45 rfl
theorem d_J_nameSize_88 : decode prog_1_method_10_code 88 = .ok (.bipush 64, 2) := fx_dat dk_J_nameSize 46 rfl
theorem d_J_nameSize_90 : decode prog_1_method_10_code 90 = .ok (.goto 6, 3) := fx_dat dk_J_nameSize 47 rfl
theorem d_J_nameSize_93 : decode prog_1_method_10_code 93 = .ok (.sipush 250, 3) := fx_dat dk_J_nameSize 48 rfl
theorem d_J_nameSize_96 : decode prog_1_method_10_code 96 = .ok (.if_icmp .le 11, 3) := fx_dat dk_J_nameSize 49 rfl
theorem d_J_nameSize_99 : decode prog_1_method_10_code 99 = .ok (.new 107, 3) := fx_dat dk_J_nameSize 50 rfl
theorem d_J_nameSize_102 : decode prog_1_method_10_code 102 = .ok (.dup, 1) := fx_dat dk_J_nameSize 51 rfl
theorem d_J_nameSize_103 : decode prog_1_method_10_code 103 = .ok (.invokespecial 109, 3) := fx_dat dk_J_nameSize 52 rfl
theorem d_J_nameSize_106 : decode prog_1_method_10_code 106 = .ok (.athrow, 1) := fx_dat dk_J_nameSize 53 rfl
theorem d_J_nameSize_107 : decode prog_1_method_10_code 107 = .ok (.iload_n 1, 1) := fx_dat dk_J_nameSize 54 rfl
theorem d_J_nameSize_108 : decode prog_1_method_10_code 108 = .ok (.ifCond .ge 5, 3) := fx_dat dk_J_nameSize 55 rfl
theorem d_J_nameSize_111 : decode prog_1_method_10_code 111 = .ok (.iload_n 3, 1) := fx_dat dk_J_nameSize 56 rfl
theorem d_J_nameSize_112 : decode prog_1_method_10_code 112 = .ok (.istore_n 1, 1) := fx_dat dk_J_nameSize 57 rfl
theorem d_J_nameSize_113 : decode prog_1_method_10_code 113 = .ok (.iload_n 3, 1) := fx_dat dk_J_nameSize 58 rfl
theorem d_J_nameSize_114 : decode prog_1_method_10_code 114 = .ok (.iconst 1, 1) := fx_dat dk_J_nameSize 59 rfl
theorem d_J_nameSize_115 : decode prog_1_method_10_code 115 = .ok (.iadd, 1) := fx_dat dk_J_nameSize 60 rfl
theorem d_J_nameSize_116 : decode prog_1_method_10_code 116 = .ok (.istore_n 2, 1) := fx_dat dk_J_nameSize 61 rfl
theorem d_J_nameSize_117 : decode prog_1_method_10_code 117 = .ok (.iinc 3 1, 3) := fx_dat dk_J_nameSize 62 rfl
theorem d_J_nameSize_120 : decode prog_1_method_10_code 120 = .ok (.goto (-114), 3) := fx_dat dk_J_nameSize 63 rfl
theorem d_J_nameSize_123 : decode prog_1_method_10_code 123 = .ok (.iload_n 1, 1) := fx_dat dk_J_nameSize 64 rfl
theorem d_J_nameSize_124 : decode prog_1_method_10_code 124 = .ok (.ireturn, 1) := fx_dat dk_J_nameSize 65 rfl
def m_J_nameSize_58 (Q : Int32 → AH → Prop) (E : Nat → AH → Prop) (h : AH) : Prop := fx_has h 6 ∧ ∀ (_ : fx_wf h) (q1 : Nat), q1 = hp_z h → ∀ h1 : AH, h1 = up_N h 14 0 6 → E q1 h1
def m_J_nameSize_99 (Q : Int32 → AH → Prop) (E : Nat → AH → Prop) (h : AH) : Prop := fx_has h 6 ∧ ∀ (_ : fx_wf h) (q1 : Nat), q1 = hp_z h → ∀ h1 : AH, h1 = up_N h 14 0 6 → E q1 h1
def m_J_nameSize_117 (Q : Int32 → AH → Prop) (E : Nat → AH → Prop) (X6 : Int32 × Int32 × Int32 × AH → Prop) (r0 : Nat) (x1 : Int32) (x2 : Int32) (x3 : Int32) (h : AH) : Prop := ∀ v1 : Int32, v1 = (x3 + (1 : Int32)) → X6 (x1, x2, v1, h)
def m_J_nameSize_113 (Q : Int32 → AH → Prop) (E : Nat → AH → Prop) (X6 : Int32 × Int32 × Int32 × AH → Prop) (r0 : Nat) (x1 : Int32) (x3 : Int32) (h : AH) : Prop := ∀ v1 : Int32, v1 = (x3 + (1 : Int32)) → m_J_nameSize_117 Q E X6 r0 x1 v1 x3 h
def m_J_nameSize_96 (Q : Int32 → AH → Prop) (E : Nat → AH → Prop) (X6 : Int32 × Int32 × Int32 × AH → Prop) (r0 : Nat) (x1 : Int32) (x3 : Int32) (sx0 : Int32) (sx1 : Int32) (h : AH) : Prop := (sx0 ≤ sx1 → (0 ≤ x1 → m_J_nameSize_113 Q E X6 r0 x1 x3 h) ∧ (¬ 0 ≤ x1 → m_J_nameSize_113 Q E X6 r0 x3 x3 h)) ∧ (¬ sx0 ≤ sx1 → m_J_nameSize_99 Q E h)
def m_J_nameSize_42 (Q : Int32 → AH → Prop) (E : Nat → AH → Prop) (X6 : Int32 × Int32 × Int32 × AH → Prop) (r0 : Nat) (x1 : Int32) (x2 : Int32) (x3 : Int32) (sx0 : Int32) (h : AH) : Prop := (sx0 < (33 : Int32) → m_J_nameSize_58 Q E h) ∧ (¬ sx0 < (33 : Int32) → (sx0 ≤ (126 : Int32) → (sx0 = (44 : Int32) → (x3 = x2 → m_J_nameSize_99 Q E h) ∧ (¬ x3 = x2 → (0 ≤ x1 → m_J_nameSize_96 Q E X6 r0 x1 x3 (x3 - x2) (250 : Int32) h) ∧ (¬ 0 ≤ x1 → m_J_nameSize_96 Q E X6 r0 x1 x3 (x3 - x2) (64 : Int32) h))) ∧ (¬ sx0 = (44 : Int32) → m_J_nameSize_117 Q E X6 r0 x1 x2 x3 h)) ∧ (¬ sx0 ≤ (126 : Int32) → m_J_nameSize_58 Q E h))
def m_J_nameSize_6_b (Q : Int32 → AH → Prop) (E : Nat → AH → Prop) (X6 : Int32 × Int32 × Int32 × AH → Prop) (r0 : Nat) (x1 : Int32) (x2 : Int32) (x3 : Int32) (h : AH) : Prop := hp_k h r0 = 1 ∧ ∃ b1, hp_R h r0 0 = some b1 ∧ hp_k h b1 = 2 ∧ ((hp_I h b1 1) < x3 → Q x1 h) ∧ (¬ (hp_I h b1 1) < x3 → ((hp_I h b1 1) ≤ x3 → m_J_nameSize_42 Q E X6 r0 x1 x2 x3 (44 : Int32) h) ∧ (¬ (hp_I h b1 1) ≤ x3 → ∃ b2, hp_R h b1 0 = some b2 ∧ bk (hp_k h b2) ∧ vp_in x3 (hp_n h b2) ∧ (by8 (hp_I h b2 x3.toNatClampNeg) → m_J_nameSize_42 Q E X6 r0 x1 x2 x3 (hp_I h b2 x3.toNatClampNeg) h)))
def m_J_nameSize_6 (Q : Int32 → AH → Prop) (E : Nat → AH → Prop) (r0 : Nat) (x1 : Int32) (x2 : Int32) (x3 : Int32) (h : AH) : Prop := fx_loop (fun (X6 : Int32 × Int32 × Int32 × AH → Prop) (st : Int32 × Int32 × Int32 × AH) => m_J_nameSize_6_b Q E X6 r0 st.1 st.2.1 st.2.2.1 st.2.2.2) (x1, x2, x3, h)
def m_J_nameSize (Q : Int32 → AH → Prop) (E : Nat → AH → Prop) (r0 : Nat) (h : AH) : Prop := m_J_nameSize_6 Q E r0 (-1 : Int32) (0 : Int32) (0 : Int32) h
theorem b_J_nameSize_58 {p : Program} {l : Launch} {e : Env} {R : Room} {s : State} {m : MethodId} {args : Array Value} {below : List Frame} {meth : Method} {c : Code} {D : DD} {h0 : AH} {Q : Int32 → AH → Prop} {E : Nat → AH → Prop} (C : fx_CX D y_J_nameSize prog_1_method_10_code 5 6 81 (Option.some FieldType.int) [] h0 p R s m meth c) (hl : l.flags = flags0) (h : AH) (hw : m_J_nameSize_58 Q E h) : ∀ (ls : Array Slot) (H : Heap) (locs : List Loc) (cells slots : Nat), lv_has ls 5 [] → fx_F D h0 h H locs cells slots → W p l e R s m args below meth c H locs cells slots (fx_Z D below s h0 (fx_oI Q E)) (F0 m 58 ls []) := by
  unfold m_J_nameSize_58 at hw
  intro ls H locs cells slots hv F
  obtain ⟨hs, hw⟩ := hw
  let q1 : Nat := hp_z h
  let h1 : AH := up_N h 14 0 6
  replace hw := hw F.wf q1 rfl h1 rfl
  have hkq1 : hp_k h1 q1 = 14 := fx_nk _ _ _ _
  refine fx_exc (r := ("java/lang/IllegalArgumentException", fx_T13, 0)) (names := fx_rn) C F rfl rfl (fx_m3 (List.mem_of_getElem? (i := 36) rfl)) (fx_m1 (List.mem_of_getElem? (i := 22) rfl)) (by decide +kernel) (by decide +kernel) ex_J_109 hs hv.1 hl d_J_nameSize_58 d_J_nameSize_61 d_J_nameSize_62 (by decide) (Nat.le_of_ble_eq_true rfl) (fun H locs cells slots (F : fx_F D h0 h1 H locs cells slots) => ?_)
  exact fx_athrow C F (fx_out0 _) d_J_nameSize_65 (Or.inr ⟨_, rfl, hw⟩)
theorem b_J_nameSize_99 {p : Program} {l : Launch} {e : Env} {R : Room} {s : State} {m : MethodId} {args : Array Value} {below : List Frame} {meth : Method} {c : Code} {D : DD} {h0 : AH} {Q : Int32 → AH → Prop} {E : Nat → AH → Prop} (C : fx_CX D y_J_nameSize prog_1_method_10_code 5 6 81 (Option.some FieldType.int) [] h0 p R s m meth c) (hl : l.flags = flags0) (h : AH) (hw : m_J_nameSize_99 Q E h) : ∀ (ls : Array Slot) (H : Heap) (locs : List Loc) (cells slots : Nat), lv_has ls 5 [] → fx_F D h0 h H locs cells slots → W p l e R s m args below meth c H locs cells slots (fx_Z D below s h0 (fx_oI Q E)) (F0 m 99 ls []) := by
  unfold m_J_nameSize_99 at hw
  intro ls H locs cells slots hv F
  obtain ⟨hs, hw⟩ := hw
  let q1 : Nat := hp_z h
  let h1 : AH := up_N h 14 0 6
  replace hw := hw F.wf q1 rfl h1 rfl
  have hkq1 : hp_k h1 q1 = 14 := fx_nk _ _ _ _
  refine fx_exc (r := ("java/lang/IllegalArgumentException", fx_T13, 0)) (names := fx_rn) C F rfl rfl (fx_m3 (List.mem_of_getElem? (i := 36) rfl)) (fx_m1 (List.mem_of_getElem? (i := 22) rfl)) (by decide +kernel) (by decide +kernel) ex_J_109 hs hv.1 hl d_J_nameSize_99 d_J_nameSize_102 d_J_nameSize_103 (by decide) (Nat.le_of_ble_eq_true rfl) (fun H locs cells slots (F : fx_F D h0 h1 H locs cells slots) => ?_)
  exact fx_athrow C F (fx_out0 _) d_J_nameSize_106 (Or.inr ⟨_, rfl, hw⟩)
theorem b_J_nameSize_117 {p : Program} {l : Launch} {e : Env} {R : Room} {s : State} {m : MethodId} {args : Array Value} {below : List Frame} {meth : Method} {c : Code} {D : DD} {h0 : AH} {Q : Int32 → AH → Prop} {E : Nat → AH → Prop} {X6 : Int32 × Int32 × Int32 × AH → Prop} (C : fx_CX D y_J_nameSize prog_1_method_10_code 5 6 81 (Option.some FieldType.int) [] h0 p R s m meth c) (hl : l.flags = flags0) (r0 : Nat) (x1 : Int32) (x2 : Int32) (x3 : Int32) (h : AH) (hX6 : ∀ st, X6 st → ∀ (ls : Array Slot) (H : Heap) (locs : List Loc) (cells slots : Nat), lv_has ls 5 [(0, .ref r0), (1, .int st.1), (2, .int st.2.1), (3, .int st.2.2.1)] → fx_F D h0 st.2.2.2 H locs cells slots → W p l e R s m args below meth c H locs cells slots (fx_Z D below s h0 (fx_oI Q E)) (F0 m 6 ls [])) (hw : m_J_nameSize_117 Q E X6 r0 x1 x2 x3 h) : ∀ (ls : Array Slot) (H : Heap) (locs : List Loc) (cells slots : Nat), lv_has ls 5 [(0, .ref r0), (1, .int x1), (2, .int x2), (3, .int x3)] → fx_F D h0 h H locs cells slots → W p l e R s m args below meth c H locs cells slots (fx_Z D below s h0 (fx_oI Q E)) (F0 m 117 ls []) := by
  unfold m_J_nameSize_117 at hw
  intro ls H locs cells slots hv F
  let v1 : Int32 := (x3 + (1 : Int32))
  replace hw := hw v1 rfl
  refine lv_iinc (v := v1) (k := 3) (lv' := [(3, .int v1), (0, .ref r0), (1, .int x1), (2, .int x2)]) C.ex C.by d_J_nameSize_117 hv rfl (congrArg (fun z => x3 + z) (by decide)) (by decide) rfl (fun ls hv => ?_)
  refine lv_goto C.ex C.by d_J_nameSize_120 rfl ?_
  exact hX6 _ hw _ _ _ _ _ (lv_sub hv [1, 2, 3, 0] rfl) F
theorem b_J_nameSize_113 {p : Program} {l : Launch} {e : Env} {R : Room} {s : State} {m : MethodId} {args : Array Value} {below : List Frame} {meth : Method} {c : Code} {D : DD} {h0 : AH} {Q : Int32 → AH → Prop} {E : Nat → AH → Prop} {X6 : Int32 × Int32 × Int32 × AH → Prop} (C : fx_CX D y_J_nameSize prog_1_method_10_code 5 6 81 (Option.some FieldType.int) [] h0 p R s m meth c) (hl : l.flags = flags0) (r0 : Nat) (x1 : Int32) (x3 : Int32) (h : AH) (hX6 : ∀ st, X6 st → ∀ (ls : Array Slot) (H : Heap) (locs : List Loc) (cells slots : Nat), lv_has ls 5 [(0, .ref r0), (1, .int st.1), (2, .int st.2.1), (3, .int st.2.2.1)] → fx_F D h0 st.2.2.2 H locs cells slots → W p l e R s m args below meth c H locs cells slots (fx_Z D below s h0 (fx_oI Q E)) (F0 m 6 ls [])) (hw : m_J_nameSize_113 Q E X6 r0 x1 x3 h) : ∀ (ls : Array Slot) (H : Heap) (locs : List Loc) (cells slots : Nat), lv_has ls 5 [(0, .ref r0), (1, .int x1), (3, .int x3)] → fx_F D h0 h H locs cells slots → W p l e R s m args below meth c H locs cells slots (fx_Z D below s h0 (fx_oI Q E)) (F0 m 113 ls []) := by
  unfold m_J_nameSize_113 at hw
  intro ls H locs cells slots hv F
  refine lv_iload_n C.ex C.by d_J_nameSize_113 rfl (lv_at hv 2 rfl) ?_
  refine lv_iconst (v := (1 : Int32)) C.ex C.by d_J_nameSize_114 (by decide) ?_
  refine lv_iadd C.ex C.by d_J_nameSize_115 ?_
  let v1 : Int32 := (x3 + (1 : Int32))
  replace hw := hw v1 rfl
  refine lv_istore_n (lv' := [(2, .int v1), (0, .ref r0), (1, .int x1), (3, .int x3)]) C.ex C.by d_J_nameSize_116 rfl hv (by decide) rfl (fun ls hv => ?_)
  exact b_J_nameSize_117 C hl _ _ _ _ _ hX6 hw _ _ _ _ _ (lv_sub hv [1, 2, 0, 3] rfl) F
theorem b_J_nameSize_96 {p : Program} {l : Launch} {e : Env} {R : Room} {s : State} {m : MethodId} {args : Array Value} {below : List Frame} {meth : Method} {c : Code} {D : DD} {h0 : AH} {Q : Int32 → AH → Prop} {E : Nat → AH → Prop} {X6 : Int32 × Int32 × Int32 × AH → Prop} (C : fx_CX D y_J_nameSize prog_1_method_10_code 5 6 81 (Option.some FieldType.int) [] h0 p R s m meth c) (hl : l.flags = flags0) (r0 : Nat) (x1 : Int32) (x3 : Int32) (sx0 : Int32) (sx1 : Int32) (h : AH) (hX6 : ∀ st, X6 st → ∀ (ls : Array Slot) (H : Heap) (locs : List Loc) (cells slots : Nat), lv_has ls 5 [(0, .ref r0), (1, .int st.1), (2, .int st.2.1), (3, .int st.2.2.1)] → fx_F D h0 st.2.2.2 H locs cells slots → W p l e R s m args below meth c H locs cells slots (fx_Z D below s h0 (fx_oI Q E)) (F0 m 6 ls [])) (hw : m_J_nameSize_96 Q E X6 r0 x1 x3 sx0 sx1 h) : ∀ (ls : Array Slot) (H : Heap) (locs : List Loc) (cells slots : Nat), lv_has ls 5 [(0, .ref r0), (1, .int x1), (3, .int x3)] → fx_F D h0 h H locs cells slots → W p l e R s m args below meth c H locs cells slots (fx_Z D below s h0 (fx_oI Q E)) (F0 m 96 ls [.int sx1, .int sx0]) := by
  unfold m_J_nameSize_96 at hw
  intro ls H locs cells slots hv F
  refine lv_icmp_le C.ex C.by d_J_nameSize_96 rfl (fun hc => ?_) (fun hc => ?_)
  · replace hw := hw.1 hc
    refine lv_iload_n C.ex C.by d_J_nameSize_107 rfl (lv_at hv 1 rfl) ?_
    refine lv_if_ge C.ex C.by d_J_nameSize_108 rfl (fun hc => ?_) (fun hc => ?_)
    · replace hw := hw.1 hc
      exact b_J_nameSize_113 C hl _ _ _ _ hX6 hw _ _ _ _ _ hv F
    · replace hw := hw.2 hc
      refine lv_iload_n C.ex C.by d_J_nameSize_111 rfl (lv_at hv 2 rfl) ?_
      refine lv_istore_n (lv' := [(1, .int x3), (0, .ref r0), (3, .int x3)]) C.ex C.by d_J_nameSize_112 rfl hv (by decide) rfl (fun ls hv => ?_)
      exact b_J_nameSize_113 C hl _ _ _ _ hX6 hw _ _ _ _ _ (lv_sub hv [1, 0, 2] rfl) F
  · replace hw := hw.2 hc
    exact b_J_nameSize_99 C hl _ hw _ _ _ _ _ (lv_sub hv [] rfl) F
theorem b_J_nameSize_42 {p : Program} {l : Launch} {e : Env} {R : Room} {s : State} {m : MethodId} {args : Array Value} {below : List Frame} {meth : Method} {c : Code} {D : DD} {h0 : AH} {Q : Int32 → AH → Prop} {E : Nat → AH → Prop} {X6 : Int32 × Int32 × Int32 × AH → Prop} (C : fx_CX D y_J_nameSize prog_1_method_10_code 5 6 81 (Option.some FieldType.int) [] h0 p R s m meth c) (hl : l.flags = flags0) (r0 : Nat) (x1 : Int32) (x2 : Int32) (x3 : Int32) (sx0 : Int32) (h : AH) (hX6 : ∀ st, X6 st → ∀ (ls : Array Slot) (H : Heap) (locs : List Loc) (cells slots : Nat), lv_has ls 5 [(0, .ref r0), (1, .int st.1), (2, .int st.2.1), (3, .int st.2.2.1)] → fx_F D h0 st.2.2.2 H locs cells slots → W p l e R s m args below meth c H locs cells slots (fx_Z D below s h0 (fx_oI Q E)) (F0 m 6 ls [])) (hw : m_J_nameSize_42 Q E X6 r0 x1 x2 x3 sx0 h) : ∀ (ls : Array Slot) (H : Heap) (locs : List Loc) (cells slots : Nat), lv_has ls 5 [(0, .ref r0), (1, .int x1), (2, .int x2), (3, .int x3)] → fx_F D h0 h H locs cells slots → W p l e R s m args below meth c H locs cells slots (fx_Z D below s h0 (fx_oI Q E)) (F0 m 42 ls [.int sx0]) := by
  unfold m_J_nameSize_42 at hw
  intro ls H locs cells slots hv F
  refine lv_istore (lv' := [(4, .int sx0), (0, .ref r0), (1, .int x1), (2, .int x2), (3, .int x3)]) C.ex C.by d_J_nameSize_42 hv (by decide) rfl (fun ls hv => ?_)
  refine lv_iload C.ex C.by d_J_nameSize_44 (lv_at hv 0 rfl) ?_
  refine lv_bipush (v := (33 : Int32)) C.ex C.by d_J_nameSize_46 (by decide) ?_
  refine lv_icmp_lt C.ex C.by d_J_nameSize_48 rfl (fun hc => ?_) (fun hc => ?_)
  · replace hw := hw.1 hc
    exact b_J_nameSize_58 C hl _ hw _ _ _ _ _ (lv_sub hv [] rfl) F
  · replace hw := hw.2 hc
    refine lv_iload C.ex C.by d_J_nameSize_51 (lv_at hv 0 rfl) ?_
    refine lv_bipush (v := (126 : Int32)) C.ex C.by d_J_nameSize_53 (by decide) ?_
    refine lv_icmp_le C.ex C.by d_J_nameSize_55 rfl (fun hc => ?_) (fun hc => ?_)
    · replace hw := hw.1 hc
      refine lv_iload C.ex C.by d_J_nameSize_66 (lv_at hv 0 rfl) ?_
      refine lv_bipush (v := (44 : Int32)) C.ex C.by d_J_nameSize_68 (by decide) ?_
      refine lv_icmp_eq C.ex C.by d_J_nameSize_70 rfl (fun hc => ?_) (fun hc => ?_)
      · replace hw := hw.1 hc
        refine lv_iload_n C.ex C.by d_J_nameSize_76 rfl (lv_at hv 4 rfl) ?_
        refine lv_iload_n C.ex C.by d_J_nameSize_77 rfl (lv_at hv 3 rfl) ?_
        refine lv_icmp_eq C.ex C.by d_J_nameSize_78 rfl (fun hc => ?_) (fun hc => ?_)
        · replace hw := hw.1 hc
          exact b_J_nameSize_99 C hl _ hw _ _ _ _ _ (lv_sub hv [] rfl) F
        · replace hw := hw.2 hc
          refine lv_iload_n C.ex C.by d_J_nameSize_81 rfl (lv_at hv 4 rfl) ?_
          refine lv_iload_n C.ex C.by d_J_nameSize_82 rfl (lv_at hv 3 rfl) ?_
          refine lv_isub C.ex C.by d_J_nameSize_83 ?_
          refine lv_iload_n C.ex C.by d_J_nameSize_84 rfl (lv_at hv 2 rfl) ?_
          refine lv_if_ge C.ex C.by d_J_nameSize_85 rfl (fun hc => ?_) (fun hc => ?_)
          · replace hw := hw.1 hc
            refine lv_sipush (v := (250 : Int32)) C.ex C.by d_J_nameSize_93 (by decide) ?_
            exact b_J_nameSize_96 C hl _ _ _ _ _ _ hX6 hw _ _ _ _ _ (lv_sub hv [1, 2, 4] rfl) F
          · replace hw := hw.2 hc
            refine lv_bipush (v := (64 : Int32)) C.ex C.by d_J_nameSize_88 (by decide) ?_
            refine lv_goto C.ex C.by d_J_nameSize_90 rfl ?_
            exact b_J_nameSize_96 C hl _ _ _ _ _ _ hX6 hw _ _ _ _ _ (lv_sub hv [1, 2, 4] rfl) F
      · replace hw := hw.2 hc
        refine lv_goto C.ex C.by d_J_nameSize_73 rfl ?_
        exact b_J_nameSize_117 C hl _ _ _ _ _ hX6 hw _ _ _ _ _ (lv_sub hv [1, 2, 3, 4] rfl) F
    · replace hw := hw.2 hc
      exact b_J_nameSize_58 C hl _ hw _ _ _ _ _ (lv_sub hv [] rfl) F
theorem b_J_nameSize_6 {p : Program} {l : Launch} {e : Env} {R : Room} {s : State} {m : MethodId} {args : Array Value} {below : List Frame} {meth : Method} {c : Code} {D : DD} {h0 : AH} {Q : Int32 → AH → Prop} {E : Nat → AH → Prop} (C : fx_CX D y_J_nameSize prog_1_method_10_code 5 6 81 (Option.some FieldType.int) [] h0 p R s m meth c) (hl : l.flags = flags0) (r0 : Nat) (x1 : Int32) (x2 : Int32) (x3 : Int32) (h : AH) (hw : m_J_nameSize_6 Q E r0 x1 x2 x3 h) : ∀ (ls : Array Slot) (H : Heap) (locs : List Loc) (cells slots : Nat), lv_has ls 5 [(0, .ref r0), (1, .int x1), (2, .int x2), (3, .int x3)] → fx_F D h0 h H locs cells slots → W p l e R s m args below meth c H locs cells slots (fx_Z D below s h0 (fx_oI Q E)) (F0 m 6 ls []) := by
  refine fx_loop.use hw (fun st => ∀ (ls : Array Slot) (H : Heap) (locs : List Loc) (cells slots : Nat), lv_has ls 5 [(0, .ref r0), (1, .int st.1), (2, .int st.2.1), (3, .int st.2.2.1)] → fx_F D h0 st.2.2.2 H locs cells slots → W p l e R s m args below meth c H locs cells slots (fx_Z D below s h0 (fx_oI Q E)) (F0 m 6 ls [])) (fun X6 st hX6 hw => ?_)
  obtain ⟨x1, x2, x3, h⟩ := st
  replace hw : m_J_nameSize_6_b Q E X6 r0 x1 x2 x3 h := hw
  unfold m_J_nameSize_6_b at hw
  intro ls H locs cells slots hv F
  refine lv_iload_n C.ex C.by d_J_nameSize_6 rfl (lv_at hv 3 rfl) ?_
  refine lv_aload_n C.ex C.by d_J_nameSize_7 rfl (lv_at hv 0 rfl) ?_
  obtain ⟨hk1, hw⟩ := hw
  obtain ⟨b1, hb1, hw⟩ := hw
  refine fx_getR C F lf_J_14 hk1 rfl hb1 d_J_nameSize_8 ?_
  obtain ⟨hk2, hw⟩ := hw
  refine fx_getI C F lf_J_96 hk2 rfl d_J_nameSize_11 ?_
  refine lv_icmp_gt C.ex C.by d_J_nameSize_14 rfl (fun hc => ?_) (fun hc => ?_)
  · replace hw := hw.1 hc
    refine lv_iload_n C.ex C.by d_J_nameSize_123 rfl (lv_at hv 1 rfl) ?_
    exact fx_iret C F d_J_nameSize_124 (Or.inl ⟨_, rfl, hw⟩)
  · replace hw := hw.2 hc
    refine lv_iload_n C.ex C.by d_J_nameSize_17 rfl (lv_at hv 3 rfl) ?_
    refine lv_aload_n C.ex C.by d_J_nameSize_18 rfl (lv_at hv 0 rfl) ?_
    refine fx_getR C F lf_J_14 hk1 rfl hb1 d_J_nameSize_19 ?_
    refine fx_getI C F lf_J_96 hk2 rfl d_J_nameSize_22 ?_
    refine lv_icmp_ge C.ex C.by d_J_nameSize_25 rfl (fun hc => ?_) (fun hc => ?_)
    · replace hw := hw.1 hc
      refine lv_bipush (v := (44 : Int32)) C.ex C.by d_J_nameSize_40 (by decide) ?_
      exact b_J_nameSize_42 C hl _ _ _ _ _ _ hX6 hw _ _ _ _ _ hv F
    · replace hw := hw.2 hc
      refine lv_aload_n C.ex C.by d_J_nameSize_28 rfl (lv_at hv 0 rfl) ?_
      refine fx_getR C F lf_J_14 hk1 rfl hb1 d_J_nameSize_29 ?_
      obtain ⟨b2, hb2, hw⟩ := hw
      refine fx_getR C F lf_J_110 hk2 rfl hb2 d_J_nameSize_32 ?_
      refine lv_iload_n C.ex C.by d_J_nameSize_35 rfl (lv_at hv 3 rfl) ?_
      obtain ⟨hk3, hw⟩ := hw
      obtain ⟨hi1, hw⟩ := hw
      refine fx_bald C F hk3 hi1 d_J_nameSize_36 (fun h8 => ?_)
      replace hw := hw h8
      refine lv_goto C.ex C.by d_J_nameSize_37 rfl ?_
      exact b_J_nameSize_42 C hl _ _ _ _ _ _ hX6 hw _ _ _ _ _ hv F
theorem b_J_nameSize_0 {p : Program} {l : Launch} {e : Env} {R : Room} {s : State} {m : MethodId} {args : Array Value} {below : List Frame} {meth : Method} {c : Code} {D : DD} {h0 : AH} {Q : Int32 → AH → Prop} {E : Nat → AH → Prop} (C : fx_CX D y_J_nameSize prog_1_method_10_code 5 6 81 (Option.some FieldType.int) [] h0 p R s m meth c) (hl : l.flags = flags0) (r0 : Nat) (h : AH) (hw : m_J_nameSize Q E r0 h) : ∀ (ls : Array Slot) (H : Heap) (locs : List Loc) (cells slots : Nat), lv_has ls 5 [(0, .ref r0)] → fx_F D h0 h H locs cells slots → W p l e R s m args below meth c H locs cells slots (fx_Z D below s h0 (fx_oI Q E)) (F0 m 0 ls []) := by
  unfold m_J_nameSize at hw
  intro ls H locs cells slots hv F
  refine lv_iconst (v := (-1 : Int32)) C.ex C.by d_J_nameSize_0 (by decide) ?_
  refine lv_istore_n (lv' := [(1, .int (-1 : Int32)), (0, .ref r0)]) C.ex C.by d_J_nameSize_1 rfl hv (by decide) rfl (fun ls hv => ?_)
  refine lv_iconst (v := (0 : Int32)) C.ex C.by d_J_nameSize_2 (by decide) ?_
  refine lv_istore_n (lv' := [(2, .int (0 : Int32)), (1, .int (-1 : Int32)), (0, .ref r0)]) C.ex C.by d_J_nameSize_3 rfl hv (by decide) rfl (fun ls hv => ?_)
  refine lv_iconst (v := (0 : Int32)) C.ex C.by d_J_nameSize_4 (by decide) ?_
  refine lv_istore_n (lv' := [(3, .int (0 : Int32)), (2, .int (0 : Int32)), (1, .int (-1 : Int32)), (0, .ref r0)]) C.ex C.by d_J_nameSize_5 rfl hv (by decide) rfl (fun ls hv => ?_)
  exact b_J_nameSize_6 C hl _ _ _ _ _ hw _ _ _ _ _ (lv_sub hv [3, 2, 1, 0] rfl) F
theorem hm_J_nameSize : fx_hd y_J_nameSize prog_1_method_10_code 5 (Option.some FieldType.int) [] ∈ tables_1 := (fx_m3 (List.mem_of_getElem? (i := 93) rfl))
theorem hi_J_nameSize : Cond.initialized y_J_nameSize.cls ∈ tables_1 := (fx_m1 (List.mem_of_getElem? (i := 1) rfl))
theorem c_J_nameSize {l : Launch} (hl : l.flags = flags0) {D : DD} {Q : Int32 → AH → Prop} {E : Nat → AH → Prop} {r0 : Nat} {h : AH} (hw : m_J_nameSize Q E r0 h) : fx_Mt l D y_J_nameSize (fx_hd y_J_nameSize prog_1_method_10_code 5 (Option.some FieldType.int) []) 6 81 [.ref r0] h (fx_oI Q E) := by
  refine fx_ofW (plainFor_of_name (by decide)) (fun p e s m below meth c C F => ?_)
  have hv := lv_entry ([.ref r0]) (n := 5) (Nat.le_of_ble_eq_true rfl)
  rw [lg_entry_eq]
  generalize (lg_sl ([.ref r0]) ++ List.replicate (5 - (lg_sl ([.ref r0])).length) Slot.unset).toArray = ls at hv ⊢
  have hv : lv_has ls 5 [(0, .ref r0)] := hv
  exact b_J_nameSize_0 C hl _ _ hw _ _ _ _ _ hv F
/-! jdk/internal/util/Preconditions.checkIndex(IILjava/util/function/BiFunction;)I: frames 0, words 0 -/
abbrev y_Pre_checkIndex : MethodName := ⟨"jdk/internal/util/Preconditions", "checkIndex", "(IILjava/util/function/BiFunction;)I"⟩
def dl_Pre_checkIndex : List (Nat × Instr × Nat) := [(0, .iload_n 0, 1), (1, .ifCond .lt 8, 3), (4, .iload_n 0, 1), (5, .iload_n 1, 1), (6, .if_icmp .lt 10, 3), (9, .aload_n 2, 1), (16, .iload_n 0, 1), (17, .ireturn, 1)]
theorem dk_Pre_checkIndex : fx_dec prog_40_method_11_code dl_Pre_checkIndex = true := by decide +kernel
theorem d_Pre_checkIndex_0 : decode prog_40_method_11_code 0 = .ok (.iload_n 0, 1) := fx_dat dk_Pre_checkIndex 0 rfl
theorem d_Pre_checkIndex_1 : decode prog_40_method_11_code 1 = .ok (.ifCond .lt 8, 3) := fx_dat dk_Pre_checkIndex 1 rfl
theorem d_Pre_checkIndex_4 : decode prog_40_method_11_code 4 = .ok (.iload_n 0, 1) := fx_dat dk_Pre_checkIndex 2 rfl
theorem d_Pre_checkIndex_5 : decode prog_40_method_11_code 5 = .ok (.iload_n 1, 1) := fx_dat dk_Pre_checkIndex 3 rfl
theorem d_Pre_checkIndex_6 : decode prog_40_method_11_code 6 = .ok (.if_icmp .lt 10, 3) := fx_dat dk_Pre_checkIndex 4 rfl
theorem d_Pre_checkIndex_9 : decode prog_40_method_11_code 9 = .ok (.aload_n 2, 1) := fx_dat dk_Pre_checkIndex 5 rfl
theorem d_Pre_checkIndex_16 : decode prog_40_method_11_code 16 = .ok (.iload_n 0, 1) := fx_dat dk_Pre_checkIndex 6 rfl
theorem d_Pre_checkIndex_17 : decode prog_40_method_11_code 17 = .ok (.ireturn, 1) := fx_dat dk_Pre_checkIndex 7 rfl
def m_Pre_checkIndex_9 (Q : Int32 → AH → Prop) (h : AH) : Prop := False
def m_Pre_checkIndex (Q : Int32 → AH → Prop) (x0 : Int32) (x1 : Int32) (h : AH) : Prop := (x0 < 0 → m_Pre_checkIndex_9 Q h) ∧ (¬ x0 < 0 → (x0 < x1 → Q x0 h) ∧ (¬ x0 < x1 → m_Pre_checkIndex_9 Q h))
theorem b_Pre_checkIndex_9 {p : Program} {l : Launch} {e : Env} {R : Room} {s : State} {m : MethodId} {args : Array Value} {below : List Frame} {meth : Method} {c : Code} {D : DD} {h0 : AH} {Q : Int32 → AH → Prop} (C : fx_CX D y_Pre_checkIndex prog_40_method_11_code 3 0 0 (Option.some FieldType.int) [] h0 p R s m meth c) (hl : l.flags = flags0) (h : AH) (hw : m_Pre_checkIndex_9 Q h) : ∀ (ls : Array Slot) (H : Heap) (locs : List Loc) (cells slots : Nat), lv_has ls 3 [] → fx_F D h0 h H locs cells slots → W p l e R s m args below meth c H locs cells slots (fx_Z D below s h0 (fx_oI Q fx_no)) (F0 m 9 ls []) := by
  unfold m_Pre_checkIndex_9 at hw
  intro ls H locs cells slots hv F
  exact hw.elim
theorem b_Pre_checkIndex_0 {p : Program} {l : Launch} {e : Env} {R : Room} {s : State} {m : MethodId} {args : Array Value} {below : List Frame} {meth : Method} {c : Code} {D : DD} {h0 : AH} {Q : Int32 → AH → Prop} (C : fx_CX D y_Pre_checkIndex prog_40_method_11_code 3 0 0 (Option.some FieldType.int) [] h0 p R s m meth c) (hl : l.flags = flags0) (x0 : Int32) (x1 : Int32) (h : AH) (hw : m_Pre_checkIndex Q x0 x1 h) : ∀ (ls : Array Slot) (H : Heap) (locs : List Loc) (cells slots : Nat), lv_has ls 3 [(0, .int x0), (1, .int x1), (2, .null)] → fx_F D h0 h H locs cells slots → W p l e R s m args below meth c H locs cells slots (fx_Z D below s h0 (fx_oI Q fx_no)) (F0 m 0 ls []) := by
  unfold m_Pre_checkIndex at hw
  intro ls H locs cells slots hv F
  refine lv_iload_n C.ex C.by d_Pre_checkIndex_0 rfl (lv_at hv 0 rfl) ?_
  refine lv_if_lt C.ex C.by d_Pre_checkIndex_1 rfl (fun hc => ?_) (fun hc => ?_)
  · replace hw := hw.1 hc
    exact b_Pre_checkIndex_9 C hl _ hw _ _ _ _ _ (lv_sub hv [] rfl) F
  · replace hw := hw.2 hc
    refine lv_iload_n C.ex C.by d_Pre_checkIndex_4 rfl (lv_at hv 0 rfl) ?_
    refine lv_iload_n C.ex C.by d_Pre_checkIndex_5 rfl (lv_at hv 1 rfl) ?_
    refine lv_icmp_lt C.ex C.by d_Pre_checkIndex_6 rfl (fun hc => ?_) (fun hc => ?_)
    · replace hw := hw.1 hc
      refine lv_iload_n C.ex C.by d_Pre_checkIndex_16 rfl (lv_at hv 0 rfl) ?_
      exact fx_iret C F d_Pre_checkIndex_17 (Or.inl ⟨_, rfl, hw⟩)
    · replace hw := hw.2 hc
      exact b_Pre_checkIndex_9 C hl _ hw _ _ _ _ _ (lv_sub hv [] rfl) F
theorem hm_Pre_checkIndex : fx_hd y_Pre_checkIndex prog_40_method_11_code 3 (Option.some FieldType.int) [] ∈ tables_1 := (fx_m3 (List.mem_of_getElem? (i := 103) rfl))
theorem hi_Pre_checkIndex : Cond.initialized y_Pre_checkIndex.cls ∈ tables_1 := (fx_m1 (List.mem_of_getElem? (i := 25) rfl))
theorem c_Pre_checkIndex {l : Launch} (hl : l.flags = flags0) {D : DD} {Q : Int32 → AH → Prop} {x0 : Int32} {x1 : Int32} {h : AH} (hw : m_Pre_checkIndex Q x0 x1 h) : fx_Mt l D y_Pre_checkIndex (fx_hd y_Pre_checkIndex prog_40_method_11_code 3 (Option.some FieldType.int) []) 0 0 [.int x0, .int x1, .null] h (fx_oI Q fx_no) := by
  refine fx_ofW (by decide +kernel) (fun p e s m below meth c C F => ?_)
  have hv := lv_entry ([.int x0, .int x1, .null]) (n := 3) (Nat.le_of_ble_eq_true rfl)
  rw [lg_entry_eq]
  generalize (lg_sl ([.int x0, .int x1, .null]) ++ List.replicate (3 - (lg_sl ([.int x0, .int x1, .null])).length) Slot.unset).toArray = ls at hv ⊢
  have hv : lv_has ls 3 [(0, .int x0), (1, .int x1), (2, .null)] := hv
  exact b_Pre_checkIndex_0 C hl _ _ _ hw _ _ _ _ _ hv F
/-! java/util/Objects.checkIndex(II)I: frames 1, words 14 -/
abbrev y_Objs_checkIndex : MethodName := ⟨"java/util/Objects", "checkIndex", "(II)I"⟩
theorem lm_Objs_105 : Cond.methodLink "java/util/Objects" 105 y_Pre_checkIndex ∈ tables_1 ∨ ∃ host, Cond.methodLinkNest "java/util/Objects" 105 y_Pre_checkIndex host ∈ tables_1 := Or.inl (fx_m3 (List.mem_of_getElem? (i := 101) rfl))
section
variable {p : Program} {l : Launch} {e : Env} {R : Room} {s : State} {m : MethodId} {args : Array Value} {below : List Frame} {meth : Method} {c : Code} {H : Heap} {locs : List Loc} {cells slots : Nat}
variable {D : DD} {y : MethodName} {cc : ByteArray} {nL kf kw : Nat} {ret : Option FieldType} {hh : List (Nat × Nat × Nat × Nat)} {h0 h : AH} {pc : Nat} {ls : Array Slot} {rest : List Value} {b idx : Nat}
theorem iv_Pre_checkIndex {x0 : Int32} {x1 : Int32} (C : fx_CX D y cc nL kf kw ret hh h0 p R s m meth c) (F : fx_F D h0 h H locs cells slots) (hw1 : Cond.methodLink y.cls idx y_Pre_checkIndex ∈ tables_1 ∨ ∃ host, Cond.methodLinkNest y.cls idx y_Pre_checkIndex host ∈ tables_1) (hd : decode cc pc = .ok (.invokestatic idx, 3)) : fx_IV p l e R s m args below meth c H locs cells slots (F0 m pc ls (.null :: .int x1 :: .int x0 :: rest)) rest y_Pre_checkIndex [.int x0, .int x1, .null] 3 := fun T hT X => fx_invS (As := [.int x0, .int x1, .null]) C X hw1 (fx_m3 (List.mem_of_getElem? (i := 102) rfl)) hi_Pre_checkIndex hm_Pre_checkIndex ⟨by decide, by decide⟩ rfl (n := 3) (by decide +kernel) rfl rfl hd
end
def dl_Objs_checkIndex : List (Nat × Instr × Nat) := [(0, .iload_n 0, 1), (1, .iload_n 1, 1), (2, .aconst_null, 1), (3, .invokestatic 105, 3), (6, .ireturn, 1)]
theorem dk_Objs_checkIndex : fx_dec prog_36_method_17_code dl_Objs_checkIndex = true := by decide +kernel
theorem d_Objs_checkIndex_0 : decode prog_36_method_17_code 0 = .ok (.iload_n 0, 1) := fx_dat dk_Objs_checkIndex 0 rfl
theorem d_Objs_checkIndex_1 : decode prog_36_method_17_code 1 = .ok (.iload_n 1, 1) := fx_dat dk_Objs_checkIndex 1 rfl
theorem d_Objs_checkIndex_2 : decode prog_36_method_17_code 2 = .ok (.aconst_null, 1) := fx_dat dk_Objs_checkIndex 2 rfl
theorem d_Objs_checkIndex_3 : decode prog_36_method_17_code 3 = .ok (.invokestatic 105, 3) := fx_dat dk_Objs_checkIndex 3 rfl
theorem d_Objs_checkIndex_6 : decode prog_36_method_17_code 6 = .ok (.ireturn, 1) := fx_dat dk_Objs_checkIndex 4 rfl
def m_Objs_checkIndex (Q : Int32 → AH → Prop) (x0 : Int32) (x1 : Int32) (h : AH) : Prop := m_Pre_checkIndex (fun v1 h1 => fx_ext h h1 → Q v1 h1) x0 x1 h
theorem b_Objs_checkIndex_0 {p : Program} {l : Launch} {e : Env} {R : Room} {s : State} {m : MethodId} {args : Array Value} {below : List Frame} {meth : Method} {c : Code} {D : DD} {h0 : AH} {Q : Int32 → AH → Prop} (C : fx_CX D y_Objs_checkIndex prog_36_method_17_code 2 1 14 (Option.some FieldType.int) [] h0 p R s m meth c) (hl : l.flags = flags0) (x0 : Int32) (x1 : Int32) (h : AH) (hw : m_Objs_checkIndex Q x0 x1 h) : ∀ (ls : Array Slot) (H : Heap) (locs : List Loc) (cells slots : Nat), lv_has ls 2 [(0, .int x0), (1, .int x1)] → fx_F D h0 h H locs cells slots → W p l e R s m args below meth c H locs cells slots (fx_Z D below s h0 (fx_oI Q fx_no)) (F0 m 0 ls []) := by
  unfold m_Objs_checkIndex at hw
  intro ls H locs cells slots hv F
  refine lv_iload_n C.ex C.by d_Objs_checkIndex_0 rfl (lv_at hv 0 rfl) ?_
  refine lv_iload_n C.ex C.by d_Objs_checkIndex_1 rfl (lv_at hv 1 rfl) ?_
  refine lv_null C.ex C.by d_Objs_checkIndex_2 ?_
  refine fx_callI C F (c_Pre_checkIndex hl hw) hm_Pre_checkIndex hi_Pre_checkIndex hv.1 (by decide) (Nat.le_of_ble_eq_true rfl) (iv_Pre_checkIndex C F lm_Objs_105 d_Objs_checkIndex_3) (fx_out0 _) fx_eno (fun v1 h1 H locs cells slots hw hx1 F => ?_)
  replace hw := hw hx1
  exact fx_iret C F d_Objs_checkIndex_6 (Or.inl ⟨_, rfl, hw⟩)
theorem hm_Objs_checkIndex : fx_hd y_Objs_checkIndex prog_36_method_17_code 2 (Option.some FieldType.int) [] ∈ tables_1 := (fx_m3 (List.mem_of_getElem? (i := 100) rfl))
theorem hi_Objs_checkIndex : Cond.initialized y_Objs_checkIndex.cls ∈ tables_1 := (fx_m1 (List.mem_of_getElem? (i := 24) rfl))
theorem c_Objs_checkIndex {l : Launch} (hl : l.flags = flags0) {D : DD} {Q : Int32 → AH → Prop} {x0 : Int32} {x1 : Int32} {h : AH} (hw : m_Objs_checkIndex Q x0 x1 h) : fx_Mt l D y_Objs_checkIndex (fx_hd y_Objs_checkIndex prog_36_method_17_code 2 (Option.some FieldType.int) []) 1 14 [.int x0, .int x1] h (fx_oI Q fx_no) := by
  refine fx_ofW (by decide +kernel) (fun p e s m below meth c C F => ?_)
  have hv := lv_entry ([.int x0, .int x1]) (n := 2) (Nat.le_of_ble_eq_true rfl)
  rw [lg_entry_eq]
  generalize (lg_sl ([.int x0, .int x1]) ++ List.replicate (2 - (lg_sl ([.int x0, .int x1])).length) Slot.unset).toArray = ls at hv ⊢
  have hv : lv_has ls 2 [(0, .int x0), (1, .int x1)] := hv
  exact b_Objs_checkIndex_0 C hl _ _ _ hw _ _ _ _ _ hv F
/-! java/util/ArrayList.elementData(I)Ljava/lang/Object;: frames 0, words 0 -/
abbrev y_AL_elementData : MethodName := ⟨"java/util/ArrayList", "elementData", "(I)Ljava/lang/Object;"⟩
def dl_AL_elementData : List (Nat × Instr × Nat) := [(0, .aload_n 0, 1), (1, .getfield 9, 3), (4, .iload_n 1, 1), (5, .aaload, 1), (6, .areturn, 1)]
theorem dk_AL_elementData : fx_dec prog_31_method_18_code dl_AL_elementData = true := by decide +kernel
theorem d_AL_elementData_0 : decode prog_31_method_18_code 0 = .ok (.aload_n 0, 1) := fx_dat dk_AL_elementData 0 rfl
theorem d_AL_elementData_1 : decode prog_31_method_18_code 1 = .ok (.getfield 9, 3) := fx_dat dk_AL_elementData 1 rfl
theorem d_AL_elementData_4 : decode prog_31_method_18_code 4 = .ok (.iload_n 1, 1) := fx_dat dk_AL_elementData 2 rfl
theorem d_AL_elementData_5 : decode prog_31_method_18_code 5 = .ok (.aaload, 1) := fx_dat dk_AL_elementData 3 rfl
theorem d_AL_elementData_6 : decode prog_31_method_18_code 6 = .ok (.areturn, 1) := fx_dat dk_AL_elementData 4 rfl
def m_AL_elementData (Q : Nat → AH → Prop) (r0 : Nat) (x1 : Int32) (h : AH) : Prop := hp_k h r0 = 12 ∧ ∃ b1, hp_R h r0 0 = some b1 ∧ ok (hp_k h b1) ∧ vp_in x1 (hp_n h b1) ∧ ∃ b2, hp_R h b1 x1.toNatClampNeg = some b2 ∧ Q b2 h
theorem b_AL_elementData_0 {p : Program} {l : Launch} {e : Env} {R : Room} {s : State} {m : MethodId} {args : Array Value} {below : List Frame} {meth : Method} {c : Code} {D : DD} {h0 : AH} {Q : Nat → AH → Prop} (C : fx_CX D y_AL_elementData prog_31_method_18_code 2 0 0 (Option.some (FieldType.object "java/lang/Object")) [] h0 p R s m meth c) (hl : l.flags = flags0) (r0 : Nat) (x1 : Int32) (h : AH) (hw : m_AL_elementData Q r0 x1 h) : ∀ (ls : Array Slot) (H : Heap) (locs : List Loc) (cells slots : Nat), lv_has ls 2 [(0, .ref r0), (1, .int x1)] → fx_F D h0 h H locs cells slots → W p l e R s m args below meth c H locs cells slots (fx_Z D below s h0 (fx_oR Q fx_no)) (F0 m 0 ls []) := by
  unfold m_AL_elementData at hw
  intro ls H locs cells slots hv F
  refine lv_aload_n C.ex C.by d_AL_elementData_0 rfl (lv_at hv 0 rfl) ?_
  obtain ⟨hk1, hw⟩ := hw
  obtain ⟨b1, hb1, hw⟩ := hw
  refine fx_getR C F lf_AL_9 hk1 rfl hb1 d_AL_elementData_1 ?_
  refine lv_iload_n C.ex C.by d_AL_elementData_4 rfl (lv_at hv 1 rfl) ?_
  obtain ⟨hk2, hw⟩ := hw
  obtain ⟨hi1, hw⟩ := hw
  obtain ⟨b2, hb2, hw⟩ := hw
  refine fx_aald C F (Or.inl hk2) hi1 hb2 d_AL_elementData_5 ?_
  exact fx_aret C F (Or.inl ⟨_, rfl⟩) d_AL_elementData_6 (Or.inl ⟨_, rfl, hw⟩)
theorem hm_AL_elementData : fx_hd y_AL_elementData prog_31_method_18_code 2 (Option.some (FieldType.object "java/lang/Object")) [] ∈ tables_1 := (fx_m3 (List.mem_of_getElem? (i := 107) rfl))
theorem hi_AL_elementData : Cond.initialized y_AL_elementData.cls ∈ tables_1 := (fx_m1 (List.mem_of_getElem? (i := 5) rfl))
theorem c_AL_elementData {l : Launch} (hl : l.flags = flags0) {D : DD} {Q : Nat → AH → Prop} {r0 : Nat} {x1 : Int32} {h : AH} (hw : m_AL_elementData Q r0 x1 h) : fx_Mt l D y_AL_elementData (fx_hd y_AL_elementData prog_31_method_18_code 2 (Option.some (FieldType.object "java/lang/Object")) []) 0 0 [.ref r0, .int x1] h (fx_oR Q fx_no) := by
  refine fx_ofW (by decide +kernel) (fun p e s m below meth c C F => ?_)
  have hv := lv_entry ([.ref r0, .int x1]) (n := 2) (Nat.le_of_ble_eq_true rfl)
  rw [lg_entry_eq]
  generalize (lg_sl ([.ref r0, .int x1]) ++ List.replicate (2 - (lg_sl ([.ref r0, .int x1])).length) Slot.unset).toArray = ls at hv ⊢
  have hv : lv_has ls 2 [(0, .ref r0), (1, .int x1)] := hv
  exact b_AL_elementData_0 C hl _ _ _ hw _ _ _ _ _ hv F
