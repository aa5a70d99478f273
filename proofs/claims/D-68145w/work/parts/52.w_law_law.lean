set_option maxRecDepth 10000
/-! ChainJudgeLaw.law([I)Z: frames 20, words 848 -/
abbrev y_Law_law : MethodName := ⟨"ChainJudgeLaw", "law", "([I)Z"⟩
theorem lm_Law_64 : Cond.methodLink "ChainJudgeLaw" 64 y_J_init ∈ tables_1 ∨ ∃ host, Cond.methodLinkNest "ChainJudgeLaw" 64 y_J_init host ∈ tables_1 := Or.inl (fx_m1 (List.mem_of_getElem? (i := 34) rfl))
theorem lm_Law_67 : Cond.methodLink "ChainJudgeLaw" 67 y_M_init ∈ tables_1 ∨ ∃ host, Cond.methodLinkNest "ChainJudgeLaw" 67 y_M_init host ∈ tables_1 := Or.inl (fx_m5 (List.mem_of_getElem? (i := 218) rfl))
theorem lm_Law_68 : Cond.methodLink "ChainJudgeLaw" 68 y_Law_feed ∈ tables_1 ∨ ∃ host, Cond.methodLinkNest "ChainJudgeLaw" 68 y_Law_feed host ∈ tables_1 := Or.inl (fx_m2 (List.mem_of_getElem? (i := 176) rfl))
theorem lm_Law_73 : Cond.methodLink "ChainJudgeLaw" 73 y_M_feed ∈ tables_1 ∨ ∃ host, Cond.methodLinkNest "ChainJudgeLaw" 73 y_M_feed host ∈ tables_1 := Or.inl (fx_m7 (List.mem_of_getElem? (i := 169) rfl))
theorem lm_Law_74 : Cond.methodLink "ChainJudgeLaw" 74 y_M_thrown ∈ tables_1 ∨ ∃ host, Cond.methodLinkNest "ChainJudgeLaw" 74 y_M_thrown host ∈ tables_1 := Or.inl (fx_m6 (List.mem_of_getElem? (i := 179) rfl))
theorem lm_Law_77 : Cond.methodLink "ChainJudgeLaw" 77 y_Law_end ∈ tables_1 ∨ ∃ host, Cond.methodLinkNest "ChainJudgeLaw" 77 y_Law_end host ∈ tables_1 := Or.inl (fx_m3 (List.mem_of_getElem? (i := 28) rfl))
theorem lm_Law_80 : Cond.methodLink "ChainJudgeLaw" 80 y_M_end ∈ tables_1 ∨ ∃ host, Cond.methodLinkNest "ChainJudgeLaw" 80 y_M_end host ∈ tables_1 := Or.inl (fx_m7 (List.mem_of_getElem? (i := 174) rfl))
theorem lm_Law_81 : Cond.methodLink "ChainJudgeLaw" 81 y_Law_key ∈ tables_1 ∨ ∃ host, Cond.methodLinkNest "ChainJudgeLaw" 81 y_Law_key host ∈ tables_1 := Or.inl (fx_m3 (List.mem_of_getElem? (i := 51) rfl))
theorem lm_Law_84 : Cond.methodLink "ChainJudgeLaw" 84 y_M_key_ ∈ tables_1 ∨ ∃ host, Cond.methodLinkNest "ChainJudgeLaw" 84 y_M_key_ host ∈ tables_1 := Or.inl (fx_m7 (List.mem_of_getElem? (i := 178) rfl))
theorem lm_Law_85 : Cond.methodLink "ChainJudgeLaw" 85 y_Law_issue ∈ tables_1 ∨ ∃ host, Cond.methodLinkNest "ChainJudgeLaw" 85 y_Law_issue host ∈ tables_1 := Or.inl (fx_m3 (List.mem_of_getElem? (i := 62) rfl))
theorem lm_Law_87 : Cond.methodLink "ChainJudgeLaw" 87 y_M_issue ∈ tables_1 ∨ ∃ host, Cond.methodLinkNest "ChainJudgeLaw" 87 y_M_issue host ∈ tables_1 := Or.inl (fx_m6 (List.mem_of_getElem? (i := 183) rfl))
theorem lm_Law_88 : Cond.methodLink "ChainJudgeLaw" 88 y_Law_take ∈ tables_1 ∨ ∃ host, Cond.methodLinkNest "ChainJudgeLaw" 88 y_Law_take host ∈ tables_1 := Or.inl (fx_m5 (List.mem_of_getElem? (i := 57) rfl))
theorem lm_Law_90 : Cond.methodLink "ChainJudgeLaw" 90 y_M_take ∈ tables_1 ∨ ∃ host, Cond.methodLinkNest "ChainJudgeLaw" 90 y_M_take host ∈ tables_1 := Or.inl (fx_m7 (List.mem_of_getElem? (i := 153) rfl))
theorem lm_Law_91 : Cond.methodLink "ChainJudgeLaw" 91 y_Law_alter ∈ tables_1 ∨ ∃ host, Cond.methodLinkNest "ChainJudgeLaw" 91 y_Law_alter host ∈ tables_1 := Or.inl (fx_m5 (List.mem_of_getElem? (i := 64) rfl))
theorem lm_Law_94 : Cond.methodLink "ChainJudgeLaw" 94 y_M_alter ∈ tables_1 ∨ ∃ host, Cond.methodLinkNest "ChainJudgeLaw" 94 y_M_alter host ∈ tables_1 := Or.inl (fx_m7 (List.mem_of_getElem? (i := 157) rfl))
theorem lm_Law_95 : Cond.methodLink "ChainJudgeLaw" 95 y_Law_byteOf ∈ tables_1 ∨ ∃ host, Cond.methodLinkNest "ChainJudgeLaw" 95 y_Law_byteOf host ∈ tables_1 := Or.inl (fx_m5 (List.mem_of_getElem? (i := 91) rfl))
theorem lm_Law_98 : Cond.methodLink "ChainJudgeLaw" 98 y_M_byteOf ∈ tables_1 ∨ ∃ host, Cond.methodLinkNest "ChainJudgeLaw" 98 y_M_byteOf host ∈ tables_1 := Or.inl (fx_m7 (List.mem_of_getElem? (i := 161) rfl))
theorem lm_Law_99 : Cond.methodLink "ChainJudgeLaw" 99 y_Law_told ∈ tables_1 ∨ ∃ host, Cond.methodLinkNest "ChainJudgeLaw" 99 y_Law_told host ∈ tables_1 := Or.inl (fx_m5 (List.mem_of_getElem? (i := 98) rfl))
theorem lm_Law_101 : Cond.methodLink "ChainJudgeLaw" 101 y_M_told ∈ tables_1 ∨ ∃ host, Cond.methodLinkNest "ChainJudgeLaw" 101 y_M_told host ∈ tables_1 := Or.inl (fx_m7 (List.mem_of_getElem? (i := 165) rfl))
theorem lm_Law_102 : Cond.methodLink "ChainJudgeLaw" 102 y_Law_add ∈ tables_1 ∨ ∃ host, Cond.methodLinkNest "ChainJudgeLaw" 102 y_Law_add host ∈ tables_1 := Or.inl (fx_m5 (List.mem_of_getElem? (i := 105) rfl))
theorem lm_Law_104 : Cond.methodLink "ChainJudgeLaw" 104 y_M_add ∈ tables_1 ∨ ∃ host, Cond.methodLinkNest "ChainJudgeLaw" 104 y_M_add host ∈ tables_1 := Or.inl (fx_m7 (List.mem_of_getElem? (i := 182) rfl))
theorem lm_Law_105 : Cond.methodLink "ChainJudgeLaw" 105 y_J_clear ∈ tables_1 ∨ ∃ host, Cond.methodLinkNest "ChainJudgeLaw" 105 y_J_clear host ∈ tables_1 := Or.inl (fx_m2 (List.mem_of_getElem? (i := 164) rfl))
theorem lm_Law_108 : Cond.methodLink "ChainJudgeLaw" 108 y_M_clear ∈ tables_1 ∨ ∃ host, Cond.methodLinkNest "ChainJudgeLaw" 108 y_M_clear host ∈ tables_1 := Or.inl (fx_m7 (List.mem_of_getElem? (i := 186) rfl))
theorem lm_Law_109 : Cond.methodLink "ChainJudgeLaw" 109 y_Law_trust ∈ tables_1 ∨ ∃ host, Cond.methodLinkNest "ChainJudgeLaw" 109 y_Law_trust host ∈ tables_1 := Or.inl (fx_m5 (List.mem_of_getElem? (i := 112) rfl))
theorem lm_Law_111 : Cond.methodLink "ChainJudgeLaw" 111 y_M_trust ∈ tables_1 ∨ ∃ host, Cond.methodLinkNest "ChainJudgeLaw" 111 y_M_trust host ∈ tables_1 := Or.inl (fx_m7 (List.mem_of_getElem? (i := 190) rfl))
theorem lm_Law_112 : Cond.methodLink "ChainJudgeLaw" 112 y_Law_host ∈ tables_1 ∨ ∃ host, Cond.methodLinkNest "ChainJudgeLaw" 112 y_Law_host host ∈ tables_1 := Or.inl (fx_m5 (List.mem_of_getElem? (i := 119) rfl))
theorem lm_Law_114 : Cond.methodLink "ChainJudgeLaw" 114 y_M_host ∈ tables_1 ∨ ∃ host, Cond.methodLinkNest "ChainJudgeLaw" 114 y_M_host host ∈ tables_1 := Or.inl (fx_m7 (List.mem_of_getElem? (i := 194) rfl))
theorem lm_Law_115 : Cond.methodLink "ChainJudgeLaw" 115 y_Law_judge ∈ tables_1 ∨ ∃ host, Cond.methodLinkNest "ChainJudgeLaw" 115 y_Law_judge host ∈ tables_1 := Or.inl (fx_m5 (List.mem_of_getElem? (i := 130) rfl))
theorem lm_Law_117 : Cond.methodLink "ChainJudgeLaw" 117 y_M_judge ∈ tables_1 ∨ ∃ host, Cond.methodLinkNest "ChainJudgeLaw" 117 y_M_judge host ∈ tables_1 := Or.inl (fx_m7 (List.mem_of_getElem? (i := 198) rfl))
theorem lm_Law_118 : Cond.methodLink "ChainJudgeLaw" 118 y_Law_path ∈ tables_1 ∨ ∃ host, Cond.methodLinkNest "ChainJudgeLaw" 118 y_Law_path host ∈ tables_1 := Or.inl (fx_m5 (List.mem_of_getElem? (i := 209) rfl))
theorem lm_Law_120 : Cond.methodLink "ChainJudgeLaw" 120 y_M_path ∈ tables_1 ∨ ∃ host, Cond.methodLinkNest "ChainJudgeLaw" 120 y_M_path host ∈ tables_1 := Or.inl (fx_m7 (List.mem_of_getElem? (i := 237) rfl))
theorem lm_Law_121 : Cond.methodLink "ChainJudgeLaw" 121 y_J_count ∈ tables_1 ∨ ∃ host, Cond.methodLinkNest "ChainJudgeLaw" 121 y_J_count host ∈ tables_1 := Or.inl (fx_m2 (List.mem_of_getElem? (i := 168) rfl))
theorem lm_Law_124 : Cond.methodLink "ChainJudgeLaw" 124 y_M_count ∈ tables_1 ∨ ∃ host, Cond.methodLinkNest "ChainJudgeLaw" 124 y_M_count host ∈ tables_1 := Or.inl (fx_m8 (List.mem_of_getElem? (i := 1) rfl))
section
variable {p : Program} {l : Launch} {e : Env} {R : Room} {s : State} {m : MethodId} {args : Array Value} {below : List Frame} {meth : Method} {c : Code} {H : Heap} {locs : List Loc} {cells slots : Nat}
variable {D : DD} {y : MethodName} {cc : ByteArray} {nL kf kw : Nat} {ret : Option FieldType} {hh : List (Nat × Nat × Nat × Nat)} {h0 h : AH} {pc : Nat} {ls : Array Slot} {rest : List Value} {b idx : Nat}
theorem iv_J_init (C : fx_CX D y cc nL kf kw ret hh h0 p R s m meth c) (F : fx_F D h0 h H locs cells slots) (hw1 : Cond.methodLink y.cls idx y_J_init ∈ tables_1 ∨ ∃ host, Cond.methodLinkNest y.cls idx y_J_init host ∈ tables_1) (hd : decode cc pc = .ok (.invokespecial idx, 3)) : fx_IV p l e R s m args below meth c H locs cells slots (F0 m pc ls (.ref b :: rest)) rest y_J_init [.ref b] 3 := fun T hT X => fx_invI (As := []) C X hw1 (fx_m1 (List.mem_of_getElem? (i := 35) rfl)) hm_J_init ⟨by decide, by decide⟩ rfl rfl (n := 0) (by decide +kernel) rfl rfl hd
theorem iv_M_init (C : fx_CX D y cc nL kf kw ret hh h0 p R s m meth c) (F : fx_F D h0 h H locs cells slots) (hw1 : Cond.methodLink y.cls idx y_M_init ∈ tables_1 ∨ ∃ host, Cond.methodLinkNest y.cls idx y_M_init host ∈ tables_1) (hd : decode cc pc = .ok (.invokespecial idx, 3)) : fx_IV p l e R s m args below meth c H locs cells slots (F0 m pc ls (.ref b :: rest)) rest y_M_init [.ref b] 3 := fun T hT X => fx_invI (As := []) C X hw1 (fx_m5 (List.mem_of_getElem? (i := 219) rfl)) hm_M_init ⟨by decide, by decide⟩ rfl rfl (n := 0) (by decide +kernel) rfl rfl hd
theorem iv_Law_add {r0 : Nat} {x1 : Int32} {r2 : Nat} (C : fx_CX D y cc nL kf kw ret hh h0 p R s m meth c) (F : fx_F D h0 h H locs cells slots) (hw1 : Cond.methodLink y.cls idx y_Law_add ∈ tables_1 ∨ ∃ host, Cond.methodLinkNest y.cls idx y_Law_add host ∈ tables_1) (hd : decode cc pc = .ok (.invokestatic idx, 3)) : fx_IV p l e R s m args below meth c H locs cells slots (F0 m pc ls (.ref r2 :: .int x1 :: .ref r0 :: rest)) rest y_Law_add [.ref r0, .int x1, .ref r2] 3 := fun T hT X => fx_invS (As := [.ref r0, .int x1, .ref r2]) C X hw1 (fx_m5 (List.mem_of_getElem? (i := 106) rfl)) hi_Law_add hm_Law_add ⟨by decide, by decide⟩ rfl (n := 3) (by decide +kernel) rfl rfl hd
theorem iv_Law_alter {r0 : Nat} {x1 : Int32} {x2 : Int32} {x3 : Int32} {r4 : Nat} (C : fx_CX D y cc nL kf kw ret hh h0 p R s m meth c) (F : fx_F D h0 h H locs cells slots) (hw1 : Cond.methodLink y.cls idx y_Law_alter ∈ tables_1 ∨ ∃ host, Cond.methodLinkNest y.cls idx y_Law_alter host ∈ tables_1) (hd : decode cc pc = .ok (.invokestatic idx, 3)) : fx_IV p l e R s m args below meth c H locs cells slots (F0 m pc ls (.ref r4 :: .int x3 :: .int x2 :: .int x1 :: .ref r0 :: rest)) rest y_Law_alter [.ref r0, .int x1, .int x2, .int x3, .ref r4] 3 := fun T hT X => fx_invS (As := [.ref r0, .int x1, .int x2, .int x3, .ref r4]) C X hw1 (fx_m5 (List.mem_of_getElem? (i := 65) rfl)) hi_Law_alter hm_Law_alter ⟨by decide, by decide⟩ rfl (n := 5) (by decide +kernel) rfl rfl hd
theorem iv_Law_byteOf {r0 : Nat} {x1 : Int32} {x2 : Int32} {r3 : Nat} (C : fx_CX D y cc nL kf kw ret hh h0 p R s m meth c) (F : fx_F D h0 h H locs cells slots) (hw1 : Cond.methodLink y.cls idx y_Law_byteOf ∈ tables_1 ∨ ∃ host, Cond.methodLinkNest y.cls idx y_Law_byteOf host ∈ tables_1) (hd : decode cc pc = .ok (.invokestatic idx, 3)) : fx_IV p l e R s m args below meth c H locs cells slots (F0 m pc ls (.ref r3 :: .int x2 :: .int x1 :: .ref r0 :: rest)) rest y_Law_byteOf [.ref r0, .int x1, .int x2, .ref r3] 3 := fun T hT X => fx_invS (As := [.ref r0, .int x1, .int x2, .ref r3]) C X hw1 (fx_m5 (List.mem_of_getElem? (i := 92) rfl)) hi_Law_byteOf hm_Law_byteOf ⟨by decide, by decide⟩ rfl (n := 4) (by decide +kernel) rfl rfl hd
theorem iv_Law_end {r0 : Nat} {x1 : Int32} {r2 : Nat} (C : fx_CX D y cc nL kf kw ret hh h0 p R s m meth c) (F : fx_F D h0 h H locs cells slots) (hw1 : Cond.methodLink y.cls idx y_Law_end ∈ tables_1 ∨ ∃ host, Cond.methodLinkNest y.cls idx y_Law_end host ∈ tables_1) (hd : decode cc pc = .ok (.invokestatic idx, 3)) : fx_IV p l e R s m args below meth c H locs cells slots (F0 m pc ls (.ref r2 :: .int x1 :: .ref r0 :: rest)) rest y_Law_end [.ref r0, .int x1, .ref r2] 3 := fun T hT X => fx_invS (As := [.ref r0, .int x1, .ref r2]) C X hw1 (fx_m3 (List.mem_of_getElem? (i := 29) rfl)) hi_Law_end hm_Law_end ⟨by decide, by decide⟩ rfl (n := 3) (by decide +kernel) rfl rfl hd
theorem iv_Law_feed {r0 : Nat} {x1 : Int32} {x2 : Int32} {x3 : Int32} {x4 : Int32} {x5 : Int32} {r6 : Nat} (C : fx_CX D y cc nL kf kw ret hh h0 p R s m meth c) (F : fx_F D h0 h H locs cells slots) (hw1 : Cond.methodLink y.cls idx y_Law_feed ∈ tables_1 ∨ ∃ host, Cond.methodLinkNest y.cls idx y_Law_feed host ∈ tables_1) (hd : decode cc pc = .ok (.invokestatic idx, 3)) : fx_IV p l e R s m args below meth c H locs cells slots (F0 m pc ls (.ref r6 :: .int x5 :: .int x4 :: .int x3 :: .int x2 :: .int x1 :: .ref r0 :: rest)) rest y_Law_feed [.ref r0, .int x1, .int x2, .int x3, .int x4, .int x5, .ref r6] 3 := fun T hT X => fx_invS (As := [.ref r0, .int x1, .int x2, .int x3, .int x4, .int x5, .ref r6]) C X hw1 (fx_m2 (List.mem_of_getElem? (i := 177) rfl)) hi_Law_feed hm_Law_feed ⟨by decide, by decide⟩ rfl (n := 7) (by decide +kernel) rfl rfl hd
theorem iv_Law_host {r0 : Nat} {r1 : Nat} (C : fx_CX D y cc nL kf kw ret hh h0 p R s m meth c) (F : fx_F D h0 h H locs cells slots) (hw1 : Cond.methodLink y.cls idx y_Law_host ∈ tables_1 ∨ ∃ host, Cond.methodLinkNest y.cls idx y_Law_host host ∈ tables_1) (hd : decode cc pc = .ok (.invokestatic idx, 3)) : fx_IV p l e R s m args below meth c H locs cells slots (F0 m pc ls (.ref r1 :: .ref r0 :: rest)) rest y_Law_host [.ref r0, .ref r1] 3 := fun T hT X => fx_invS (As := [.ref r0, .ref r1]) C X hw1 (fx_m5 (List.mem_of_getElem? (i := 120) rfl)) hi_Law_host hm_Law_host ⟨by decide, by decide⟩ rfl (n := 2) (by decide +kernel) rfl rfl hd
theorem iv_Law_issue {r0 : Nat} {x1 : Int32} {x2 : Int32} {x3 : Int32} {x4 : Int32} {x5 : Int32} {r6 : Nat} (C : fx_CX D y cc nL kf kw ret hh h0 p R s m meth c) (F : fx_F D h0 h H locs cells slots) (hw1 : Cond.methodLink y.cls idx y_Law_issue ∈ tables_1 ∨ ∃ host, Cond.methodLinkNest y.cls idx y_Law_issue host ∈ tables_1) (hd : decode cc pc = .ok (.invokestatic idx, 3)) : fx_IV p l e R s m args below meth c H locs cells slots (F0 m pc ls (.ref r6 :: .int x5 :: .int x4 :: .int x3 :: .int x2 :: .int x1 :: .ref r0 :: rest)) rest y_Law_issue [.ref r0, .int x1, .int x2, .int x3, .int x4, .int x5, .ref r6] 3 := fun T hT X => fx_invS (As := [.ref r0, .int x1, .int x2, .int x3, .int x4, .int x5, .ref r6]) C X hw1 (fx_m3 (List.mem_of_getElem? (i := 63) rfl)) hi_Law_issue hm_Law_issue ⟨by decide, by decide⟩ rfl (n := 7) (by decide +kernel) rfl rfl hd
theorem iv_Law_judge {r0 : Nat} {x1 : Int32} {x2 : Int32} {r3 : Nat} (C : fx_CX D y cc nL kf kw ret hh h0 p R s m meth c) (F : fx_F D h0 h H locs cells slots) (hw1 : Cond.methodLink y.cls idx y_Law_judge ∈ tables_1 ∨ ∃ host, Cond.methodLinkNest y.cls idx y_Law_judge host ∈ tables_1) (hd : decode cc pc = .ok (.invokestatic idx, 3)) : fx_IV p l e R s m args below meth c H locs cells slots (F0 m pc ls (.ref r3 :: .int x2 :: .int x1 :: .ref r0 :: rest)) rest y_Law_judge [.ref r0, .int x1, .int x2, .ref r3] 3 := fun T hT X => fx_invS (As := [.ref r0, .int x1, .int x2, .ref r3]) C X hw1 (fx_m5 (List.mem_of_getElem? (i := 131) rfl)) hi_Law_judge hm_Law_judge ⟨by decide, by decide⟩ rfl (n := 4) (by decide +kernel) rfl rfl hd
theorem iv_Law_key {r0 : Nat} {r1 : Nat} (C : fx_CX D y cc nL kf kw ret hh h0 p R s m meth c) (F : fx_F D h0 h H locs cells slots) (hw1 : Cond.methodLink y.cls idx y_Law_key ∈ tables_1 ∨ ∃ host, Cond.methodLinkNest y.cls idx y_Law_key host ∈ tables_1) (hd : decode cc pc = .ok (.invokestatic idx, 3)) : fx_IV p l e R s m args below meth c H locs cells slots (F0 m pc ls (.ref r1 :: .ref r0 :: rest)) rest y_Law_key [.ref r0, .ref r1] 3 := fun T hT X => fx_invS (As := [.ref r0, .ref r1]) C X hw1 (fx_m3 (List.mem_of_getElem? (i := 52) rfl)) hi_Law_key hm_Law_key ⟨by decide, by decide⟩ rfl (n := 2) (by decide +kernel) rfl rfl hd
theorem iv_Law_path {r0 : Nat} {x1 : Int32} {r2 : Nat} (C : fx_CX D y cc nL kf kw ret hh h0 p R s m meth c) (F : fx_F D h0 h H locs cells slots) (hw1 : Cond.methodLink y.cls idx y_Law_path ∈ tables_1 ∨ ∃ host, Cond.methodLinkNest y.cls idx y_Law_path host ∈ tables_1) (hd : decode cc pc = .ok (.invokestatic idx, 3)) : fx_IV p l e R s m args below meth c H locs cells slots (F0 m pc ls (.ref r2 :: .int x1 :: .ref r0 :: rest)) rest y_Law_path [.ref r0, .int x1, .ref r2] 3 := fun T hT X => fx_invS (As := [.ref r0, .int x1, .ref r2]) C X hw1 (fx_m5 (List.mem_of_getElem? (i := 210) rfl)) hi_Law_path hm_Law_path ⟨by decide, by decide⟩ rfl (n := 3) (by decide +kernel) rfl rfl hd
theorem iv_Law_take {r0 : Nat} {x1 : Int32} {r2 : Nat} (C : fx_CX D y cc nL kf kw ret hh h0 p R s m meth c) (F : fx_F D h0 h H locs cells slots) (hw1 : Cond.methodLink y.cls idx y_Law_take ∈ tables_1 ∨ ∃ host, Cond.methodLinkNest y.cls idx y_Law_take host ∈ tables_1) (hd : decode cc pc = .ok (.invokestatic idx, 3)) : fx_IV p l e R s m args below meth c H locs cells slots (F0 m pc ls (.ref r2 :: .int x1 :: .ref r0 :: rest)) rest y_Law_take [.ref r0, .int x1, .ref r2] 3 := fun T hT X => fx_invS (As := [.ref r0, .int x1, .ref r2]) C X hw1 (fx_m5 (List.mem_of_getElem? (i := 58) rfl)) hi_Law_take hm_Law_take ⟨by decide, by decide⟩ rfl (n := 3) (by decide +kernel) rfl rfl hd
theorem iv_Law_told {r0 : Nat} {x1 : Int32} {x2 : Int32} {r3 : Nat} (C : fx_CX D y cc nL kf kw ret hh h0 p R s m meth c) (F : fx_F D h0 h H locs cells slots) (hw1 : Cond.methodLink y.cls idx y_Law_told ∈ tables_1 ∨ ∃ host, Cond.methodLinkNest y.cls idx y_Law_told host ∈ tables_1) (hd : decode cc pc = .ok (.invokestatic idx, 3)) : fx_IV p l e R s m args below meth c H locs cells slots (F0 m pc ls (.ref r3 :: .int x2 :: .int x1 :: .ref r0 :: rest)) rest y_Law_told [.ref r0, .int x1, .int x2, .ref r3] 3 := fun T hT X => fx_invS (As := [.ref r0, .int x1, .int x2, .ref r3]) C X hw1 (fx_m5 (List.mem_of_getElem? (i := 99) rfl)) hi_Law_told hm_Law_told ⟨by decide, by decide⟩ rfl (n := 4) (by decide +kernel) rfl rfl hd
theorem iv_Law_trust {r0 : Nat} {x1 : Int32} {r2 : Nat} (C : fx_CX D y cc nL kf kw ret hh h0 p R s m meth c) (F : fx_F D h0 h H locs cells slots) (hw1 : Cond.methodLink y.cls idx y_Law_trust ∈ tables_1 ∨ ∃ host, Cond.methodLinkNest y.cls idx y_Law_trust host ∈ tables_1) (hd : decode cc pc = .ok (.invokestatic idx, 3)) : fx_IV p l e R s m args below meth c H locs cells slots (F0 m pc ls (.ref r2 :: .int x1 :: .ref r0 :: rest)) rest y_Law_trust [.ref r0, .int x1, .ref r2] 3 := fun T hT X => fx_invS (As := [.ref r0, .int x1, .ref r2]) C X hw1 (fx_m5 (List.mem_of_getElem? (i := 113) rfl)) hi_Law_trust hm_Law_trust ⟨by decide, by decide⟩ rfl (n := 3) (by decide +kernel) rfl rfl hd
theorem iv_J_clear (C : fx_CX D y cc nL kf kw ret hh h0 p R s m meth c) (F : fx_F D h0 h H locs cells slots) (hw1 : Cond.methodLink y.cls idx y_J_clear ∈ tables_1 ∨ ∃ host, Cond.methodLinkNest y.cls idx y_J_clear host ∈ tables_1) (hk : hp_k h b = 1) (hd : decode cc pc = .ok (.invokevirtual idx, 3)) : fx_IV p l e R s m args below meth c H locs cells slots (F0 m pc ls (.ref b :: rest)) rest y_J_clear [.ref b] 3 := fun T hT X => fx_invV (As := []) (Cn := "ChainJudge") C X hw1 (fx_m2 (List.mem_of_getElem? (i := 165) rfl)) (fx_selW C (fx_m2 (List.mem_of_getElem? (i := 166) rfl))) hm_J_clear ⟨by decide, by decide⟩ (by rw [hT]; exact fx_clsO (ci := 0) (r := ("ChainJudge", fx_T0, 16)) C F rfl (by decide) hk) rfl (n := 0) (by decide +kernel) rfl rfl hd
theorem iv_J_count {x1 : Int32} (C : fx_CX D y cc nL kf kw ret hh h0 p R s m meth c) (F : fx_F D h0 h H locs cells slots) (hw1 : Cond.methodLink y.cls idx y_J_count ∈ tables_1 ∨ ∃ host, Cond.methodLinkNest y.cls idx y_J_count host ∈ tables_1) (hk : hp_k h b = 1) (hd : decode cc pc = .ok (.invokevirtual idx, 3)) : fx_IV p l e R s m args below meth c H locs cells slots (F0 m pc ls (.int x1 :: .ref b :: rest)) rest y_J_count [.ref b, .int x1] 3 := fun T hT X => fx_invV (As := [.int x1]) (Cn := "ChainJudge") C X hw1 (fx_m2 (List.mem_of_getElem? (i := 169) rfl)) (fx_selW C (fx_m2 (List.mem_of_getElem? (i := 170) rfl))) hm_J_count ⟨by decide, by decide⟩ (by rw [hT]; exact fx_clsO (ci := 0) (r := ("ChainJudge", fx_T0, 16)) C F rfl (by decide) hk) rfl (n := 1) (by decide +kernel) rfl rfl hd
theorem iv_M_add {x1 : Int32} (C : fx_CX D y cc nL kf kw ret hh h0 p R s m meth c) (F : fx_F D h0 h H locs cells slots) (hw1 : Cond.methodLink y.cls idx y_M_add ∈ tables_1 ∨ ∃ host, Cond.methodLinkNest y.cls idx y_M_add host ∈ tables_1) (hk : hp_k h b = 13) (hd : decode cc pc = .ok (.invokevirtual idx, 3)) : fx_IV p l e R s m args below meth c H locs cells slots (F0 m pc ls (.int x1 :: .ref b :: rest)) rest y_M_add [.ref b, .int x1] 3 := fun T hT X => fx_invV (As := [.int x1]) (Cn := "ChainJudgeModel") C X hw1 (fx_m7 (List.mem_of_getElem? (i := 183) rfl)) (fx_selW C (fx_m7 (List.mem_of_getElem? (i := 184) rfl))) hm_M_add ⟨by decide, by decide⟩ (by rw [hT]; exact fx_clsO (ci := 12) (r := ("ChainJudgeModel", fx_T12, 57)) C F rfl (by decide) hk) rfl (n := 1) (by decide +kernel) rfl rfl hd
theorem iv_M_alter {x1 : Int32} {x2 : Int32} {x3 : Int32} (C : fx_CX D y cc nL kf kw ret hh h0 p R s m meth c) (F : fx_F D h0 h H locs cells slots) (hw1 : Cond.methodLink y.cls idx y_M_alter ∈ tables_1 ∨ ∃ host, Cond.methodLinkNest y.cls idx y_M_alter host ∈ tables_1) (hk : hp_k h b = 13) (hd : decode cc pc = .ok (.invokevirtual idx, 3)) : fx_IV p l e R s m args below meth c H locs cells slots (F0 m pc ls (.int x3 :: .int x2 :: .int x1 :: .ref b :: rest)) rest y_M_alter [.ref b, .int x1, .int x2, .int x3] 3 := fun T hT X => fx_invV (As := [.int x1, .int x2, .int x3]) (Cn := "ChainJudgeModel") C X hw1 (fx_m7 (List.mem_of_getElem? (i := 158) rfl)) (fx_selW C (fx_m7 (List.mem_of_getElem? (i := 159) rfl))) hm_M_alter ⟨by decide, by decide⟩ (by rw [hT]; exact fx_clsO (ci := 12) (r := ("ChainJudgeModel", fx_T12, 57)) C F rfl (by decide) hk) rfl (n := 3) (by decide +kernel) rfl rfl hd
theorem iv_M_byteOf {x1 : Int32} {x2 : Int32} (C : fx_CX D y cc nL kf kw ret hh h0 p R s m meth c) (F : fx_F D h0 h H locs cells slots) (hw1 : Cond.methodLink y.cls idx y_M_byteOf ∈ tables_1 ∨ ∃ host, Cond.methodLinkNest y.cls idx y_M_byteOf host ∈ tables_1) (hk : hp_k h b = 13) (hd : decode cc pc = .ok (.invokevirtual idx, 3)) : fx_IV p l e R s m args below meth c H locs cells slots (F0 m pc ls (.int x2 :: .int x1 :: .ref b :: rest)) rest y_M_byteOf [.ref b, .int x1, .int x2] 3 := fun T hT X => fx_invV (As := [.int x1, .int x2]) (Cn := "ChainJudgeModel") C X hw1 (fx_m7 (List.mem_of_getElem? (i := 162) rfl)) (fx_selW C (fx_m7 (List.mem_of_getElem? (i := 163) rfl))) hm_M_byteOf ⟨by decide, by decide⟩ (by rw [hT]; exact fx_clsO (ci := 12) (r := ("ChainJudgeModel", fx_T12, 57)) C F rfl (by decide) hk) rfl (n := 2) (by decide +kernel) rfl rfl hd
theorem iv_M_clear (C : fx_CX D y cc nL kf kw ret hh h0 p R s m meth c) (F : fx_F D h0 h H locs cells slots) (hw1 : Cond.methodLink y.cls idx y_M_clear ∈ tables_1 ∨ ∃ host, Cond.methodLinkNest y.cls idx y_M_clear host ∈ tables_1) (hk : hp_k h b = 13) (hd : decode cc pc = .ok (.invokevirtual idx, 3)) : fx_IV p l e R s m args below meth c H locs cells slots (F0 m pc ls (.ref b :: rest)) rest y_M_clear [.ref b] 3 := fun T hT X => fx_invV (As := []) (Cn := "ChainJudgeModel") C X hw1 (fx_m7 (List.mem_of_getElem? (i := 187) rfl)) (fx_selW C (fx_m7 (List.mem_of_getElem? (i := 188) rfl))) hm_M_clear ⟨by decide, by decide⟩ (by rw [hT]; exact fx_clsO (ci := 12) (r := ("ChainJudgeModel", fx_T12, 57)) C F rfl (by decide) hk) rfl (n := 0) (by decide +kernel) rfl rfl hd
theorem iv_M_count {x1 : Int32} (C : fx_CX D y cc nL kf kw ret hh h0 p R s m meth c) (F : fx_F D h0 h H locs cells slots) (hw1 : Cond.methodLink y.cls idx y_M_count ∈ tables_1 ∨ ∃ host, Cond.methodLinkNest y.cls idx y_M_count host ∈ tables_1) (hk : hp_k h b = 13) (hd : decode cc pc = .ok (.invokevirtual idx, 3)) : fx_IV p l e R s m args below meth c H locs cells slots (F0 m pc ls (.int x1 :: .ref b :: rest)) rest y_M_count [.ref b, .int x1] 3 := fun T hT X => fx_invV (As := [.int x1]) (Cn := "ChainJudgeModel") C X hw1 (fx_m8 (List.mem_of_getElem? (i := 2) rfl)) (fx_selW C (fx_m8 (List.mem_of_getElem? (i := 3) rfl))) hm_M_count ⟨by decide, by decide⟩ (by rw [hT]; exact fx_clsO (ci := 12) (r := ("ChainJudgeModel", fx_T12, 57)) C F rfl (by decide) hk) rfl (n := 1) (by decide +kernel) rfl rfl hd
theorem iv_M_end {x1 : Int32} (C : fx_CX D y cc nL kf kw ret hh h0 p R s m meth c) (F : fx_F D h0 h H locs cells slots) (hw1 : Cond.methodLink y.cls idx y_M_end ∈ tables_1 ∨ ∃ host, Cond.methodLinkNest y.cls idx y_M_end host ∈ tables_1) (hk : hp_k h b = 13) (hd : decode cc pc = .ok (.invokevirtual idx, 3)) : fx_IV p l e R s m args below meth c H locs cells slots (F0 m pc ls (.int x1 :: .ref b :: rest)) rest y_M_end [.ref b, .int x1] 3 := fun T hT X => fx_invV (As := [.int x1]) (Cn := "ChainJudgeModel") C X hw1 (fx_m7 (List.mem_of_getElem? (i := 175) rfl)) (fx_selW C (fx_m7 (List.mem_of_getElem? (i := 176) rfl))) hm_M_end ⟨by decide, by decide⟩ (by rw [hT]; exact fx_clsO (ci := 12) (r := ("ChainJudgeModel", fx_T12, 57)) C F rfl (by decide) hk) rfl (n := 1) (by decide +kernel) rfl rfl hd
theorem iv_M_feed {x1 : Int32} {x2 : Int32} {x3 : Int32} {x4 : Int32} {x5 : Int32} (C : fx_CX D y cc nL kf kw ret hh h0 p R s m meth c) (F : fx_F D h0 h H locs cells slots) (hw1 : Cond.methodLink y.cls idx y_M_feed ∈ tables_1 ∨ ∃ host, Cond.methodLinkNest y.cls idx y_M_feed host ∈ tables_1) (hk : hp_k h b = 13) (hd : decode cc pc = .ok (.invokevirtual idx, 3)) : fx_IV p l e R s m args below meth c H locs cells slots (F0 m pc ls (.int x5 :: .int x4 :: .int x3 :: .int x2 :: .int x1 :: .ref b :: rest)) rest y_M_feed [.ref b, .int x1, .int x2, .int x3, .int x4, .int x5] 3 := fun T hT X => fx_invV (As := [.int x1, .int x2, .int x3, .int x4, .int x5]) (Cn := "ChainJudgeModel") C X hw1 (fx_m7 (List.mem_of_getElem? (i := 170) rfl)) (fx_selW C (fx_m7 (List.mem_of_getElem? (i := 171) rfl))) hm_M_feed ⟨by decide, by decide⟩ (by rw [hT]; exact fx_clsO (ci := 12) (r := ("ChainJudgeModel", fx_T12, 57)) C F rfl (by decide) hk) rfl (n := 5) (by decide +kernel) rfl rfl hd
theorem iv_M_host (C : fx_CX D y cc nL kf kw ret hh h0 p R s m meth c) (F : fx_F D h0 h H locs cells slots) (hw1 : Cond.methodLink y.cls idx y_M_host ∈ tables_1 ∨ ∃ host, Cond.methodLinkNest y.cls idx y_M_host host ∈ tables_1) (hk : hp_k h b = 13) (hd : decode cc pc = .ok (.invokevirtual idx, 3)) : fx_IV p l e R s m args below meth c H locs cells slots (F0 m pc ls (.ref b :: rest)) rest y_M_host [.ref b] 3 := fun T hT X => fx_invV (As := []) (Cn := "ChainJudgeModel") C X hw1 (fx_m7 (List.mem_of_getElem? (i := 195) rfl)) (fx_selW C (fx_m7 (List.mem_of_getElem? (i := 196) rfl))) hm_M_host ⟨by decide, by decide⟩ (by rw [hT]; exact fx_clsO (ci := 12) (r := ("ChainJudgeModel", fx_T12, 57)) C F rfl (by decide) hk) rfl (n := 0) (by decide +kernel) rfl rfl hd
theorem iv_M_issue {x1 : Int32} {x2 : Int32} {x3 : Int32} {x4 : Int32} {x5 : Int32} (C : fx_CX D y cc nL kf kw ret hh h0 p R s m meth c) (F : fx_F D h0 h H locs cells slots) (hw1 : Cond.methodLink y.cls idx y_M_issue ∈ tables_1 ∨ ∃ host, Cond.methodLinkNest y.cls idx y_M_issue host ∈ tables_1) (hk : hp_k h b = 13) (hd : decode cc pc = .ok (.invokevirtual idx, 3)) : fx_IV p l e R s m args below meth c H locs cells slots (F0 m pc ls (.int x5 :: .int x4 :: .int x3 :: .int x2 :: .int x1 :: .ref b :: rest)) rest y_M_issue [.ref b, .int x1, .int x2, .int x3, .int x4, .int x5] 3 := fun T hT X => fx_invV (As := [.int x1, .int x2, .int x3, .int x4, .int x5]) (Cn := "ChainJudgeModel") C X hw1 (fx_m6 (List.mem_of_getElem? (i := 184) rfl)) (fx_selW C (fx_m6 (List.mem_of_getElem? (i := 185) rfl))) hm_M_issue ⟨by decide, by decide⟩ (by rw [hT]; exact fx_clsO (ci := 12) (r := ("ChainJudgeModel", fx_T12, 57)) C F rfl (by decide) hk) rfl (n := 5) (by decide +kernel) rfl rfl hd
theorem iv_M_judge {x1 : Int32} {x2 : Int32} (C : fx_CX D y cc nL kf kw ret hh h0 p R s m meth c) (F : fx_F D h0 h H locs cells slots) (hw1 : Cond.methodLink y.cls idx y_M_judge ∈ tables_1 ∨ ∃ host, Cond.methodLinkNest y.cls idx y_M_judge host ∈ tables_1) (hk : hp_k h b = 13) (hd : decode cc pc = .ok (.invokevirtual idx, 3)) : fx_IV p l e R s m args below meth c H locs cells slots (F0 m pc ls (.int x2 :: .int x1 :: .ref b :: rest)) rest y_M_judge [.ref b, .int x1, .int x2] 3 := fun T hT X => fx_invV (As := [.int x1, .int x2]) (Cn := "ChainJudgeModel") C X hw1 (fx_m7 (List.mem_of_getElem? (i := 199) rfl)) (fx_selW C (fx_m7 (List.mem_of_getElem? (i := 200) rfl))) hm_M_judge ⟨by decide, by decide⟩ (by rw [hT]; exact fx_clsO (ci := 12) (r := ("ChainJudgeModel", fx_T12, 57)) C F rfl (by decide) hk) rfl (n := 2) (by decide +kernel) rfl rfl hd
theorem iv_M_key_ (C : fx_CX D y cc nL kf kw ret hh h0 p R s m meth c) (F : fx_F D h0 h H locs cells slots) (hw1 : Cond.methodLink y.cls idx y_M_key_ ∈ tables_1 ∨ ∃ host, Cond.methodLinkNest y.cls idx y_M_key_ host ∈ tables_1) (hk : hp_k h b = 13) (hd : decode cc pc = .ok (.invokevirtual idx, 3)) : fx_IV p l e R s m args below meth c H locs cells slots (F0 m pc ls (.ref b :: rest)) rest y_M_key_ [.ref b] 3 := fun T hT X => fx_invV (As := []) (Cn := "ChainJudgeModel") C X hw1 (fx_m7 (List.mem_of_getElem? (i := 179) rfl)) (fx_selW C (fx_m7 (List.mem_of_getElem? (i := 180) rfl))) hm_M_key_ ⟨by decide, by decide⟩ (by rw [hT]; exact fx_clsO (ci := 12) (r := ("ChainJudgeModel", fx_T12, 57)) C F rfl (by decide) hk) rfl (n := 0) (by decide +kernel) rfl rfl hd
theorem iv_M_path {x1 : Int32} (C : fx_CX D y cc nL kf kw ret hh h0 p R s m meth c) (F : fx_F D h0 h H locs cells slots) (hw1 : Cond.methodLink y.cls idx y_M_path ∈ tables_1 ∨ ∃ host, Cond.methodLinkNest y.cls idx y_M_path host ∈ tables_1) (hk : hp_k h b = 13) (hd : decode cc pc = .ok (.invokevirtual idx, 3)) : fx_IV p l e R s m args below meth c H locs cells slots (F0 m pc ls (.int x1 :: .ref b :: rest)) rest y_M_path [.ref b, .int x1] 3 := fun T hT X => fx_invV (As := [.int x1]) (Cn := "ChainJudgeModel") C X hw1 (fx_m7 (List.mem_of_getElem? (i := 238) rfl)) (fx_selW C (fx_m7 (List.mem_of_getElem? (i := 239) rfl))) hm_M_path ⟨by decide, by decide⟩ (by rw [hT]; exact fx_clsO (ci := 12) (r := ("ChainJudgeModel", fx_T12, 57)) C F rfl (by decide) hk) rfl (n := 1) (by decide +kernel) rfl rfl hd
theorem iv_M_take {x1 : Int32} (C : fx_CX D y cc nL kf kw ret hh h0 p R s m meth c) (F : fx_F D h0 h H locs cells slots) (hw1 : Cond.methodLink y.cls idx y_M_take ∈ tables_1 ∨ ∃ host, Cond.methodLinkNest y.cls idx y_M_take host ∈ tables_1) (hk : hp_k h b = 13) (hd : decode cc pc = .ok (.invokevirtual idx, 3)) : fx_IV p l e R s m args below meth c H locs cells slots (F0 m pc ls (.int x1 :: .ref b :: rest)) rest y_M_take [.ref b, .int x1] 3 := fun T hT X => fx_invV (As := [.int x1]) (Cn := "ChainJudgeModel") C X hw1 (fx_m7 (List.mem_of_getElem? (i := 154) rfl)) (fx_selW C (fx_m7 (List.mem_of_getElem? (i := 155) rfl))) hm_M_take ⟨by decide, by decide⟩ (by rw [hT]; exact fx_clsO (ci := 12) (r := ("ChainJudgeModel", fx_T12, 57)) C F rfl (by decide) hk) rfl (n := 1) (by decide +kernel) rfl rfl hd
theorem iv_M_thrown (C : fx_CX D y cc nL kf kw ret hh h0 p R s m meth c) (F : fx_F D h0 h H locs cells slots) (hw1 : Cond.methodLink y.cls idx y_M_thrown ∈ tables_1 ∨ ∃ host, Cond.methodLinkNest y.cls idx y_M_thrown host ∈ tables_1) (hk : hp_k h b = 13) (hd : decode cc pc = .ok (.invokevirtual idx, 3)) : fx_IV p l e R s m args below meth c H locs cells slots (F0 m pc ls (.ref b :: rest)) rest y_M_thrown [.ref b] 3 := fun T hT X => fx_invV (As := []) (Cn := "ChainJudgeModel") C X hw1 (fx_m6 (List.mem_of_getElem? (i := 180) rfl)) (fx_selW C (fx_m6 (List.mem_of_getElem? (i := 181) rfl))) hm_M_thrown ⟨by decide, by decide⟩ (by rw [hT]; exact fx_clsO (ci := 12) (r := ("ChainJudgeModel", fx_T12, 57)) C F rfl (by decide) hk) rfl (n := 0) (by decide +kernel) rfl rfl hd
theorem iv_M_told {x1 : Int32} {x2 : Int32} (C : fx_CX D y cc nL kf kw ret hh h0 p R s m meth c) (F : fx_F D h0 h H locs cells slots) (hw1 : Cond.methodLink y.cls idx y_M_told ∈ tables_1 ∨ ∃ host, Cond.methodLinkNest y.cls idx y_M_told host ∈ tables_1) (hk : hp_k h b = 13) (hd : decode cc pc = .ok (.invokevirtual idx, 3)) : fx_IV p l e R s m args below meth c H locs cells slots (F0 m pc ls (.int x2 :: .int x1 :: .ref b :: rest)) rest y_M_told [.ref b, .int x1, .int x2] 3 := fun T hT X => fx_invV (As := [.int x1, .int x2]) (Cn := "ChainJudgeModel") C X hw1 (fx_m7 (List.mem_of_getElem? (i := 166) rfl)) (fx_selW C (fx_m7 (List.mem_of_getElem? (i := 167) rfl))) hm_M_told ⟨by decide, by decide⟩ (by rw [hT]; exact fx_clsO (ci := 12) (r := ("ChainJudgeModel", fx_T12, 57)) C F rfl (by decide) hk) rfl (n := 2) (by decide +kernel) rfl rfl hd
theorem iv_M_trust {x1 : Int32} (C : fx_CX D y cc nL kf kw ret hh h0 p R s m meth c) (F : fx_F D h0 h H locs cells slots) (hw1 : Cond.methodLink y.cls idx y_M_trust ∈ tables_1 ∨ ∃ host, Cond.methodLinkNest y.cls idx y_M_trust host ∈ tables_1) (hk : hp_k h b = 13) (hd : decode cc pc = .ok (.invokevirtual idx, 3)) : fx_IV p l e R s m args below meth c H locs cells slots (F0 m pc ls (.int x1 :: .ref b :: rest)) rest y_M_trust [.ref b, .int x1] 3 := fun T hT X => fx_invV (As := [.int x1]) (Cn := "ChainJudgeModel") C X hw1 (fx_m7 (List.mem_of_getElem? (i := 191) rfl)) (fx_selW C (fx_m7 (List.mem_of_getElem? (i := 192) rfl))) hm_M_trust ⟨by decide, by decide⟩ (by rw [hT]; exact fx_clsO (ci := 12) (r := ("ChainJudgeModel", fx_T12, 57)) C F rfl (by decide) hk) rfl (n := 1) (by decide +kernel) rfl rfl hd
end
def dl_Law_law : List (Nat × Instr × Nat) := [(0, .new 8, 3), (3, .dup, 1), (4, .invokespecial 64, 3), (7, .astore_n 1, 1), (8, .new 65, 3), (11, .dup, 1), (12, .invokespecial 67, 3), (15, .astore_n 2, 1), (16, .iconst 1, 1), (17, .newarray .long, 2), (19, .astore_n 3, 1), (20, .iconst 0, 1), (21, .istore 4, 2), (23, .iload 4, 2), (25, .aload_n 0, 1), (26, .arraylength, 1), (27, .bipush 6, 2), (29, .isub, 1), (30, .if_icmp .gt 987, 3), (33, .aload_n 0, 1), (34, .iload 4, 2), (36, .iaload, 1), (37, .bipush 15, 2), (39, .iand, 1), (40, .tableswitch 971 0 14 #[76, 180, 236, 280, 384, 440, 520, 588, 655, 711, 722, 778, 822, 890, 946], 76), (116, .aload_n 1, 1), (117, .aload_n 0, 1), (118, .iload 4, 2), (120, .iconst 1, 1), (121, .iadd, 1), (122, .iaload, 1), (123, .aload_n 0, 1), (124, .iload 4, 2), (126, .iconst 2, 1), (127, .iadd, 1), (128, .iaload, 1), (129, .aload_n 0, 1), (130, .iload 4, 2), (132, .iconst 3, 1), (133, .iadd, 1), (134, .iaload, 1), (135, .aload_n 0, 1), (136, .iload 4, 2), (138, .iconst 4, 1), (139, .iadd, 1), (140, .iaload, 1), (141, .aload_n 0, 1), (142, .iload 4, 2), (144, .iconst 5, 1), (145, .iadd, 1), (146, .iaload, 1), (147, .aload_n 3, 1), (148, .invokestatic 68, 3), (151, .istore 5, 2), (153, .aload_n 2, 1), (154, .aload_n 0, 1), (155, .iload 4, 2), (157, .iconst 1, 1), (158, .iadd, 1), (159, .iaload, 1), (160, .aload_n 0, 1), (161, .iload 4, 2), (163, .iconst 2, 1), (164, .iadd, 1), (165, .iaload, 1), (166, .aload_n 0, 1), (167, .iload 4, 2), (169, .iconst 3, 1), (170, .iadd, 1), (171, .iaload, 1), (172, .aload_n 0, 1), (173, .iload 4, 2), (175, .iconst 4, 1), (176, .iadd, 1), (177, .iaload, 1), (178, .aload_n 0, 1), (179, .iload 4, 2), (181, .iconst 5, 1), (182, .iadd, 1), (183, .iaload, 1)]
theorem dk_Law_law : fx_dec code dl_Law_law = true := by decide +kernel
theorem d_Law_law_0 : decode code 0 = .ok (.new 8, 3) := fx_dat dk_Law_law 0 rfl
theorem d_Law_law_3 : decode code 3 = .ok (.dup, 1) := fx_dat dk_Law_law 1 rfl
theorem d_Law_law_4 : decode code 4 = .ok (.invokespecial 64, 3) := fx_dat dk_Law_law 2 rfl
theorem d_Law_law_7 : decode code 7 = .ok (.astore_n 1, 1) := fx_dat dk_Law_law 3 rfl
theorem d_Law_law_8 : decode code 8 = .ok (.new 65, 3) := fx_dat dk_Law_law 4 rfl
theorem d_Law_law_11 : decode code 11 = .ok (.dup, 1) := fx_dat dk_Law_law 5 rfl
theorem d_Law_law_12 : decode code 12 = .ok (.invokespecial 67, 3) := fx_dat dk_Law_law 6 rfl
theorem d_Law_law_15 : decode code 15 = .ok (.astore_n 2, 1) := fx_dat dk_Law_law 7 rfl
theorem d_Law_law_16 : decode code 16 = .ok (.iconst 1, 1) := fx_dat dk_Law_law 8 rfl
theorem d_Law_law_17 : decode code 17 = .ok (.newarray .long, 2) := fx_dat dk_Law_law 9 rfl
theorem d_Law_law_19 : decode code 19 = .ok (.astore_n 3, 1) := fx_dat dk_Law_law 10 rfl
theorem d_Law_law_20 : decode code 20 = .ok (.iconst 0, 1) := fx_dat dk_Law_law 11 rfl
theorem d_Law_law_21 : decode code 21 = .ok (.istore 4, 2) := fx_dat dk_Law_law 12 rfl
theorem d_Law_law_23 : decode code 23 = .ok (.iload 4, 2) := fx_dat dk_Law_law 13 rfl
theorem d_Law_law_25 : decode code 25 = .ok (.aload_n 0, 1) := fx_dat dk_Law_law 14 rfl
theorem d_Law_law_26 : decode code 26 = .ok (.arraylength, 1) := fx_dat dk_Law_law 15 rfl
theorem d_Law_law_27 : decode code 27 = .ok (.bipush 6, 2) := fx_dat dk_Law_law 16 rfl
theorem d_Law_law_29 : decode code 29 = .ok (.isub, 1) := fx_dat dk_Law_law 17 rfl
theorem d_Law_law_30 : decode code 30 = .ok (.if_icmp .gt 987, 3) := fx_dat dk_Law_law 18 rfl
theorem d_Law_law_33 : decode code 33 = .ok (.aload_n 0, 1) := fx_dat dk_Law_law 19 rfl
theorem d_Law_law_34 : decode code 34 = .ok (.iload 4, 2) := fx_dat dk_Law_law 20 rfl
theorem d_Law_law_36 : decode code 36 = .ok (.iaload, 1) := fx_dat dk_Law_law 21 rfl
theorem d_Law_law_37 : decode code 37 = .ok (.bipush 15, 2) := fx_dat dk_Law_law 22 rfl
theorem d_Law_law_39 : decode code 39 = .ok (.iand, 1) := fx_dat dk_Law_law 23 rfl
theorem d_Law_law_40 : decode code 40 = .ok (.tableswitch 971 0 14 #[76, 180, 236, 280, 384, 440, 520, 588, 655, 711, 722, 778, 822, 890, 946], 76) := fx_dat dk_Law_law 24 rfl
theorem d_Law_law_116 : decode code 116 = .ok (.aload_n 1, 1) := fx_dat dk_Law_law 25 rfl
theorem d_Law_law_117 : decode code 117 = .ok (.aload_n 0, 1) := fx_dat dk_Law_law 26 rfl
theorem d_Law_law_118 : decode code 118 = .ok (.iload 4, 2) := fx_dat dk_Law_law 27 rfl
theorem d_Law_law_120 : decode code 120 = .ok (.iconst 1, 1) := fx_dat dk_Law_law 28 rfl
theorem d_Law_law_121 : decode code 121 = .ok (.iadd, 1) := fx_dat dk_Law_law 29 rfl
theorem d_Law_law_122 : decode code 122 = .ok (.iaload, 1) := fx_dat dk_Law_law 30 rfl
theorem d_Law_law_123 : decode code 123 = .ok (.aload_n 0, 1) := fx_dat dk_Law_law 31 rfl
theorem d_Law_law_124 : decode code 124 = .ok (.iload 4, 2) := fx_dat dk_Law_law 32 rfl
theorem d_Law_law_126 : decode code 126 = .ok (.iconst 2, 1) := fx_dat dk_Law_law 33 rfl
theorem d_Law_law_127 : decode code 127 = .ok (.iadd, 1) := fx_dat dk_Law_law 34 rfl
theorem d_Law_law_128 : decode code 128 = .ok (.iaload, 1) := fx_dat dk_Law_law 35 rfl
theorem d_Law_law_129 : decode code 129 = .ok (.aload_n 0, 1) := fx_dat dk_Law_law 36 rfl
theorem d_Law_law_130 : decode code 130 = .ok (.iload 4, 2) := fx_dat dk_Law_law 37 rfl
theorem d_Law_law_132 : decode code 132 = .ok (.iconst 3, 1) := fx_dat dk_Law_law 38 rfl
theorem d_Law_law_133 : decode code 133 = .ok (.iadd, 1) := fx_dat dk_Law_law 39 rfl
theorem d_Law_law_134 : decode code 134 = .ok (.iaload, 1) := fx_dat dk_Law_law 40 rfl
theorem d_Law_law_135 : decode code 135 = .ok (.aload_n 0, 1) := fx_dat dk_Law_law 41 rfl
theorem d_Law_law_136 : decode code 136 = .ok (.iload 4, 2) := fx_dat dk_Law_law 42 rfl
theorem d_Law_law_138 : decode code 138 = .ok (.iconst 4, 1) := fx_dat dk_Law_law 43 rfl
theorem d_Law_law_139 : decode code 139 = .ok (.iadd, 1) := fx_dat dk_Law_law 44 rfl
theorem d_Law_law_140 : decode code 140 = .ok (.iaload, 1) := fx_dat dk_Law_law 45 rfl
theorem d_Law_law_141 : decode code 141 = .ok (.aload_n 0, 1) := fx_dat dk_Law_law 46 rfl
theorem d_Law_law_142 : decode code 142 = .ok (.iload 4, 2) := fx_dat dk_Law_law 47 rfl
theorem d_Law_law_144 : decode code 144 = .ok (.iconst 5, 1) := fx_dat dk_Law_law 48 rfl
theorem d_Law_law_145 : decode code 145 = .ok (.iadd, 1) := fx_dat dk_Law_law 49 rfl
theorem d_Law_law_146 : decode code 146 = .ok (.iaload, 1) := fx_dat dk_Law_law 50 rfl
theorem d_Law_law_147 : decode code 147 = .ok (.aload_n 3, 1) := fx_dat dk_Law_law 51 rfl
theorem d_Law_law_148 : decode code 148 = .ok (.invokestatic 68, 3) := fx_dat dk_Law_law 52 rfl
theorem d_Law_law_151 : decode code 151 = .ok (.istore 5, 2) := fx_dat dk_Law_law 53 rfl
theorem d_Law_law_153 : decode code 153 = .ok (.aload_n 2, 1) := fx_dat dk_Law_law 54 rfl
theorem d_Law_law_154 : decode code 154 = .ok (.aload_n 0, 1) := fx_dat dk_Law_law 55 rfl
theorem d_Law_law_155 : decode code 155 = .ok (.iload 4, 2) := fx_dat dk_Law_law 56 rfl
theorem d_Law_law_157 : decode code 157 = .ok (.iconst 1, 1) := fx_dat dk_Law_law 57 rfl
theorem d_Law_law_158 : decode code 158 = .ok (.iadd, 1) := fx_dat dk_Law_law 58 rfl
theorem d_Law_law_159 : decode code 159 = .ok (.iaload, 1) := fx_dat dk_Law_law 59 rfl
theorem d_Law_law_160 : decode code 160 = .ok (.aload_n 0, 1) := fx_dat dk_Law_law 60 rfl
theorem d_Law_law_161 : decode code 161 = .ok (.iload 4, 2) := fx_dat dk_Law_law 61 rfl
theorem d_Law_law_163 : decode code 163 = .ok (.iconst 2, 1) := fx_dat dk_Law_law 62 rfl
theorem d_Law_law_164 : decode code 164 = .ok (.iadd, 1) := fx_dat dk_Law_law 63 rfl
theorem d_Law_law_165 : decode code 165 = .ok (.iaload, 1) := fx_dat dk_Law_law 64 rfl
theorem d_Law_law_166 : decode code 166 = .ok (.aload_n 0, 1) := fx_dat dk_Law_law 65 rfl
theorem d_Law_law_167 : decode code 167 = .ok (.iload 4, 2) := fx_dat dk_Law_law 66 rfl
theorem d_Law_law_169 : decode code 169 = .ok (.iconst 3, 1) := fx_dat dk_Law_law 67 rfl
theorem d_Law_law_170 : decode code 170 = .ok (.iadd, 1) := fx_dat dk_Law_law 68 rfl
theorem d_Law_law_171 : decode code 171 = .ok (.iaload, 1) := fx_dat dk_Law_law 69 rfl
theorem d_Law_law_172 : decode code 172 = .ok (.aload_n 0, 1) := fx_dat dk_Law_law 70 rfl
theorem d_Law_law_173 : decode code 173 = .ok (.iload 4, 2) := fx_dat dk_Law_law 71 rfl
theorem d_Law_law_175 : decode code 175 = .ok (.iconst 4, 1) := fx_dat dk_Law_law 72 rfl
theorem d_Law_law_176 : decode code 176 = .ok (.iadd, 1) := fx_dat dk_Law_law 73 rfl
theorem d_Law_law_177 : decode code 177 = .ok (.iaload, 1) := fx_dat dk_Law_law 74 rfl
theorem d_Law_law_178 : decode code 178 = .ok (.aload_n 0, 1) := fx_dat dk_Law_law 75 rfl
theorem d_Law_law_179 : decode code 179 = .ok (.iload 4, 2) := fx_dat dk_Law_law 76 rfl
theorem d_Law_law_181 : decode code 181 = .ok (.iconst 5, 1) := fx_dat dk_Law_law 77 rfl
theorem d_Law_law_182 : decode code 182 = .ok (.iadd, 1) := fx_dat dk_Law_law 78 rfl
theorem d_Law_law_183 : decode code 183 = .ok (.iaload, 1) := fx_dat dk_Law_law 79 rfl
def dl_Law_law_1 : List (Nat × Instr × Nat) := [(184, .invokevirtual 73, 3), (187, .istore 6, 2), (189, .aload_n 2, 1), (190, .invokevirtual 74, 3), (193, .iload 5, 2), (195, .if_icmp .eq 5, 3), (198, .iconst 0, 1), (199, .ireturn, 1), (200, .iload 5, 2), (202, .ifCond .ne 15, 3), (205, .aload_n 3, 1), (206, .iconst 0, 1), (207, .laload, 1), (208, .iload 6, 2), (210, .i2l, 1), (211, .lcmp, 1), (212, .ifCond .eq 5, 3), (215, .iconst 0, 1), (216, .ireturn, 1), (217, .goto 794, 3), (220, .aload_n 1, 1), (221, .aload_n 0, 1), (222, .iload 4, 2), (224, .iconst 1, 1), (225, .iadd, 1), (226, .iaload, 1), (227, .aload_n 3, 1), (228, .invokestatic 77, 3), (231, .istore 5, 2), (233, .aload_n 2, 1), (234, .aload_n 0, 1), (235, .iload 4, 2), (237, .iconst 1, 1), (238, .iadd, 1), (239, .iaload, 1), (240, .invokevirtual 80, 3), (243, .istore 6, 2), (245, .aload_n 2, 1), (246, .invokevirtual 74, 3), (249, .iload 5, 2), (251, .if_icmp .eq 5, 3), (254, .iconst 0, 1), (255, .ireturn, 1), (256, .iload 5, 2), (258, .ifCond .ne 15, 3), (261, .aload_n 3, 1), (262, .iconst 0, 1), (263, .laload, 1), (264, .iload 6, 2), (266, .i2l, 1), (267, .lcmp, 1), (268, .ifCond .eq 5, 3), (271, .iconst 0, 1), (272, .ireturn, 1), (273, .goto 738, 3), (276, .aload_n 1, 1), (277, .aload_n 3, 1), (278, .invokestatic 81, 3), (281, .istore 5, 2), (283, .aload_n 2, 1), (284, .invokevirtual 84, 3), (287, .istore 6, 2), (289, .aload_n 2, 1), (290, .invokevirtual 74, 3), (293, .iload 5, 2), (295, .if_icmp .eq 5, 3), (298, .iconst 0, 1), (299, .ireturn, 1), (300, .iload 5, 2), (302, .ifCond .ne 15, 3), (305, .aload_n 3, 1), (306, .iconst 0, 1), (307, .laload, 1), (308, .iload 6, 2), (310, .i2l, 1), (311, .lcmp, 1), (312, .ifCond .eq 5, 3), (315, .iconst 0, 1), (316, .ireturn, 1), (317, .goto 694, 3)]
theorem dk_Law_law_1 : fx_dec code dl_Law_law_1 = true := by decide +kernel
theorem d_Law_law_184 : decode code 184 = .ok (.invokevirtual 73, 3) := fx_dat dk_Law_law_1 0 rfl
theorem d_Law_law_187 : decode code 187 = .ok (.istore 6, 2) := fx_dat dk_Law_law_1 1 rfl
theorem d_Law_law_189 : decode code 189 = .ok (.aload_n 2, 1) := fx_dat dk_Law_law_1 2 rfl
theorem d_Law_law_190 : decode code 190 = .ok (.invokevirtual 74, 3) := fx_dat dk_Law_law_1 3 rfl
theorem d_Law_law_193 : decode code 193 = .ok (.iload 5, 2) := fx_dat dk_Law_law_1 4 rfl
theorem d_Law_law_195 : decode code 195 = .ok (.if_icmp .eq 5, 3) := fx_dat dk_Law_law_1 5 rfl
theorem d_Law_law_198 : decode code 198 = .ok (.iconst 0, 1) := fx_dat dk_Law_law_1 6 rfl
theorem d_Law_law_199 : decode code 199 = .ok (.ireturn, 1) := fx_dat dk_Law_law_1 7 rfl
theorem d_Law_law_200 : decode code 200 = .ok (.iload 5, 2) := fx_dat dk_Law_law_1 8 rfl
theorem d_Law_law_202 : decode code 202 = .ok (.ifCond .ne 15, 3) := fx_dat dk_Law_law_1 9 rfl
theorem d_Law_law_205 : decode code 205 = .ok (.aload_n 3, 1) := fx_dat dk_Law_law_1 10 rfl
theorem d_Law_law_206 : decode code 206 = .ok (.iconst 0, 1) := fx_dat dk_Law_law_1 11 rfl
theorem d_Law_law_207 : decode code 207 = .ok (.laload, 1) := fx_dat dk_Law_law_1 12 rfl
theorem d_Law_law_208 : decode code 208 = .ok (.iload 6, 2) := fx_dat dk_Law_law_1 13 rfl
theorem d_Law_law_210 : decode code 210 = .ok (.i2l, 1) := fx_dat dk_Law_law_1 14 rfl
theorem d_Law_law_211 : decode code 211 = .ok (.lcmp, 1) := fx_dat dk_Law_law_1 15 rfl
theorem d_Law_law_212 : decode code 212 = .ok (.ifCond .eq 5, 3) := fx_dat dk_Law_law_1 16 rfl
theorem d_Law_law_215 : decode code 215 = .ok (.iconst 0, 1) := fx_dat dk_Law_law_1 17 rfl
theorem d_Law_law_216 : decode code 216 = .ok (.ireturn, 1) := fx_dat dk_Law_law_1 18 rfl
theorem d_Law_law_217 : decode code 217 = .ok (.goto 794, 3) := fx_dat dk_Law_law_1 19 rfl
theorem d_Law_law_220 : decode code 220 = .ok (.aload_n 1, 1) := fx_dat dk_Law_law_1 20 rfl
theorem d_Law_law_221 : decode code 221 = .ok (.aload_n 0, 1) := fx_dat dk_Law_law_1 21 rfl
theorem d_Law_law_222 : decode code 222 = .ok (.iload 4, 2) := fx_dat dk_Law_law_1 22 rfl
theorem d_Law_law_224 : decode code 224 = .ok (.iconst 1, 1) := fx_dat dk_Law_law_1 23 rfl
theorem d_Law_law_225 : decode code 225 = .ok (.iadd, 1) := fx_dat dk_Law_law_1 24 rfl
theorem d_Law_law_226 : decode code 226 = .ok (.iaload, 1) := fx_dat dk_Law_law_1 25 rfl
theorem d_Law_law_227 : decode code 227 = .ok (.aload_n 3, 1) := fx_dat dk_Law_law_1 26 rfl
theorem d_Law_law_228 : decode code 228 = .ok (.invokestatic 77, 3) := fx_dat dk_Law_law_1 27 rfl
theorem d_Law_law_231 : decode code 231 = .ok (.istore 5, 2) := fx_dat dk_Law_law_1 28 rfl
theorem d_Law_law_233 : decode code 233 = .ok (.aload_n 2, 1) := fx_dat dk_Law_law_1 29 rfl
theorem d_Law_law_234 : decode code 234 = .ok (.aload_n 0, 1) := fx_dat dk_Law_law_1 30 rfl
theorem d_Law_law_235 : decode code 235 = .ok (.iload 4, 2) := fx_dat dk_Law_law_1 31 rfl
theorem d_Law_law_237 : decode code 237 = .ok (.iconst 1, 1) := fx_dat dk_Law_law_1 32 rfl
theorem d_Law_law_238 : decode code 238 = .ok (.iadd, 1) := fx_dat dk_Law_law_1 33 rfl
theorem d_Law_law_239 : decode code 239 = .ok (.iaload, 1) := fx_dat dk_Law_law_1 34 rfl
theorem d_Law_law_240 : decode code 240 = .ok (.invokevirtual 80, 3) := fx_dat dk_Law_law_1 35 rfl
theorem d_Law_law_243 : decode code 243 = .ok (.istore 6, 2) := fx_dat dk_Law_law_1 36 rfl
theorem d_Law_law_245 : decode code 245 = .ok (.aload_n 2, 1) := fx_dat dk_Law_law_1 37 rfl
theorem d_Law_law_246 : decode code 246 = .ok (.invokevirtual 74, 3) := fx_dat dk_Law_law_1 38 rfl
theorem d_Law_law_249 : decode code 249 = .ok (.iload 5, 2) := fx_dat dk_Law_law_1 39 rfl
theorem d_Law_law_251 : decode code 251 = .ok (.if_icmp .eq 5, 3) := fx_dat dk_Law_law_1 40 rfl
theorem d_Law_law_254 : decode code 254 = .ok (.iconst 0, 1) := fx_dat dk_Law_law_1 41 rfl
theorem d_Law_law_255 : decode code 255 = .ok (.ireturn, 1) := fx_dat dk_Law_law_1 42 rfl
theorem d_Law_law_256 : decode code 256 = .ok (.iload 5, 2) := fx_dat dk_Law_law_1 43 rfl
theorem d_Law_law_258 : decode code 258 = .ok (.ifCond .ne 15, 3) := fx_dat dk_Law_law_1 44 rfl
theorem d_Law_law_261 : decode code 261 = .ok (.aload_n 3, 1) := fx_dat dk_Law_law_1 45 rfl
theorem d_Law_law_262 : decode code 262 = .ok (.iconst 0, 1) := fx_dat dk_Law_law_1 46 rfl
theorem d_Law_law_263 : decode code 263 = .ok (.laload, 1) := fx_dat dk_Law_law_1 47 rfl
theorem d_Law_law_264 : decode code 264 = .ok (.iload 6, 2) := fx_dat dk_Law_law_1 48 rfl
theorem d_Law_law_266 : decode code 266 = .ok (.i2l, 1) := fx_dat dk_Law_law_1 49 rfl
theorem d_Law_law_267 : decode code 267 = .ok (.lcmp, 1) := fx_dat dk_Law_law_1 50 rfl
theorem d_Law_law_268 : decode code 268 = .ok (.ifCond .eq 5, 3) := fx_dat dk_Law_law_1 51 rfl
theorem d_Law_law_271 : decode code 271 = .ok (.iconst 0, 1) := fx_dat dk_Law_law_1 52 rfl
theorem d_Law_law_272 : decode code 272 = .ok (.ireturn, 1) := fx_dat dk_Law_law_1 53 rfl
theorem d_Law_law_273 : decode code 273 = .ok (.goto 738, 3) := fx_dat dk_Law_law_1 54 rfl
theorem d_Law_law_276 : decode code 276 = .ok (.aload_n 1, 1) := fx_dat dk_Law_law_1 55 rfl
theorem d_Law_law_277 : decode code 277 = .ok (.aload_n 3, 1) := fx_dat dk_Law_law_1 56 rfl
theorem d_Law_law_278 : decode code 278 = .ok (.invokestatic 81, 3) := fx_dat dk_Law_law_1 57 rfl
theorem d_Law_law_281 : decode code 281 = .ok (.istore 5, 2) := fx_dat dk_Law_law_1 58 rfl
theorem d_Law_law_283 : decode code 283 = .ok (.aload_n 2, 1) := fx_dat dk_Law_law_1 59 rfl
theorem d_Law_law_284 : decode code 284 = .ok (.invokevirtual 84, 3) := fx_dat dk_Law_law_1 60 rfl
theorem d_Law_law_287 : decode code 287 = .ok (.istore 6, 2) := fx_dat dk_Law_law_1 61 rfl
theorem d_Law_law_289 : decode code 289 = .ok (.aload_n 2, 1) := fx_dat dk_Law_law_1 62 rfl
theorem d_Law_law_290 : decode code 290 = .ok (.invokevirtual 74, 3) := fx_dat dk_Law_law_1 63 rfl
theorem d_Law_law_293 : decode code 293 = .ok (.iload 5, 2) := fx_dat dk_Law_law_1 64 rfl
theorem d_Law_law_295 : decode code 295 = .ok (.if_icmp .eq 5, 3) := fx_dat dk_Law_law_1 65 rfl
theorem d_Law_law_298 : decode code 298 = .ok (.iconst 0, 1) := fx_dat dk_Law_law_1 66 rfl
theorem d_Law_law_299 : decode code 299 = .ok (.ireturn, 1) := fx_dat dk_Law_law_1 67 rfl
theorem d_Law_law_300 : decode code 300 = .ok (.iload 5, 2) := fx_dat dk_Law_law_1 68 rfl
theorem d_Law_law_302 : decode code 302 = .ok (.ifCond .ne 15, 3) := fx_dat dk_Law_law_1 69 rfl
theorem d_Law_law_305 : decode code 305 = .ok (.aload_n 3, 1) := fx_dat dk_Law_law_1 70 rfl
theorem d_Law_law_306 : decode code 306 = .ok (.iconst 0, 1) := fx_dat dk_Law_law_1 71 rfl
theorem d_Law_law_307 : decode code 307 = .ok (.laload, 1) := fx_dat dk_Law_law_1 72 rfl
theorem d_Law_law_308 : decode code 308 = .ok (.iload 6, 2) := fx_dat dk_Law_law_1 73 rfl
theorem d_Law_law_310 : decode code 310 = .ok (.i2l, 1) := fx_dat dk_Law_law_1 74 rfl
theorem d_Law_law_311 : decode code 311 = .ok (.lcmp, 1) := fx_dat dk_Law_law_1 75 rfl
theorem d_Law_law_312 : decode code 312 = .ok (.ifCond .eq 5, 3) := fx_dat dk_Law_law_1 76 rfl
theorem d_Law_law_315 : decode code 315 = .ok (.iconst 0, 1) := fx_dat dk_Law_law_1 77 rfl
theorem d_Law_law_316 : decode code 316 = .ok (.ireturn, 1) := fx_dat dk_Law_law_1 78 rfl
theorem d_Law_law_317 : decode code 317 = .ok (.goto 694, 3) := fx_dat dk_Law_law_1 79 rfl
def dl_Law_law_2 : List (Nat × Instr × Nat) := [(320, .aload_n 1, 1), (321, .aload_n 0, 1), (322, .iload 4, 2), (324, .iconst 1, 1), (325, .iadd, 1), (326, .iaload, 1), (327, .aload_n 0, 1), (328, .iload 4, 2), (330, .iconst 2, 1), (331, .iadd, 1), (332, .iaload, 1), (333, .aload_n 0, 1), (334, .iload 4, 2), (336, .iconst 3, 1), (337, .iadd, 1), (338, .iaload, 1), (339, .aload_n 0, 1), (340, .iload 4, 2), (342, .iconst 4, 1), (343, .iadd, 1), (344, .iaload, 1), (345, .aload_n 0, 1), (346, .iload 4, 2), (348, .iconst 5, 1), (349, .iadd, 1), (350, .iaload, 1), (351, .aload_n 3, 1), (352, .invokestatic 85, 3), (355, .istore 5, 2), (357, .aload_n 2, 1), (358, .aload_n 0, 1), (359, .iload 4, 2), (361, .iconst 1, 1), (362, .iadd, 1), (363, .iaload, 1), (364, .aload_n 0, 1), (365, .iload 4, 2), (367, .iconst 2, 1), (368, .iadd, 1), (369, .iaload, 1), (370, .aload_n 0, 1), (371, .iload 4, 2), (373, .iconst 3, 1), (374, .iadd, 1), (375, .iaload, 1), (376, .aload_n 0, 1), (377, .iload 4, 2), (379, .iconst 4, 1), (380, .iadd, 1), (381, .iaload, 1), (382, .aload_n 0, 1), (383, .iload 4, 2), (385, .iconst 5, 1), (386, .iadd, 1), (387, .iaload, 1), (388, .invokevirtual 87, 3), (391, .istore 6, 2), (393, .aload_n 2, 1), (394, .invokevirtual 74, 3), (397, .iload 5, 2), (399, .if_icmp .eq 5, 3), (402, .iconst 0, 1), (403, .ireturn, 1), (404, .iload 5, 2), (406, .ifCond .ne 15, 3), (409, .aload_n 3, 1), (410, .iconst 0, 1), (411, .laload, 1), (412, .iload 6, 2), (414, .i2l, 1), (415, .lcmp, 1), (416, .ifCond .eq 5, 3), (419, .iconst 0, 1), (420, .ireturn, 1), (421, .goto 590, 3), (424, .aload_n 1, 1), (425, .aload_n 0, 1), (426, .iload 4, 2), (428, .iconst 1, 1), (429, .iadd, 1)]
theorem dk_Law_law_2 : fx_dec code dl_Law_law_2 = true := by decide +kernel
theorem d_Law_law_320 : decode code 320 = .ok (.aload_n 1, 1) := fx_dat dk_Law_law_2 0 rfl
theorem d_Law_law_321 : decode code 321 = .ok (.aload_n 0, 1) := fx_dat dk_Law_law_2 1 rfl
theorem d_Law_law_322 : decode code 322 = .ok (.iload 4, 2) := fx_dat dk_Law_law_2 2 rfl
theorem d_Law_law_324 : decode code 324 = .ok (.iconst 1, 1) := fx_dat dk_Law_law_2 3 rfl
theorem d_Law_law_325 : decode code 325 = .ok (.iadd, 1) := fx_dat dk_Law_law_2 4 rfl
theorem d_Law_law_326 : decode code 326 = .ok (.iaload, 1) := fx_dat dk_Law_law_2 5 rfl
theorem d_Law_law_327 : decode code 327 = .ok (.aload_n 0, 1) := fx_dat dk_Law_law_2 6 rfl
theorem d_Law_law_328 : decode code 328 = .ok (.iload 4, 2) := fx_dat dk_Law_law_2 7 rfl
theorem d_Law_law_330 : decode code 330 = .ok (.iconst 2, 1) := fx_dat dk_Law_law_2 8 rfl
theorem d_Law_law_331 : decode code 331 = .ok (.iadd, 1) := fx_dat dk_Law_law_2 9 rfl
theorem d_Law_law_332 : decode code 332 = .ok (.iaload, 1) := fx_dat dk_Law_law_2 10 rfl
theorem d_Law_law_333 : decode code 333 = .ok (.aload_n 0, 1) := fx_dat dk_Law_law_2 11 rfl
theorem d_Law_law_334 : decode code 334 = .ok (.iload 4, 2) := fx_dat dk_Law_law_2 12 rfl
theorem d_Law_law_336 : decode code 336 = .ok (.iconst 3, 1) := fx_dat dk_Law_law_2 13 rfl
theorem d_Law_law_337 : decode code 337 = .ok (.iadd, 1) := fx_dat dk_Law_law_2 14 rfl
theorem d_Law_law_338 : decode code 338 = .ok (.iaload, 1) := fx_dat dk_Law_law_2 15 rfl
theorem d_Law_law_339 : decode code 339 = .ok (.aload_n 0, 1) := fx_dat dk_Law_law_2 16 rfl
theorem d_Law_law_340 : decode code 340 = .ok (.iload 4, 2) := fx_dat dk_Law_law_2 17 rfl
theorem d_Law_law_342 : decode code 342 = .ok (.iconst 4, 1) := fx_dat dk_Law_law_2 18 rfl
theorem d_Law_law_343 : decode code 343 = .ok (.iadd, 1) := fx_dat dk_Law_law_2 19 rfl
theorem d_Law_law_344 : decode code 344 = .ok (.iaload, 1) := fx_dat dk_Law_law_2 20 rfl
theorem d_Law_law_345 : decode code 345 = .ok (.aload_n 0, 1) := fx_dat dk_Law_law_2 21 rfl
theorem d_Law_law_346 : decode code 346 = .ok (.iload 4, 2) := fx_dat dk_Law_law_2 22 rfl
theorem d_Law_law_348 : decode code 348 = .ok (.iconst 5, 1) := fx_dat dk_Law_law_2 23 rfl
theorem d_Law_law_349 : decode code 349 = .ok (.iadd, 1) := fx_dat dk_Law_law_2 24 rfl
theorem d_Law_law_350 : decode code 350 = .ok (.iaload, 1) := fx_dat dk_Law_law_2 25 rfl
theorem d_Law_law_351 : decode code 351 = .ok (.aload_n 3, 1) := fx_dat dk_Law_law_2 26 rfl
theorem d_Law_law_352 : decode code 352 = .ok (.invokestatic 85, 3) := fx_dat dk_Law_law_2 27 rfl
theorem d_Law_law_355 : decode code 355 = .ok (.istore 5, 2) := fx_dat dk_Law_law_2 28 rfl
theorem d_Law_law_357 : decode code 357 = .ok (.aload_n 2, 1) := fx_dat dk_Law_law_2 29 rfl
theorem d_Law_law_358 : decode code 358 = .ok (.aload_n 0, 1) := fx_dat dk_Law_law_2 30 rfl
theorem d_Law_law_359 : decode code 359 = .ok (.iload 4, 2) := fx_dat dk_Law_law_2 31 rfl
theorem d_Law_law_361 : decode code 361 = .ok (.iconst 1, 1) := fx_dat dk_Law_law_2 32 rfl
theorem d_Law_law_362 : decode code 362 = .ok (.iadd, 1) := fx_dat dk_Law_law_2 33 rfl
theorem d_Law_law_363 : decode code 363 = .ok (.iaload, 1) := fx_dat dk_Law_law_2 34 rfl
theorem d_Law_law_364 : decode code 364 = .ok (.aload_n 0, 1) := fx_dat dk_Law_law_2 35 rfl
theorem d_Law_law_365 : decode code 365 = .ok (.iload 4, 2) := fx_dat dk_Law_law_2 36 rfl
theorem d_Law_law_367 : decode code 367 = .ok (.iconst 2, 1) := fx_dat dk_Law_law_2 37 rfl
theorem d_Law_law_368 : decode code 368 = .ok (.iadd, 1) := fx_dat dk_Law_law_2 38 rfl
theorem d_Law_law_369 : decode code 369 = .ok (.iaload, 1) := fx_dat dk_Law_law_2 39 rfl
theorem d_Law_law_370 : decode code 370 = .ok (.aload_n 0, 1) := fx_dat dk_Law_law_2 40 rfl
theorem d_Law_law_371 : decode code 371 = .ok (.iload 4, 2) := fx_dat dk_Law_law_2 41 rfl
theorem d_Law_law_373 : decode code 373 = .ok (.iconst 3, 1) := fx_dat dk_Law_law_2 42 rfl
theorem d_Law_law_374 : decode code 374 = .ok (.iadd, 1) := fx_dat dk_Law_law_2 43 rfl
theorem d_Law_law_375 : decode code 375 = .ok (.iaload, 1) := fx_dat dk_Law_law_2 44 rfl
theorem d_Law_law_376 : decode code 376 = .ok (.aload_n 0, 1) := fx_dat dk_Law_law_2 45 rfl
theorem d_Law_law_377 : decode code 377 = .ok (.iload 4, 2) := fx_dat dk_Law_law_2 46 rfl
theorem d_Law_law_379 : decode code 379 = .ok (.iconst 4, 1) := fx_dat dk_Law_law_2 47 rfl
theorem d_Law_law_380 : decode code 380 = .ok (.iadd, 1) := fx_dat dk_Law_law_2 48 rfl
theorem d_Law_law_381 : decode code 381 = .ok (.iaload, 1) := fx_dat dk_Law_law_2 49 rfl
theorem d_Law_law_382 : decode code 382 = .ok (.aload_n 0, 1) := fx_dat dk_Law_law_2 50 rfl
theorem d_Law_law_383 : decode code 383 = .ok (.iload 4, 2) := fx_dat dk_Law_law_2 51 rfl
theorem d_Law_law_385 : decode code 385 = .ok (.iconst 5, 1) := fx_dat dk_Law_law_2 52 rfl
theorem d_Law_law_386 : decode code 386 = .ok (.iadd, 1) := fx_dat dk_Law_law_2 53 rfl
theorem d_Law_law_387 : decode code 387 = .ok (.iaload, 1) := fx_dat dk_Law_law_2 54 rfl
theorem d_Law_law_388 : decode code 388 = .ok (.invokevirtual 87, 3) := fx_dat dk_Law_law_2 55 rfl
theorem d_Law_law_391 : decode code 391 = .ok (.istore 6, 2) := fx_dat dk_Law_law_2 56 rfl
theorem d_Law_law_393 : decode code 393 = .ok (.aload_n 2, 1) := fx_dat dk_Law_law_2 57 rfl
theorem d_Law_law_394 : decode code 394 = .ok (.invokevirtual 74, 3) := fx_dat dk_Law_law_2 58 rfl
theorem d_Law_law_397 : decode code 397 = .ok (.iload 5, 2) := fx_dat dk_Law_law_2 59 rfl
theorem d_Law_law_399 : decode code 399 = .ok (.if_icmp .eq 5, 3) := fx_dat dk_Law_law_2 60 rfl
theorem d_Law_law_402 : decode code 402 = .ok (.iconst 0, 1) := fx_dat dk_Law_law_2 61 rfl
theorem d_Law_law_403 : decode code 403 = .ok (.ireturn, 1) := fx_dat dk_Law_law_2 62 rfl
theorem d_Law_law_404 : decode code 404 = .ok (.iload 5, 2) := fx_dat dk_Law_law_2 63 rfl
theorem d_Law_law_406 : decode code 406 = .ok (.ifCond .ne 15, 3) := fx_dat dk_Law_law_2 64 rfl
theorem d_Law_law_409 : decode code 409 = .ok (.aload_n 3, 1) := fx_dat dk_Law_law_2 65 rfl
theorem d_Law_law_410 : decode code 410 = .ok (.iconst 0, 1) := fx_dat dk_Law_law_2 66 rfl
theorem d_Law_law_411 : decode code 411 = .ok (.laload, 1) := fx_dat dk_Law_law_2 67 rfl
theorem d_Law_law_412 : decode code 412 = .ok (.iload 6, 2) := fx_dat dk_Law_law_2 68 rfl
theorem d_Law_law_414 : decode code 414 = .ok (.i2l, 1) := fx_dat dk_Law_law_2 69 rfl
theorem d_Law_law_415 : decode code 415 = .ok (.lcmp, 1) := fx_dat dk_Law_law_2 70 rfl
theorem d_Law_law_416 : decode code 416 = .ok (.ifCond .eq 5, 3) := fx_dat dk_Law_law_2 71 rfl
theorem d_Law_law_419 : decode code 419 = .ok (.iconst 0, 1) := fx_dat dk_Law_law_2 72 rfl
theorem d_Law_law_420 : decode code 420 = .ok (.ireturn, 1) := fx_dat dk_Law_law_2 73 rfl
theorem d_Law_law_421 : decode code 421 = .ok (.goto 590, 3) := fx_dat dk_Law_law_2 74 rfl
theorem d_Law_law_424 : decode code 424 = .ok (.aload_n 1, 1) := fx_dat dk_Law_law_2 75 rfl
theorem d_Law_law_425 : decode code 425 = .ok (.aload_n 0, 1) := fx_dat dk_Law_law_2 76 rfl
theorem d_Law_law_426 : decode code 426 = .ok (.iload 4, 2) := fx_dat dk_Law_law_2 77 rfl
theorem d_Law_law_428 : decode code 428 = .ok (.iconst 1, 1) := fx_dat dk_Law_law_2 78 rfl
theorem d_Law_law_429 : decode code 429 = .ok (.iadd, 1) := fx_dat dk_Law_law_2 79 rfl
def dl_Law_law_3 : List (Nat × Instr × Nat) := [(430, .iaload, 1), (431, .aload_n 3, 1), (432, .invokestatic 88, 3), (435, .istore 5, 2), (437, .aload_n 2, 1), (438, .aload_n 0, 1), (439, .iload 4, 2), (441, .iconst 1, 1), (442, .iadd, 1), (443, .iaload, 1), (444, .invokevirtual 90, 3), (447, .istore 6, 2), (449, .aload_n 2, 1), (450, .invokevirtual 74, 3), (453, .iload 5, 2), (455, .if_icmp .eq 5, 3), (458, .iconst 0, 1), (459, .ireturn, 1), (460, .iload 5, 2), (462, .ifCond .ne 15, 3), (465, .aload_n 3, 1), (466, .iconst 0, 1), (467, .laload, 1), (468, .iload 6, 2), (470, .i2l, 1), (471, .lcmp, 1), (472, .ifCond .eq 5, 3), (475, .iconst 0, 1), (476, .ireturn, 1), (477, .goto 534, 3), (480, .aload_n 1, 1), (481, .aload_n 0, 1), (482, .iload 4, 2), (484, .iconst 1, 1), (485, .iadd, 1), (486, .iaload, 1), (487, .aload_n 0, 1), (488, .iload 4, 2), (490, .iconst 2, 1), (491, .iadd, 1), (492, .iaload, 1), (493, .aload_n 0, 1), (494, .iload 4, 2), (496, .iconst 3, 1), (497, .iadd, 1), (498, .iaload, 1), (499, .aload_n 3, 1), (500, .invokestatic 91, 3), (503, .istore 5, 2), (505, .aload_n 2, 1), (506, .aload_n 0, 1), (507, .iload 4, 2), (509, .iconst 1, 1), (510, .iadd, 1), (511, .iaload, 1), (512, .aload_n 0, 1), (513, .iload 4, 2), (515, .iconst 2, 1), (516, .iadd, 1), (517, .iaload, 1), (518, .aload_n 0, 1), (519, .iload 4, 2), (521, .iconst 3, 1), (522, .iadd, 1), (523, .iaload, 1), (524, .invokevirtual 94, 3), (527, .istore 6, 2), (529, .aload_n 2, 1), (530, .invokevirtual 74, 3), (533, .iload 5, 2), (535, .if_icmp .eq 5, 3), (538, .iconst 0, 1), (539, .ireturn, 1), (540, .iload 5, 2), (542, .ifCond .ne 15, 3), (545, .aload_n 3, 1), (546, .iconst 0, 1), (547, .laload, 1), (548, .iload 6, 2), (550, .i2l, 1)]
theorem dk_Law_law_3 : fx_dec code dl_Law_law_3 = true := by decide +kernel
theorem d_Law_law_430 : decode code 430 = .ok (.iaload, 1) := fx_dat dk_Law_law_3 0 rfl
theorem d_Law_law_431 : decode code 431 = .ok (.aload_n 3, 1) := fx_dat dk_Law_law_3 1 rfl
theorem d_Law_law_432 : decode code 432 = .ok (.invokestatic 88, 3) := fx_dat dk_Law_law_3 2 rfl
theorem d_Law_law_435 : decode code 435 = .ok (.istore 5, 2) := fx_dat dk_Law_law_3 3 rfl
theorem d_Law_law_437 : decode code 437 = .ok (.aload_n 2, 1) := fx_dat dk_Law_law_3 4 rfl
theorem d_Law_law_438 : decode code 438 = .ok (.aload_n 0, 1) := fx_dat dk_Law_law_3 5 rfl
theorem d_Law_law_439 : decode code 439 = .ok (.iload 4, 2) := fx_dat dk_Law_law_3 6 rfl
theorem d_Law_law_441 : decode code 441 = .ok (.iconst 1, 1) := fx_dat dk_Law_law_3 7 rfl
theorem d_Law_law_442 : decode code 442 = .ok (.iadd, 1) := fx_dat dk_Law_law_3 8 rfl
theorem d_Law_law_443 : decode code 443 = .ok (.iaload, 1) := fx_dat dk_Law_law_3 9 rfl
theorem d_Law_law_444 : decode code 444 = .ok (.invokevirtual 90, 3) := fx_dat dk_Law_law_3 10 rfl
theorem d_Law_law_447 : decode code 447 = .ok (.istore 6, 2) := fx_dat dk_Law_law_3 11 rfl
theorem d_Law_law_449 : decode code 449 = .ok (.aload_n 2, 1) := fx_dat dk_Law_law_3 12 rfl
theorem d_Law_law_450 : decode code 450 = .ok (.invokevirtual 74, 3) := fx_dat dk_Law_law_3 13 rfl
theorem d_Law_law_453 : decode code 453 = .ok (.iload 5, 2) := fx_dat dk_Law_law_3 14 rfl
theorem d_Law_law_455 : decode code 455 = .ok (.if_icmp .eq 5, 3) := fx_dat dk_Law_law_3 15 rfl
theorem d_Law_law_458 : decode code 458 = .ok (.iconst 0, 1) := fx_dat dk_Law_law_3 16 rfl
theorem d_Law_law_459 : decode code 459 = .ok (.ireturn, 1) := fx_dat dk_Law_law_3 17 rfl
theorem d_Law_law_460 : decode code 460 = .ok (.iload 5, 2) := fx_dat dk_Law_law_3 18 rfl
theorem d_Law_law_462 : decode code 462 = .ok (.ifCond .ne 15, 3) := fx_dat dk_Law_law_3 19 rfl
theorem d_Law_law_465 : decode code 465 = .ok (.aload_n 3, 1) := fx_dat dk_Law_law_3 20 rfl
theorem d_Law_law_466 : decode code 466 = .ok (.iconst 0, 1) := fx_dat dk_Law_law_3 21 rfl
theorem d_Law_law_467 : decode code 467 = .ok (.laload, 1) := fx_dat dk_Law_law_3 22 rfl
theorem d_Law_law_468 : decode code 468 = .ok (.iload 6, 2) := fx_dat dk_Law_law_3 23 rfl
theorem d_Law_law_470 : decode code 470 = .ok (.i2l, 1) := fx_dat dk_Law_law_3 24 rfl
theorem d_Law_law_471 : decode code 471 = .ok (.lcmp, 1) := fx_dat dk_Law_law_3 25 rfl
theorem d_Law_law_472 : decode code 472 = .ok (.ifCond .eq 5, 3) := fx_dat dk_Law_law_3 26 rfl
theorem d_Law_law_475 : decode code 475 = .ok (.iconst 0, 1) := fx_dat dk_Law_law_3 27 rfl
theorem d_Law_law_476 : decode code 476 = .ok (.ireturn, 1) := fx_dat dk_Law_law_3 28 rfl
theorem d_Law_law_477 : decode code 477 = .ok (.goto 534, 3) := fx_dat dk_Law_law_3 29 rfl
theorem d_Law_law_480 : decode code 480 = .ok (.aload_n 1, 1) := fx_dat dk_Law_law_3 30 rfl
theorem d_Law_law_481 : decode code 481 = .ok (.aload_n 0, 1) := fx_dat dk_Law_law_3 31 rfl
theorem d_Law_law_482 : decode code 482 = .ok (.iload 4, 2) := fx_dat dk_Law_law_3 32 rfl
theorem d_Law_law_484 : decode code 484 = .ok (.iconst 1, 1) := fx_dat dk_Law_law_3 33 rfl
theorem d_Law_law_485 : decode code 485 = .ok (.iadd, 1) := fx_dat dk_Law_law_3 34 rfl
theorem d_Law_law_486 : decode code 486 = .ok (.iaload, 1) := fx_dat dk_Law_law_3 35 rfl
theorem d_Law_law_487 : decode code 487 = .ok (.aload_n 0, 1) := fx_dat dk_Law_law_3 36 rfl
theorem d_Law_law_488 : decode code 488 = .ok (.iload 4, 2) := fx_dat dk_Law_law_3 37 rfl
theorem d_Law_law_490 : decode code 490 = .ok (.iconst 2, 1) := fx_dat dk_Law_law_3 38 rfl
theorem d_Law_law_491 : decode code 491 = .ok (.iadd, 1) := fx_dat dk_Law_law_3 39 rfl
theorem d_Law_law_492 : decode code 492 = .ok (.iaload, 1) := fx_dat dk_Law_law_3 40 rfl
theorem d_Law_law_493 : decode code 493 = .ok (.aload_n 0, 1) := fx_dat dk_Law_law_3 41 rfl
theorem d_Law_law_494 : decode code 494 = .ok (.iload 4, 2) := fx_dat dk_Law_law_3 42 rfl
theorem d_Law_law_496 : decode code 496 = .ok (.iconst 3, 1) := fx_dat dk_Law_law_3 43 rfl
theorem d_Law_law_497 : decode code 497 = .ok (.iadd, 1) := fx_dat dk_Law_law_3 44 rfl
theorem d_Law_law_498 : decode code 498 = .ok (.iaload, 1) := fx_dat dk_Law_law_3 45 rfl
theorem d_Law_law_499 : decode code 499 = .ok (.aload_n 3, 1) := fx_dat dk_Law_law_3 46 rfl
theorem d_Law_law_500 : decode code 500 = .ok (.invokestatic 91, 3) := fx_dat dk_Law_law_3 47 rfl
theorem d_Law_law_503 : decode code 503 = .ok (.istore 5, 2) := fx_dat dk_Law_law_3 48 rfl
theorem d_Law_law_505 : decode code 505 = .ok (.aload_n 2, 1) := fx_dat dk_Law_law_3 49 rfl
theorem d_Law_law_506 : decode code 506 = .ok (.aload_n 0, 1) := fx_dat dk_Law_law_3 50 rfl
theorem d_Law_law_507 : decode code 507 = .ok (.iload 4, 2) := fx_dat dk_Law_law_3 51 rfl
theorem d_Law_law_509 : decode code 509 = .ok (.iconst 1, 1) := fx_dat dk_Law_law_3 52 rfl
theorem d_Law_law_510 : decode code 510 = .ok (.iadd, 1) := fx_dat dk_Law_law_3 53 rfl
theorem d_Law_law_511 : decode code 511 = .ok (.iaload, 1) := fx_dat dk_Law_law_3 54 rfl
theorem d_Law_law_512 : decode code 512 = .ok (.aload_n 0, 1) := fx_dat dk_Law_law_3 55 rfl
theorem d_Law_law_513 : decode code 513 = .ok (.iload 4, 2) := fx_dat dk_Law_law_3 56 rfl
theorem d_Law_law_515 : decode code 515 = .ok (.iconst 2, 1) := fx_dat dk_Law_law_3 57 rfl
theorem d_Law_law_516 : decode code 516 = .ok (.iadd, 1) := fx_dat dk_Law_law_3 58 rfl
theorem d_Law_law_517 : decode code 517 = .ok (.iaload, 1) := fx_dat dk_Law_law_3 59 rfl
theorem d_Law_law_518 : decode code 518 = .ok (.aload_n 0, 1) := fx_dat dk_Law_law_3 60 rfl
theorem d_Law_law_519 : decode code 519 = .ok (.iload 4, 2) := fx_dat dk_Law_law_3 61 rfl
theorem d_Law_law_521 : decode code 521 = .ok (.iconst 3, 1) := fx_dat dk_Law_law_3 62 rfl
theorem d_Law_law_522 : decode code 522 = .ok (.iadd, 1) := fx_dat dk_Law_law_3 63 rfl
theorem d_Law_law_523 : decode code 523 = .ok (.iaload, 1) := fx_dat dk_Law_law_3 64 rfl
theorem d_Law_law_524 : decode code 524 = .ok (.invokevirtual 94, 3) := fx_dat dk_Law_law_3 65 rfl
theorem d_Law_law_527 : decode code 527 = .ok (.istore 6, 2) := fx_dat dk_Law_law_3 66 rfl
theorem d_Law_law_529 : decode code 529 = .ok (.aload_n 2, 1) := fx_dat dk_Law_law_3 67 rfl
theorem d_Law_law_530 : decode code 530 = .ok (.invokevirtual 74, 3) := fx_dat dk_Law_law_3 68 rfl
theorem d_Law_law_533 : decode code 533 = .ok (.iload 5, 2) := fx_dat dk_Law_law_3 69 rfl
theorem d_Law_law_535 : decode code 535 = .ok (.if_icmp .eq 5, 3) := fx_dat dk_Law_law_3 70 rfl
theorem d_Law_law_538 : decode code 538 = .ok (.iconst 0, 1) := fx_dat dk_Law_law_3 71 rfl
theorem d_Law_law_539 : decode code 539 = .ok (.ireturn, 1) := fx_dat dk_Law_law_3 72 rfl
theorem d_Law_law_540 : decode code 540 = .ok (.iload 5, 2) := fx_dat dk_Law_law_3 73 rfl
theorem d_Law_law_542 : decode code 542 = .ok (.ifCond .ne 15, 3) := fx_dat dk_Law_law_3 74 rfl
theorem d_Law_law_545 : decode code 545 = .ok (.aload_n 3, 1) := fx_dat dk_Law_law_3 75 rfl
theorem d_Law_law_546 : decode code 546 = .ok (.iconst 0, 1) := fx_dat dk_Law_law_3 76 rfl
theorem d_Law_law_547 : decode code 547 = .ok (.laload, 1) := fx_dat dk_Law_law_3 77 rfl
theorem d_Law_law_548 : decode code 548 = .ok (.iload 6, 2) := fx_dat dk_Law_law_3 78 rfl
theorem d_Law_law_550 : decode code 550 = .ok (.i2l, 1) := fx_dat dk_Law_law_3 79 rfl
def dl_Law_law_4 : List (Nat × Instr × Nat) := [(551, .lcmp, 1), (552, .ifCond .eq 5, 3), (555, .iconst 0, 1), (556, .ireturn, 1), (557, .goto 454, 3), (560, .aload_n 1, 1), (561, .aload_n 0, 1), (562, .iload 4, 2), (564, .iconst 1, 1), (565, .iadd, 1), (566, .iaload, 1), (567, .aload_n 0, 1), (568, .iload 4, 2), (570, .iconst 2, 1), (571, .iadd, 1), (572, .iaload, 1), (573, .aload_n 3, 1), (574, .invokestatic 95, 3), (577, .istore 5, 2), (579, .aload_n 2, 1), (580, .aload_n 0, 1), (581, .iload 4, 2), (583, .iconst 1, 1), (584, .iadd, 1), (585, .iaload, 1), (586, .aload_n 0, 1), (587, .iload 4, 2), (589, .iconst 2, 1), (590, .iadd, 1), (591, .iaload, 1), (592, .invokevirtual 98, 3), (595, .istore 6, 2), (597, .aload_n 2, 1), (598, .invokevirtual 74, 3), (601, .iload 5, 2), (603, .if_icmp .eq 5, 3), (606, .iconst 0, 1), (607, .ireturn, 1), (608, .iload 5, 2), (610, .ifCond .ne 15, 3), (613, .aload_n 3, 1), (614, .iconst 0, 1), (615, .laload, 1), (616, .iload 6, 2), (618, .i2l, 1), (619, .lcmp, 1), (620, .ifCond .eq 5, 3), (623, .iconst 0, 1), (624, .ireturn, 1), (625, .goto 386, 3), (628, .aload_n 1, 1), (629, .aload_n 0, 1), (630, .iload 4, 2), (632, .iconst 1, 1), (633, .iadd, 1), (634, .iaload, 1), (635, .aload_n 0, 1), (636, .iload 4, 2), (638, .iconst 2, 1), (639, .iadd, 1), (640, .iaload, 1), (641, .aload_n 3, 1), (642, .invokestatic 99, 3), (645, .istore 5, 2), (647, .aload_n 2, 1), (648, .aload_n 0, 1), (649, .iload 4, 2), (651, .iconst 1, 1), (652, .iadd, 1), (653, .iaload, 1), (654, .aload_n 0, 1), (655, .iload 4, 2), (657, .iconst 2, 1), (658, .iadd, 1), (659, .iaload, 1), (660, .invokevirtual 101, 3), (663, .lstore 6, 2), (665, .aload_n 2, 1), (666, .invokevirtual 74, 3), (669, .iload 5, 2)]
theorem dk_Law_law_4 : fx_dec code dl_Law_law_4 = true := by decide +kernel
theorem d_Law_law_551 : decode code 551 = .ok (.lcmp, 1) := fx_dat dk_Law_law_4 0 rfl
theorem d_Law_law_552 : decode code 552 = .ok (.ifCond .eq 5, 3) := fx_dat dk_Law_law_4 1 rfl
theorem d_Law_law_555 : decode code 555 = .ok (.iconst 0, 1) := fx_dat dk_Law_law_4 2 rfl
theorem d_Law_law_556 : decode code 556 = .ok (.ireturn, 1) := fx_dat dk_Law_law_4 3 rfl
theorem d_Law_law_557 : decode code 557 = .ok (.goto 454, 3) := fx_dat dk_Law_law_4 4 rfl
theorem d_Law_law_560 : decode code 560 = .ok (.aload_n 1, 1) := fx_dat dk_Law_law_4 5 rfl
theorem d_Law_law_561 : decode code 561 = .ok (.aload_n 0, 1) := fx_dat dk_Law_law_4 6 rfl
theorem d_Law_law_562 : decode code 562 = .ok (.iload 4, 2) := fx_dat dk_Law_law_4 7 rfl
theorem d_Law_law_564 : decode code 564 = .ok (.iconst 1, 1) := fx_dat dk_Law_law_4 8 rfl
theorem d_Law_law_565 : decode code 565 = .ok (.iadd, 1) := fx_dat dk_Law_law_4 9 rfl
theorem d_Law_law_566 : decode code 566 = .ok (.iaload, 1) := fx_dat dk_Law_law_4 10 rfl
theorem d_Law_law_567 : decode code 567 = .ok (.aload_n 0, 1) := fx_dat dk_Law_law_4 11 rfl
theorem d_Law_law_568 : decode code 568 = .ok (.iload 4, 2) := fx_dat dk_Law_law_4 12 rfl
theorem d_Law_law_570 : decode code 570 = .ok (.iconst 2, 1) := fx_dat dk_Law_law_4 13 rfl
theorem d_Law_law_571 : decode code 571 = .ok (.iadd, 1) := fx_dat dk_Law_law_4 14 rfl
theorem d_Law_law_572 : decode code 572 = .ok (.iaload, 1) := fx_dat dk_Law_law_4 15 rfl
theorem d_Law_law_573 : decode code 573 = .ok (.aload_n 3, 1) := fx_dat dk_Law_law_4 16 rfl
theorem d_Law_law_574 : decode code 574 = .ok (.invokestatic 95, 3) := fx_dat dk_Law_law_4 17 rfl
theorem d_Law_law_577 : decode code 577 = .ok (.istore 5, 2) := fx_dat dk_Law_law_4 18 rfl
theorem d_Law_law_579 : decode code 579 = .ok (.aload_n 2, 1) := fx_dat dk_Law_law_4 19 rfl
theorem d_Law_law_580 : decode code 580 = .ok (.aload_n 0, 1) := fx_dat dk_Law_law_4 20 rfl
theorem d_Law_law_581 : decode code 581 = .ok (.iload 4, 2) := fx_dat dk_Law_law_4 21 rfl
theorem d_Law_law_583 : decode code 583 = .ok (.iconst 1, 1) := fx_dat dk_Law_law_4 22 rfl
theorem d_Law_law_584 : decode code 584 = .ok (.iadd, 1) := fx_dat dk_Law_law_4 23 rfl
theorem d_Law_law_585 : decode code 585 = .ok (.iaload, 1) := fx_dat dk_Law_law_4 24 rfl
theorem d_Law_law_586 : decode code 586 = .ok (.aload_n 0, 1) := fx_dat dk_Law_law_4 25 rfl
theorem d_Law_law_587 : decode code 587 = .ok (.iload 4, 2) := fx_dat dk_Law_law_4 26 rfl
theorem d_Law_law_589 : decode code 589 = .ok (.iconst 2, 1) := fx_dat dk_Law_law_4 27 rfl
theorem d_Law_law_590 : decode code 590 = .ok (.iadd, 1) := fx_dat dk_Law_law_4 28 rfl
theorem d_Law_law_591 : decode code 591 = .ok (.iaload, 1) := fx_dat dk_Law_law_4 29 rfl
theorem d_Law_law_592 : decode code 592 = .ok (.invokevirtual 98, 3) := fx_dat dk_Law_law_4 30 rfl
theorem d_Law_law_595 : decode code 595 = .ok (.istore 6, 2) := fx_dat dk_Law_law_4 31 rfl
theorem d_Law_law_597 : decode code 597 = .ok (.aload_n 2, 1) := fx_dat dk_Law_law_4 32 rfl
theorem d_Law_law_598 : decode code 598 = .ok (.invokevirtual 74, 3) := fx_dat dk_Law_law_4 33 rfl
theorem d_Law_law_601 : decode code 601 = .ok (.iload 5, 2) := fx_dat dk_Law_law_4 34 rfl
theorem d_Law_law_603 : decode code 603 = .ok (.if_icmp .eq 5, 3) := fx_dat dk_Law_law_4 35 rfl
theorem d_Law_law_606 : decode code 606 = .ok (.iconst 0, 1) := fx_dat dk_Law_law_4 36 rfl
theorem d_Law_law_607 : decode code 607 = .ok (.ireturn, 1) := fx_dat dk_Law_law_4 37 rfl
theorem d_Law_law_608 : decode code 608 = .ok (.iload 5, 2) := fx_dat dk_Law_law_4 38 rfl
theorem d_Law_law_610 : decode code 610 = .ok (.ifCond .ne 15, 3) := fx_dat dk_Law_law_4 39 rfl
theorem d_Law_law_613 : decode code 613 = .ok (.aload_n 3, 1) := fx_dat dk_Law_law_4 40 rfl
theorem d_Law_law_614 : decode code 614 = .ok (.iconst 0, 1) := fx_dat dk_Law_law_4 41 rfl
theorem d_Law_law_615 : decode code 615 = .ok (.laload, 1) := fx_dat dk_Law_law_4 42 rfl
theorem d_Law_law_616 : decode code 616 = .ok (.iload 6, 2) := fx_dat dk_Law_law_4 43 rfl
theorem d_Law_law_618 : decode code 618 = .ok (.i2l, 1) := fx_dat dk_Law_law_4 44 rfl
theorem d_Law_law_619 : decode code 619 = .ok (.lcmp, 1) := fx_dat dk_Law_law_4 45 rfl
theorem d_Law_law_620 : decode code 620 = .ok (.ifCond .eq 5, 3) := fx_dat dk_Law_law_4 46 rfl
theorem d_Law_law_623 : decode code 623 = .ok (.iconst 0, 1) := fx_dat dk_Law_law_4 47 rfl
theorem d_Law_law_624 : decode code 624 = .ok (.ireturn, 1) := fx_dat dk_Law_law_4 48 rfl
theorem d_Law_law_625 : decode code 625 = .ok (.goto 386, 3) := fx_dat dk_Law_law_4 49 rfl
theorem d_Law_law_628 : decode code 628 = .ok (.aload_n 1, 1) := fx_dat dk_Law_law_4 50 rfl
theorem d_Law_law_629 : decode code 629 = .ok (.aload_n 0, 1) := fx_dat dk_Law_law_4 51 rfl
theorem d_Law_law_630 : decode code 630 = .ok (.iload 4, 2) := fx_dat dk_Law_law_4 52 rfl
theorem d_Law_law_632 : decode code 632 = .ok (.iconst 1, 1) := fx_dat dk_Law_law_4 53 rfl
theorem d_Law_law_633 : decode code 633 = .ok (.iadd, 1) := fx_dat dk_Law_law_4 54 rfl
theorem d_Law_law_634 : decode code 634 = .ok (.iaload, 1) := fx_dat dk_Law_law_4 55 rfl
theorem d_Law_law_635 : decode code 635 = .ok (.aload_n 0, 1) := fx_dat dk_Law_law_4 56 rfl
theorem d_Law_law_636 : decode code 636 = .ok (.iload 4, 2) := fx_dat dk_Law_law_4 57 rfl
theorem d_Law_law_638 : decode code 638 = .ok (.iconst 2, 1) := fx_dat dk_Law_law_4 58 rfl
theorem d_Law_law_639 : decode code 639 = .ok (.iadd, 1) := fx_dat dk_Law_law_4 59 rfl
theorem d_Law_law_640 : decode code 640 = .ok (.iaload, 1) := fx_dat dk_Law_law_4 60 rfl
theorem d_Law_law_641 : decode code 641 = .ok (.aload_n 3, 1) := fx_dat dk_Law_law_4 61 rfl
theorem d_Law_law_642 : decode code 642 = .ok (.invokestatic 99, 3) := fx_dat dk_Law_law_4 62 rfl
theorem d_Law_law_645 : decode code 645 = .ok (.istore 5, 2) := fx_dat dk_Law_law_4 63 rfl
theorem d_Law_law_647 : decode code 647 = .ok (.aload_n 2, 1) := fx_dat dk_Law_law_4 64 rfl
theorem d_Law_law_648 : decode code 648 = .ok (.aload_n 0, 1) := fx_dat dk_Law_law_4 65 rfl
theorem d_Law_law_649 : decode code 649 = .ok (.iload 4, 2) := fx_dat dk_Law_law_4 66 rfl
theorem d_Law_law_651 : decode code 651 = .ok (.iconst 1, 1) := fx_dat dk_Law_law_4 67 rfl
theorem d_Law_law_652 : decode code 652 = .ok (.iadd, 1) := fx_dat dk_Law_law_4 68 rfl
theorem d_Law_law_653 : decode code 653 = .ok (.iaload, 1) := fx_dat dk_Law_law_4 69 rfl
theorem d_Law_law_654 : decode code 654 = .ok (.aload_n 0, 1) := fx_dat dk_Law_law_4 70 rfl
theorem d_Law_law_655 : decode code 655 = .ok (.iload 4, 2) := fx_dat dk_Law_law_4 71 rfl
theorem d_Law_law_657 : decode code 657 = .ok (.iconst 2, 1) := fx_dat dk_Law_law_4 72 rfl
theorem d_Law_law_658 : decode code 658 = .ok (.iadd, 1) := fx_dat dk_Law_law_4 73 rfl
theorem d_Law_law_659 : decode code 659 = .ok (.iaload, 1) := fx_dat dk_Law_law_4 74 rfl
theorem d_Law_law_660 : decode code 660 = .ok (.invokevirtual 101, 3) := fx_dat dk_Law_law_4 75 rfl
theorem d_Law_law_663 : decode code 663 = .ok (.lstore 6, 2) := fx_dat dk_Law_law_4 76 rfl
theorem d_Law_law_665 : decode code 665 = .ok (.aload_n 2, 1) := fx_dat dk_Law_law_4 77 rfl
theorem d_Law_law_666 : decode code 666 = .ok (.invokevirtual 74, 3) := fx_dat dk_Law_law_4 78 rfl
theorem d_Law_law_669 : decode code 669 = .ok (.iload 5, 2) := fx_dat dk_Law_law_4 79 rfl
def dl_Law_law_5 : List (Nat × Instr × Nat) := [(671, .if_icmp .eq 5, 3), (674, .iconst 0, 1), (675, .ireturn, 1), (676, .iload 5, 2), (678, .ifCond .ne 14, 3), (681, .aload_n 3, 1), (682, .iconst 0, 1), (683, .laload, 1), (684, .lload 6, 2), (686, .lcmp, 1), (687, .ifCond .eq 5, 3), (690, .iconst 0, 1), (691, .ireturn, 1), (692, .goto 319, 3), (695, .aload_n 1, 1), (696, .aload_n 0, 1), (697, .iload 4, 2), (699, .iconst 1, 1), (700, .iadd, 1), (701, .iaload, 1), (702, .aload_n 3, 1), (703, .invokestatic 102, 3), (706, .istore 5, 2), (708, .aload_n 2, 1), (709, .aload_n 0, 1), (710, .iload 4, 2), (712, .iconst 1, 1), (713, .iadd, 1), (714, .iaload, 1), (715, .invokevirtual 104, 3), (718, .istore 6, 2), (720, .aload_n 2, 1), (721, .invokevirtual 74, 3), (724, .iload 5, 2), (726, .if_icmp .eq 5, 3), (729, .iconst 0, 1), (730, .ireturn, 1), (731, .iload 5, 2), (733, .ifCond .ne 15, 3), (736, .aload_n 3, 1), (737, .iconst 0, 1), (738, .laload, 1), (739, .iload 6, 2), (741, .i2l, 1), (742, .lcmp, 1), (743, .ifCond .eq 5, 3), (746, .iconst 0, 1), (747, .ireturn, 1), (748, .goto 263, 3), (751, .aload_n 1, 1), (752, .invokevirtual 105, 3), (755, .aload_n 2, 1), (756, .invokevirtual 108, 3), (759, .goto 252, 3), (762, .aload_n 1, 1), (763, .aload_n 0, 1), (764, .iload 4, 2), (766, .iconst 1, 1), (767, .iadd, 1), (768, .iaload, 1), (769, .aload_n 3, 1), (770, .invokestatic 109, 3), (773, .istore 5, 2), (775, .aload_n 2, 1), (776, .aload_n 0, 1), (777, .iload 4, 2), (779, .iconst 1, 1), (780, .iadd, 1), (781, .iaload, 1), (782, .invokevirtual 111, 3), (785, .istore 6, 2), (787, .aload_n 2, 1), (788, .invokevirtual 74, 3), (791, .iload 5, 2), (793, .if_icmp .eq 5, 3), (796, .iconst 0, 1), (797, .ireturn, 1), (798, .iload 5, 2), (800, .ifCond .ne 15, 3), (803, .aload_n 3, 1)]
theorem dk_Law_law_5 : fx_dec code dl_Law_law_5 = true := by decide +kernel
theorem d_Law_law_671 : decode code 671 = .ok (.if_icmp .eq 5, 3) := fx_dat dk_Law_law_5 0 rfl
theorem d_Law_law_674 : decode code 674 = .ok (.iconst 0, 1) := fx_dat dk_Law_law_5 1 rfl
theorem d_Law_law_675 : decode code 675 = .ok (.ireturn, 1) := fx_dat dk_Law_law_5 2 rfl
theorem d_Law_law_676 : decode code 676 = .ok (.iload 5, 2) := fx_dat dk_Law_law_5 3 rfl
theorem d_Law_law_678 : decode code 678 = .ok (.ifCond .ne 14, 3) := fx_dat dk_Law_law_5 4 rfl
theorem d_Law_law_681 : decode code 681 = .ok (.aload_n 3, 1) := fx_dat dk_Law_law_5 5 rfl
theorem d_Law_law_682 : decode code 682 = .ok (.iconst 0, 1) := fx_dat dk_Law_law_5 6 rfl
theorem d_Law_law_683 : decode code 683 = .ok (.laload, 1) := fx_dat dk_Law_law_5 7 rfl
theorem d_Law_law_684 : decode code 684 = .ok (.lload 6, 2) := fx_dat dk_Law_law_5 8 rfl
theorem d_Law_law_686 : decode code 686 = .ok (.lcmp, 1) := fx_dat dk_Law_law_5 9 rfl
theorem d_Law_law_687 : decode code 687 = .ok (.ifCond .eq 5, 3) := fx_dat dk_Law_law_5 10 rfl
theorem d_Law_law_690 : decode code 690 = .ok (.iconst 0, 1) := fx_dat dk_Law_law_5 11 rfl
theorem d_Law_law_691 : decode code 691 = .ok (.ireturn, 1) := fx_dat dk_Law_law_5 12 rfl
theorem d_Law_law_692 : decode code 692 = .ok (.goto 319, 3) := fx_dat dk_Law_law_5 13 rfl
theorem d_Law_law_695 : decode code 695 = .ok (.aload_n 1, 1) := fx_dat dk_Law_law_5 14 rfl
theorem d_Law_law_696 : decode code 696 = .ok (.aload_n 0, 1) := fx_dat dk_Law_law_5 15 rfl
theorem d_Law_law_697 : decode code 697 = .ok (.iload 4, 2) := fx_dat dk_Law_law_5 16 rfl
theorem d_Law_law_699 : decode code 699 = .ok (.iconst 1, 1) := fx_dat dk_Law_law_5 17 rfl
theorem d_Law_law_700 : decode code 700 = .ok (.iadd, 1) := fx_dat dk_Law_law_5 18 rfl
theorem d_Law_law_701 : decode code 701 = .ok (.iaload, 1) := fx_dat dk_Law_law_5 19 rfl
theorem d_Law_law_702 : decode code 702 = .ok (.aload_n 3, 1) := fx_dat dk_Law_law_5 20 rfl
theorem d_Law_law_703 : decode code 703 = .ok (.invokestatic 102, 3) := fx_dat dk_Law_law_5 21 rfl
theorem d_Law_law_706 : decode code 706 = .ok (.istore 5, 2) := fx_dat dk_Law_law_5 22 rfl
theorem d_Law_law_708 : decode code 708 = .ok (.aload_n 2, 1) := fx_dat dk_Law_law_5 23 rfl
theorem d_Law_law_709 : decode code 709 = .ok (.aload_n 0, 1) := fx_dat dk_Law_law_5 24 rfl
theorem d_Law_law_710 : decode code 710 = .ok (.iload 4, 2) := fx_dat dk_Law_law_5 25 rfl
theorem d_Law_law_712 : decode code 712 = .ok (.iconst 1, 1) := fx_dat dk_Law_law_5 26 rfl
theorem d_Law_law_713 : decode code 713 = .ok (.iadd, 1) := fx_dat dk_Law_law_5 27 rfl
theorem d_Law_law_714 : decode code 714 = .ok (.iaload, 1) := fx_dat dk_Law_law_5 28 rfl
theorem d_Law_law_715 : decode code 715 = .ok (.invokevirtual 104, 3) := fx_dat dk_Law_law_5 29 rfl
theorem d_Law_law_718 : decode code 718 = .ok (.istore 6, 2) := fx_dat dk_Law_law_5 30 rfl
theorem d_Law_law_720 : decode code 720 = .ok (.aload_n 2, 1) := fx_dat dk_Law_law_5 31 rfl
theorem d_Law_law_721 : decode code 721 = .ok (.invokevirtual 74, 3) := fx_dat dk_Law_law_5 32 rfl
theorem d_Law_law_724 : decode code 724 = .ok (.iload 5, 2) := fx_dat dk_Law_law_5 33 rfl
theorem d_Law_law_726 : decode code 726 = .ok (.if_icmp .eq 5, 3) := fx_dat dk_Law_law_5 34 rfl
theorem d_Law_law_729 : decode code 729 = .ok (.iconst 0, 1) := fx_dat dk_Law_law_5 35 rfl
theorem d_Law_law_730 : decode code 730 = .ok (.ireturn, 1) := fx_dat dk_Law_law_5 36 rfl
theorem d_Law_law_731 : decode code 731 = .ok (.iload 5, 2) := fx_dat dk_Law_law_5 37 rfl
theorem d_Law_law_733 : decode code 733 = .ok (.ifCond .ne 15, 3) := fx_dat dk_Law_law_5 38 rfl
theorem d_Law_law_736 : decode code 736 = .ok (.aload_n 3, 1) := fx_dat dk_Law_law_5 39 rfl
theorem d_Law_law_737 : decode code 737 = .ok (.iconst 0, 1) := fx_dat dk_Law_law_5 40 rfl
theorem d_Law_law_738 : decode code 738 = .ok (.laload, 1) := fx_dat dk_Law_law_5 41 rfl
theorem d_Law_law_739 : decode code 739 = .ok (.iload 6, 2) := fx_dat dk_Law_law_5 42 rfl
theorem d_Law_law_741 : decode code 741 = .ok (.i2l, 1) := fx_dat dk_Law_law_5 43 rfl
theorem d_Law_law_742 : decode code 742 = .ok (.lcmp, 1) := fx_dat dk_Law_law_5 44 rfl
theorem d_Law_law_743 : decode code 743 = .ok (.ifCond .eq 5, 3) := fx_dat dk_Law_law_5 45 rfl
theorem d_Law_law_746 : decode code 746 = .ok (.iconst 0, 1) := fx_dat dk_Law_law_5 46 rfl
theorem d_Law_law_747 : decode code 747 = .ok (.ireturn, 1) := fx_dat dk_Law_law_5 47 rfl
theorem d_Law_law_748 : decode code 748 = .ok (.goto 263, 3) := fx_dat dk_Law_law_5 48 rfl
theorem d_Law_law_751 : decode code 751 = .ok (.aload_n 1, 1) := fx_dat dk_Law_law_5 49 rfl
theorem d_Law_law_752 : decode code 752 = .ok (.invokevirtual 105, 3) := fx_dat dk_Law_law_5 50 rfl
theorem d_Law_law_755 : decode code 755 = .ok (.aload_n 2, 1) := fx_dat dk_Law_law_5 51 rfl
theorem d_Law_law_756 : decode code 756 = .ok (.invokevirtual 108, 3) := fx_dat dk_Law_law_5 52 rfl
theorem d_Law_law_759 : decode code 759 = .ok (.goto 252, 3) := fx_dat dk_Law_law_5 53 rfl
theorem d_Law_law_762 : decode code 762 = .ok (.aload_n 1, 1) := fx_dat dk_Law_law_5 54 rfl
theorem d_Law_law_763 : decode code 763 = .ok (.aload_n 0, 1) := fx_dat dk_Law_law_5 55 rfl
theorem d_Law_law_764 : decode code 764 = .ok (.iload 4, 2) := fx_dat dk_Law_law_5 56 rfl
theorem d_Law_law_766 : decode code 766 = .ok (.iconst 1, 1) := fx_dat dk_Law_law_5 57 rfl
theorem d_Law_law_767 : decode code 767 = .ok (.iadd, 1) := fx_dat dk_Law_law_5 58 rfl
theorem d_Law_law_768 : decode code 768 = .ok (.iaload, 1) := fx_dat dk_Law_law_5 59 rfl
theorem d_Law_law_769 : decode code 769 = .ok (.aload_n 3, 1) := fx_dat dk_Law_law_5 60 rfl
theorem d_Law_law_770 : decode code 770 = .ok (.invokestatic 109, 3) := fx_dat dk_Law_law_5 61 rfl
theorem d_Law_law_773 : decode code 773 = .ok (.istore 5, 2) := fx_dat dk_Law_law_5 62 rfl
theorem d_Law_law_775 : decode code 775 = .ok (.aload_n 2, 1) := fx_dat dk_Law_law_5 63 rfl
theorem d_Law_law_776 : decode code 776 = .ok (.aload_n 0, 1) := fx_dat dk_Law_law_5 64 rfl
theorem d_Law_law_777 : decode code 777 = .ok (.iload 4, 2) := fx_dat dk_Law_law_5 65 rfl
theorem d_Law_law_779 : decode code 779 = .ok (.iconst 1, 1) := fx_dat dk_Law_law_5 66 rfl
theorem d_Law_law_780 : decode code 780 = .ok (.iadd, 1) := fx_dat dk_Law_law_5 67 rfl
theorem d_Law_law_781 : decode code 781 = .ok (.iaload, 1) := fx_dat dk_Law_law_5 68 rfl
theorem d_Law_law_782 : decode code 782 = .ok (.invokevirtual 111, 3) := fx_dat dk_Law_law_5 69 rfl
theorem d_Law_law_785 : decode code 785 = .ok (.istore 6, 2) := fx_dat dk_Law_law_5 70 rfl
theorem d_Law_law_787 : decode code 787 = .ok (.aload_n 2, 1) := fx_dat dk_Law_law_5 71 rfl
theorem d_Law_law_788 : decode code 788 = .ok (.invokevirtual 74, 3) := fx_dat dk_Law_law_5 72 rfl
theorem d_Law_law_791 : decode code 791 = .ok (.iload 5, 2) := fx_dat dk_Law_law_5 73 rfl
theorem d_Law_law_793 : decode code 793 = .ok (.if_icmp .eq 5, 3) := fx_dat dk_Law_law_5 74 rfl
theorem d_Law_law_796 : decode code 796 = .ok (.iconst 0, 1) := fx_dat dk_Law_law_5 75 rfl
theorem d_Law_law_797 : decode code 797 = .ok (.ireturn, 1) := fx_dat dk_Law_law_5 76 rfl
theorem d_Law_law_798 : decode code 798 = .ok (.iload 5, 2) := fx_dat dk_Law_law_5 77 rfl
theorem d_Law_law_800 : decode code 800 = .ok (.ifCond .ne 15, 3) := fx_dat dk_Law_law_5 78 rfl
theorem d_Law_law_803 : decode code 803 = .ok (.aload_n 3, 1) := fx_dat dk_Law_law_5 79 rfl
def dl_Law_law_6 : List (Nat × Instr × Nat) := [(804, .iconst 0, 1), (805, .laload, 1), (806, .iload 6, 2), (808, .i2l, 1), (809, .lcmp, 1), (810, .ifCond .eq 5, 3), (813, .iconst 0, 1), (814, .ireturn, 1), (815, .goto 196, 3), (818, .aload_n 1, 1), (819, .aload_n 3, 1), (820, .invokestatic 112, 3), (823, .istore 5, 2), (825, .aload_n 2, 1), (826, .invokevirtual 114, 3), (829, .istore 6, 2), (831, .aload_n 2, 1), (832, .invokevirtual 74, 3), (835, .iload 5, 2), (837, .if_icmp .eq 5, 3), (840, .iconst 0, 1), (841, .ireturn, 1), (842, .iload 5, 2), (844, .ifCond .ne 15, 3), (847, .aload_n 3, 1), (848, .iconst 0, 1), (849, .laload, 1), (850, .iload 6, 2), (852, .i2l, 1), (853, .lcmp, 1), (854, .ifCond .eq 5, 3), (857, .iconst 0, 1), (858, .ireturn, 1), (859, .goto 152, 3), (862, .aload_n 1, 1), (863, .aload_n 0, 1), (864, .iload 4, 2), (866, .iconst 1, 1), (867, .iadd, 1), (868, .iaload, 1), (869, .aload_n 0, 1), (870, .iload 4, 2), (872, .iconst 2, 1), (873, .iadd, 1), (874, .iaload, 1), (875, .aload_n 3, 1), (876, .invokestatic 115, 3), (879, .istore 5, 2), (881, .aload_n 2, 1), (882, .aload_n 0, 1), (883, .iload 4, 2), (885, .iconst 1, 1), (886, .iadd, 1), (887, .iaload, 1), (888, .aload_n 0, 1), (889, .iload 4, 2), (891, .iconst 2, 1), (892, .iadd, 1), (893, .iaload, 1), (894, .invokevirtual 117, 3), (897, .istore 6, 2), (899, .aload_n 2, 1), (900, .invokevirtual 74, 3), (903, .iload 5, 2), (905, .if_icmp .eq 5, 3), (908, .iconst 0, 1), (909, .ireturn, 1), (910, .iload 5, 2), (912, .ifCond .ne 15, 3), (915, .aload_n 3, 1), (916, .iconst 0, 1), (917, .laload, 1), (918, .iload 6, 2), (920, .i2l, 1), (921, .lcmp, 1), (922, .ifCond .eq 5, 3), (925, .iconst 0, 1), (926, .ireturn, 1), (927, .goto 84, 3), (930, .aload_n 1, 1)]
theorem dk_Law_law_6 : fx_dec code dl_Law_law_6 = true := by decide +kernel
theorem d_Law_law_804 : decode code 804 = .ok (.iconst 0, 1) := fx_dat dk_Law_law_6 0 rfl
theorem d_Law_law_805 : decode code 805 = .ok (.laload, 1) := fx_dat dk_Law_law_6 1 rfl
theorem d_Law_law_806 : decode code 806 = .ok (.iload 6, 2) := fx_dat dk_Law_law_6 2 rfl
theorem d_Law_law_808 : decode code 808 = .ok (.i2l, 1) := fx_dat dk_Law_law_6 3 rfl
theorem d_Law_law_809 : decode code 809 = .ok (.lcmp, 1) := fx_dat dk_Law_law_6 4 rfl
theorem d_Law_law_810 : decode code 810 = .ok (.ifCond .eq 5, 3) := fx_dat dk_Law_law_6 5 rfl
theorem d_Law_law_813 : decode code 813 = .ok (.iconst 0, 1) := fx_dat dk_Law_law_6 6 rfl
theorem d_Law_law_814 : decode code 814 = .ok (.ireturn, 1) := fx_dat dk_Law_law_6 7 rfl
theorem d_Law_law_815 : decode code 815 = .ok (.goto 196, 3) := fx_dat dk_Law_law_6 8 rfl
theorem d_Law_law_818 : decode code 818 = .ok (.aload_n 1, 1) := fx_dat dk_Law_law_6 9 rfl
theorem d_Law_law_819 : decode code 819 = .ok (.aload_n 3, 1) := fx_dat dk_Law_law_6 10 rfl
theorem d_Law_law_820 : decode code 820 = .ok (.invokestatic 112, 3) := fx_dat dk_Law_law_6 11 rfl
theorem d_Law_law_823 : decode code 823 = .ok (.istore 5, 2) := fx_dat dk_Law_law_6 12 rfl
theorem d_Law_law_825 : decode code 825 = .ok (.aload_n 2, 1) := fx_dat dk_Law_law_6 13 rfl
theorem d_Law_law_826 : decode code 826 = .ok (.invokevirtual 114, 3) := fx_dat dk_Law_law_6 14 rfl
theorem d_Law_law_829 : decode code 829 = .ok (.istore 6, 2) := fx_dat dk_Law_law_6 15 rfl
theorem d_Law_law_831 : decode code 831 = .ok (.aload_n 2, 1) := fx_dat dk_Law_law_6 16 rfl
theorem d_Law_law_832 : decode code 832 = .ok (.invokevirtual 74, 3) := fx_dat dk_Law_law_6 17 rfl
theorem d_Law_law_835 : decode code 835 = .ok (.iload 5, 2) := fx_dat dk_Law_law_6 18 rfl
theorem d_Law_law_837 : decode code 837 = .ok (.if_icmp .eq 5, 3) := fx_dat dk_Law_law_6 19 rfl
theorem d_Law_law_840 : decode code 840 = .ok (.iconst 0, 1) := fx_dat dk_Law_law_6 20 rfl
theorem d_Law_law_841 : decode code 841 = .ok (.ireturn, 1) := fx_dat dk_Law_law_6 21 rfl
theorem d_Law_law_842 : decode code 842 = .ok (.iload 5, 2) := fx_dat dk_Law_law_6 22 rfl
theorem d_Law_law_844 : decode code 844 = .ok (.ifCond .ne 15, 3) := fx_dat dk_Law_law_6 23 rfl
theorem d_Law_law_847 : decode code 847 = .ok (.aload_n 3, 1) := fx_dat dk_Law_law_6 24 rfl
theorem d_Law_law_848 : decode code 848 = .ok (.iconst 0, 1) := fx_dat dk_Law_law_6 25 rfl
theorem d_Law_law_849 : decode code 849 = .ok (.laload, 1) := fx_dat dk_Law_law_6 26 rfl
theorem d_Law_law_850 : decode code 850 = .ok (.iload 6, 2) := fx_dat dk_Law_law_6 27 rfl
theorem d_Law_law_852 : decode code 852 = .ok (.i2l, 1) := fx_dat dk_Law_law_6 28 rfl
theorem d_Law_law_853 : decode code 853 = .ok (.lcmp, 1) := fx_dat dk_Law_law_6 29 rfl
theorem d_Law_law_854 : decode code 854 = .ok (.ifCond .eq 5, 3) := fx_dat dk_Law_law_6 30 rfl
theorem d_Law_law_857 : decode code 857 = .ok (.iconst 0, 1) := fx_dat dk_Law_law_6 31 rfl
theorem d_Law_law_858 : decode code 858 = .ok (.ireturn, 1) := fx_dat dk_Law_law_6 32 rfl
theorem d_Law_law_859 : decode code 859 = .ok (.goto 152, 3) := fx_dat dk_Law_law_6 33 rfl
theorem d_Law_law_862 : decode code 862 = .ok (.aload_n 1, 1) := fx_dat dk_Law_law_6 34 rfl
theorem d_Law_law_863 : decode code 863 = .ok (.aload_n 0, 1) := fx_dat dk_Law_law_6 35 rfl
theorem d_Law_law_864 : decode code 864 = .ok (.iload 4, 2) := fx_dat dk_Law_law_6 36 rfl
theorem d_Law_law_866 : decode code 866 = .ok (.iconst 1, 1) := fx_dat dk_Law_law_6 37 rfl
theorem d_Law_law_867 : decode code 867 = .ok (.iadd, 1) := fx_dat dk_Law_law_6 38 rfl
theorem d_Law_law_868 : decode code 868 = .ok (.iaload, 1) := fx_dat dk_Law_law_6 39 rfl
theorem d_Law_law_869 : decode code 869 = .ok (.aload_n 0, 1) := fx_dat dk_Law_law_6 40 rfl
theorem d_Law_law_870 : decode code 870 = .ok (.iload 4, 2) := fx_dat dk_Law_law_6 41 rfl
theorem d_Law_law_872 : decode code 872 = .ok (.iconst 2, 1) := fx_dat dk_Law_law_6 42 rfl
theorem d_Law_law_873 : decode code 873 = .ok (.iadd, 1) := fx_dat dk_Law_law_6 43 rfl
theorem d_Law_law_874 : decode code 874 = .ok (.iaload, 1) := fx_dat dk_Law_law_6 44 rfl
theorem d_Law_law_875 : decode code 875 = .ok (.aload_n 3, 1) := fx_dat dk_Law_law_6 45 rfl
theorem d_Law_law_876 : decode code 876 = .ok (.invokestatic 115, 3) := fx_dat dk_Law_law_6 46 rfl
theorem d_Law_law_879 : decode code 879 = .ok (.istore 5, 2) := fx_dat dk_Law_law_6 47 rfl
theorem d_Law_law_881 : decode code 881 = .ok (.aload_n 2, 1) := fx_dat dk_Law_law_6 48 rfl
theorem d_Law_law_882 : decode code 882 = .ok (.aload_n 0, 1) := fx_dat dk_Law_law_6 49 rfl
theorem d_Law_law_883 : decode code 883 = .ok (.iload 4, 2) := fx_dat dk_Law_law_6 50 rfl
theorem d_Law_law_885 : decode code 885 = .ok (.iconst 1, 1) := fx_dat dk_Law_law_6 51 rfl
theorem d_Law_law_886 : decode code 886 = .ok (.iadd, 1) := fx_dat dk_Law_law_6 52 rfl
theorem d_Law_law_887 : decode code 887 = .ok (.iaload, 1) := fx_dat dk_Law_law_6 53 rfl
theorem d_Law_law_888 : decode code 888 = .ok (.aload_n 0, 1) := fx_dat dk_Law_law_6 54 rfl
theorem d_Law_law_889 : decode code 889 = .ok (.iload 4, 2) := fx_dat dk_Law_law_6 55 rfl
theorem d_Law_law_891 : decode code 891 = .ok (.iconst 2, 1) := fx_dat dk_Law_law_6 56 rfl
theorem d_Law_law_892 : decode code 892 = .ok (.iadd, 1) := fx_dat dk_Law_law_6 57 rfl
theorem d_Law_law_893 : decode code 893 = .ok (.iaload, 1) := fx_dat dk_Law_law_6 58 rfl
theorem d_Law_law_894 : decode code 894 = .ok (.invokevirtual 117, 3) := fx_dat dk_Law_law_6 59 rfl
theorem d_Law_law_897 : decode code 897 = .ok (.istore 6, 2) := fx_dat dk_Law_law_6 60 rfl
theorem d_Law_law_899 : decode code 899 = .ok (.aload_n 2, 1) := fx_dat dk_Law_law_6 61 rfl
theorem d_Law_law_900 : decode code 900 = .ok (.invokevirtual 74, 3) := fx_dat dk_Law_law_6 62 rfl
theorem d_Law_law_903 : decode code 903 = .ok (.iload 5, 2) := fx_dat dk_Law_law_6 63 rfl
theorem d_Law_law_905 : decode code 905 = .ok (.if_icmp .eq 5, 3) := fx_dat dk_Law_law_6 64 rfl
theorem d_Law_law_908 : decode code 908 = .ok (.iconst 0, 1) := fx_dat dk_Law_law_6 65 rfl
theorem d_Law_law_909 : decode code 909 = .ok (.ireturn, 1) := fx_dat dk_Law_law_6 66 rfl
theorem d_Law_law_910 : decode code 910 = .ok (.iload 5, 2) := fx_dat dk_Law_law_6 67 rfl
theorem d_Law_law_912 : decode code 912 = .ok (.ifCond .ne 15, 3) := fx_dat dk_Law_law_6 68 rfl
theorem d_Law_law_915 : decode code 915 = .ok (.aload_n 3, 1) := fx_dat dk_Law_law_6 69 rfl
theorem d_Law_law_916 : decode code 916 = .ok (.iconst 0, 1) := fx_dat dk_Law_law_6 70 rfl
theorem d_Law_law_917 : decode code 917 = .ok (.laload, 1) := fx_dat dk_Law_law_6 71 rfl
theorem d_Law_law_918 : decode code 918 = .ok (.iload 6, 2) := fx_dat dk_Law_law_6 72 rfl
theorem d_Law_law_920 : decode code 920 = .ok (.i2l, 1) := fx_dat dk_Law_law_6 73 rfl
theorem d_Law_law_921 : decode code 921 = .ok (.lcmp, 1) := fx_dat dk_Law_law_6 74 rfl
theorem d_Law_law_922 : decode code 922 = .ok (.ifCond .eq 5, 3) := fx_dat dk_Law_law_6 75 rfl
theorem d_Law_law_925 : decode code 925 = .ok (.iconst 0, 1) := fx_dat dk_Law_law_6 76 rfl
theorem d_Law_law_926 : decode code 926 = .ok (.ireturn, 1) := fx_dat dk_Law_law_6 77 rfl
theorem d_Law_law_927 : decode code 927 = .ok (.goto 84, 3) := fx_dat dk_Law_law_6 78 rfl
theorem d_Law_law_930 : decode code 930 = .ok (.aload_n 1, 1) := fx_dat dk_Law_law_6 79 rfl
def dl_Law_law_7 : List (Nat × Instr × Nat) := [(931, .aload_n 0, 1), (932, .iload 4, 2), (934, .iconst 1, 1), (935, .iadd, 1), (936, .iaload, 1), (937, .aload_n 3, 1), (938, .invokestatic 118, 3), (941, .istore 5, 2), (943, .aload_n 2, 1), (944, .aload_n 0, 1), (945, .iload 4, 2), (947, .iconst 1, 1), (948, .iadd, 1), (949, .iaload, 1), (950, .invokevirtual 120, 3), (953, .istore 6, 2), (955, .aload_n 2, 1), (956, .invokevirtual 74, 3), (959, .iload 5, 2), (961, .if_icmp .eq 5, 3), (964, .iconst 0, 1), (965, .ireturn, 1), (966, .iload 5, 2), (968, .ifCond .ne 15, 3), (971, .aload_n 3, 1), (972, .iconst 0, 1), (973, .laload, 1), (974, .iload 6, 2), (976, .i2l, 1), (977, .lcmp, 1), (978, .ifCond .eq 5, 3), (981, .iconst 0, 1), (982, .ireturn, 1), (983, .goto 28, 3), (986, .aload_n 1, 1), (987, .aload_n 0, 1), (988, .iload 4, 2), (990, .iconst 1, 1), (991, .iadd, 1), (992, .iaload, 1), (993, .invokevirtual 121, 3), (996, .aload_n 2, 1), (997, .aload_n 0, 1), (998, .iload 4, 2), (1000, .iconst 1, 1), (1001, .iadd, 1), (1002, .iaload, 1), (1003, .invokevirtual 124, 3), (1006, .if_icmp .eq 5, 3), (1009, .iconst 0, 1), (1010, .ireturn, 1), (1011, .iinc 4 6, 3), (1014, .goto (-991), 3), (1017, .iconst 1, 1), (1018, .ireturn, 1)]
theorem dk_Law_law_7 : fx_dec code dl_Law_law_7 = true := by decide +kernel
theorem d_Law_law_931 : decode code 931 = .ok (.aload_n 0, 1) := fx_dat dk_Law_law_7 0 rfl
theorem d_Law_law_932 : decode code 932 = .ok (.iload 4, 2) := fx_dat dk_Law_law_7 1 rfl
theorem d_Law_law_934 : decode code 934 = .ok (.iconst 1, 1) := fx_dat dk_Law_law_7 2 rfl
theorem d_Law_law_935 : decode code 935 = .ok (.iadd, 1) := fx_dat dk_Law_law_7 3 rfl
theorem d_Law_law_936 : decode code 936 = .ok (.iaload, 1) := fx_dat dk_Law_law_7 4 rfl
theorem d_Law_law_937 : decode code 937 = .ok (.aload_n 3, 1) := fx_dat dk_Law_law_7 5 rfl
theorem d_Law_law_938 : decode code 938 = .ok (.invokestatic 118, 3) := fx_dat dk_Law_law_7 6 rfl
theorem d_Law_law_941 : decode code 941 = .ok (.istore 5, 2) := fx_dat dk_Law_law_7 7 rfl
theorem d_Law_law_943 : decode code 943 = .ok (.aload_n 2, 1) := fx_dat dk_Law_law_7 8 rfl
theorem d_Law_law_944 : decode code 944 = .ok (.aload_n 0, 1) := fx_dat dk_Law_law_7 9 rfl
theorem d_Law_law_945 : decode code 945 = .ok (.iload 4, 2) := fx_dat dk_Law_law_7 10 rfl
theorem d_Law_law_947 : decode code 947 = .ok (.iconst 1, 1) := fx_dat dk_Law_law_7 11 rfl
theorem d_Law_law_948 : decode code 948 = .ok (.iadd, 1) := fx_dat dk_Law_law_7 12 rfl
theorem d_Law_law_949 : decode code 949 = .ok (.iaload, 1) := fx_dat dk_Law_law_7 13 rfl
theorem d_Law_law_950 : decode code 950 = .ok (.invokevirtual 120, 3) := fx_dat dk_Law_law_7 14 rfl
theorem d_Law_law_953 : decode code 953 = .ok (.istore 6, 2) := fx_dat dk_Law_law_7 15 rfl
theorem d_Law_law_955 : decode code 955 = .ok (.aload_n 2, 1) := fx_dat dk_Law_law_7 16 rfl
theorem d_Law_law_956 : decode code 956 = .ok (.invokevirtual 74, 3) := fx_dat dk_Law_law_7 17 rfl
theorem d_Law_law_959 : decode code 959 = .ok (.iload 5, 2) := fx_dat dk_Law_law_7 18 rfl
theorem d_Law_law_961 : decode code 961 = .ok (.if_icmp .eq 5, 3) := fx_dat dk_Law_law_7 19 rfl
theorem d_Law_law_964 : decode code 964 = .ok (.iconst 0, 1) := fx_dat dk_Law_law_7 20 rfl
theorem d_Law_law_965 : decode code 965 = .ok (.ireturn, 1) := fx_dat dk_Law_law_7 21 rfl
theorem d_Law_law_966 : decode code 966 = .ok (.iload 5, 2) := fx_dat dk_Law_law_7 22 rfl
theorem d_Law_law_968 : decode code 968 = .ok (.ifCond .ne 15, 3) := fx_dat dk_Law_law_7 23 rfl
theorem d_Law_law_971 : decode code 971 = .ok (.aload_n 3, 1) := fx_dat dk_Law_law_7 24 rfl
theorem d_Law_law_972 : decode code 972 = .ok (.iconst 0, 1) := fx_dat dk_Law_law_7 25 rfl
theorem d_Law_law_973 : decode code 973 = .ok (.laload, 1) := fx_dat dk_Law_law_7 26 rfl
theorem d_Law_law_974 : decode code 974 = .ok (.iload 6, 2) := fx_dat dk_Law_law_7 27 rfl
theorem d_Law_law_976 : decode code 976 = .ok (.i2l, 1) := fx_dat dk_Law_law_7 28 rfl
theorem d_Law_law_977 : decode code 977 = .ok (.lcmp, 1) := fx_dat dk_Law_law_7 29 rfl
theorem d_Law_law_978 : decode code 978 = .ok (.ifCond .eq 5, 3) := fx_dat dk_Law_law_7 30 rfl
theorem d_Law_law_981 : decode code 981 = .ok (.iconst 0, 1) := fx_dat dk_Law_law_7 31 rfl
theorem d_Law_law_982 : decode code 982 = .ok (.ireturn, 1) := fx_dat dk_Law_law_7 32 rfl
theorem d_Law_law_983 : decode code 983 = .ok (.goto 28, 3) := fx_dat dk_Law_law_7 33 rfl
theorem d_Law_law_986 : decode code 986 = .ok (.aload_n 1, 1) := fx_dat dk_Law_law_7 34 rfl
theorem d_Law_law_987 : decode code 987 = .ok (.aload_n 0, 1) := fx_dat dk_Law_law_7 35 rfl
theorem d_Law_law_988 : decode code 988 = .ok (.iload 4, 2) := fx_dat dk_Law_law_7 36 rfl
theorem d_Law_law_990 : decode code 990 = .ok (.iconst 1, 1) := fx_dat dk_Law_law_7 37 rfl
theorem d_Law_law_991 : decode code 991 = .ok (.iadd, 1) := fx_dat dk_Law_law_7 38 rfl
theorem d_Law_law_992 : decode code 992 = .ok (.iaload, 1) := fx_dat dk_Law_law_7 39 rfl
theorem d_Law_law_993 : decode code 993 = .ok (.invokevirtual 121, 3) := fx_dat dk_Law_law_7 40 rfl
theorem d_Law_law_996 : decode code 996 = .ok (.aload_n 2, 1) := fx_dat dk_Law_law_7 41 rfl
theorem d_Law_law_997 : decode code 997 = .ok (.aload_n 0, 1) := fx_dat dk_Law_law_7 42 rfl
theorem d_Law_law_998 : decode code 998 = .ok (.iload 4, 2) := fx_dat dk_Law_law_7 43 rfl
theorem d_Law_law_1000 : decode code 1000 = .ok (.iconst 1, 1) := fx_dat dk_Law_law_7 44 rfl
theorem d_Law_law_1001 : decode code 1001 = .ok (.iadd, 1) := fx_dat dk_Law_law_7 45 rfl
theorem d_Law_law_1002 : decode code 1002 = .ok (.iaload, 1) := fx_dat dk_Law_law_7 46 rfl
theorem d_Law_law_1003 : decode code 1003 = .ok (.invokevirtual 124, 3) := fx_dat dk_Law_law_7 47 rfl
theorem d_Law_law_1006 : decode code 1006 = .ok (.if_icmp .eq 5, 3) := fx_dat dk_Law_law_7 48 rfl
theorem d_Law_law_1009 : decode code 1009 = .ok (.iconst 0, 1) := fx_dat dk_Law_law_7 49 rfl
theorem d_Law_law_1010 : decode code 1010 = .ok (.ireturn, 1) := fx_dat dk_Law_law_7 50 rfl
theorem d_Law_law_1011 : decode code 1011 = .ok (.iinc 4 6, 3) := fx_dat dk_Law_law_7 51 rfl
theorem d_Law_law_1014 : decode code 1014 = .ok (.goto (-991), 3) := fx_dat dk_Law_law_7 52 rfl
theorem d_Law_law_1017 : decode code 1017 = .ok (.iconst 1, 1) := fx_dat dk_Law_law_7 53 rfl
theorem d_Law_law_1018 : decode code 1018 = .ok (.ireturn, 1) := fx_dat dk_Law_law_7 54 rfl
def m_Law_law_1011 (Q : Int32 → AH → Prop) (X23 : Int32 × AH → Prop) (r0 : Nat) (r1 : Nat) (r2 : Nat) (r3 : Nat) (x4 : Int32) (h : AH) : Prop := ∀ v1 : Int32, v1 = (x4 + (6 : Int32)) → X23 (v1, h)
def m_Law_law_217 (Q : Int32 → AH → Prop) (X23 : Int32 × AH → Prop) (r0 : Nat) (r1 : Nat) (r2 : Nat) (r3 : Nat) (x4 : Int32) (h : AH) : Prop := m_Law_law_1011 Q X23 r0 r1 r2 r3 x4 h
def m_Law_law_116 (Q : Int32 → AH → Prop) (X23 : Int32 × AH → Prop) (r0 : Nat) (r1 : Nat) (r2 : Nat) (r3 : Nat) (x4 : Int32) (h : AH) : Prop := ik (hp_k h r0) ∧ vp_in (x4 + (1 : Int32)) (hp_n h r0) ∧ vp_in (x4 + (2 : Int32)) (hp_n h r0) ∧ vp_in (x4 + (3 : Int32)) (hp_n h r0) ∧ vp_in (x4 + (4 : Int32)) (hp_n h r0) ∧ vp_in (x4 + (5 : Int32)) (hp_n h r0) ∧ m_Law_feed (fun v1 h1 => fx_ext h h1 → vp_in (x4 + (1 : Int32)) (hp_n h1 r0) ∧ vp_in (x4 + (2 : Int32)) (hp_n h1 r0) ∧ vp_in (x4 + (3 : Int32)) (hp_n h1 r0) ∧ vp_in (x4 + (4 : Int32)) (hp_n h1 r0) ∧ vp_in (x4 + (5 : Int32)) (hp_n h1 r0) ∧ hp_k h1 r2 = 13 ∧ m_M_feed (fun v2 h2 => fx_ext h1 h2 → m_M_thrown (fun v3 h3 => fx_ext h2 h3 → (v3 = v1 → (¬ v1 = 0 → m_Law_law_217 Q X23 r0 r1 r2 r3 x4 h3) ∧ (v1 = 0 → lk (hp_k h3 r3) ∧ vp_in (0 : Int32) (hp_n h3 r3) ∧ ((lg_cmp (hp_L h3 r3 (0 : Int32).toNatClampNeg) ((v2).toInt64)) = 0 → m_Law_law_217 Q X23 r0 r1 r2 r3 x4 h3) ∧ (¬ (lg_cmp (hp_L h3 r3 (0 : Int32).toNatClampNeg) ((v2).toInt64)) = 0 → Q (0 : Int32) h3))) ∧ (¬ v3 = v1 → Q (0 : Int32) h3)) r2 h2) r2 (hp_I h1 r0 ((x4 + (1 : Int32))).toNatClampNeg) (hp_I h1 r0 ((x4 + (2 : Int32))).toNatClampNeg) (hp_I h1 r0 ((x4 + (3 : Int32))).toNatClampNeg) (hp_I h1 r0 ((x4 + (4 : Int32))).toNatClampNeg) (hp_I h1 r0 ((x4 + (5 : Int32))).toNatClampNeg) h1) r1 (hp_I h r0 ((x4 + (1 : Int32))).toNatClampNeg) (hp_I h r0 ((x4 + (2 : Int32))).toNatClampNeg) (hp_I h r0 ((x4 + (3 : Int32))).toNatClampNeg) (hp_I h r0 ((x4 + (4 : Int32))).toNatClampNeg) (hp_I h r0 ((x4 + (5 : Int32))).toNatClampNeg) r3 h
def m_Law_law_273 (Q : Int32 → AH → Prop) (X23 : Int32 × AH → Prop) (r0 : Nat) (r1 : Nat) (r2 : Nat) (r3 : Nat) (x4 : Int32) (h : AH) : Prop := m_Law_law_1011 Q X23 r0 r1 r2 r3 x4 h
def m_Law_law_220 (Q : Int32 → AH → Prop) (X23 : Int32 × AH → Prop) (r0 : Nat) (r1 : Nat) (r2 : Nat) (r3 : Nat) (x4 : Int32) (h : AH) : Prop := ik (hp_k h r0) ∧ vp_in (x4 + (1 : Int32)) (hp_n h r0) ∧ m_Law_end (fun v1 h1 => fx_ext h h1 → vp_in (x4 + (1 : Int32)) (hp_n h1 r0) ∧ hp_k h1 r2 = 13 ∧ m_M_end (fun v2 h2 => fx_ext h1 h2 → m_M_thrown (fun v3 h3 => fx_ext h2 h3 → (v3 = v1 → (¬ v1 = 0 → m_Law_law_273 Q X23 r0 r1 r2 r3 x4 h3) ∧ (v1 = 0 → lk (hp_k h3 r3) ∧ vp_in (0 : Int32) (hp_n h3 r3) ∧ ((lg_cmp (hp_L h3 r3 (0 : Int32).toNatClampNeg) ((v2).toInt64)) = 0 → m_Law_law_273 Q X23 r0 r1 r2 r3 x4 h3) ∧ (¬ (lg_cmp (hp_L h3 r3 (0 : Int32).toNatClampNeg) ((v2).toInt64)) = 0 → Q (0 : Int32) h3))) ∧ (¬ v3 = v1 → Q (0 : Int32) h3)) r2 h2) r2 (hp_I h1 r0 ((x4 + (1 : Int32))).toNatClampNeg) h1) r1 (hp_I h r0 ((x4 + (1 : Int32))).toNatClampNeg) r3 h
def m_Law_law_317 (Q : Int32 → AH → Prop) (X23 : Int32 × AH → Prop) (r0 : Nat) (r1 : Nat) (r2 : Nat) (r3 : Nat) (x4 : Int32) (h : AH) : Prop := m_Law_law_1011 Q X23 r0 r1 r2 r3 x4 h
def m_Law_law_276 (Q : Int32 → AH → Prop) (X23 : Int32 × AH → Prop) (r0 : Nat) (r1 : Nat) (r2 : Nat) (r3 : Nat) (x4 : Int32) (h : AH) : Prop := m_Law_key (fun v1 h1 => fx_ext h h1 → hp_k h1 r2 = 13 ∧ m_M_key_ (fun v2 h2 => fx_ext h1 h2 → m_M_thrown (fun v3 h3 => fx_ext h2 h3 → (v3 = v1 → (¬ v1 = 0 → m_Law_law_317 Q X23 r0 r1 r2 r3 x4 h3) ∧ (v1 = 0 → lk (hp_k h3 r3) ∧ vp_in (0 : Int32) (hp_n h3 r3) ∧ ((lg_cmp (hp_L h3 r3 (0 : Int32).toNatClampNeg) ((v2).toInt64)) = 0 → m_Law_law_317 Q X23 r0 r1 r2 r3 x4 h3) ∧ (¬ (lg_cmp (hp_L h3 r3 (0 : Int32).toNatClampNeg) ((v2).toInt64)) = 0 → Q (0 : Int32) h3))) ∧ (¬ v3 = v1 → Q (0 : Int32) h3)) r2 h2) r2 h1) r1 r3 h
def m_Law_law_421 (Q : Int32 → AH → Prop) (X23 : Int32 × AH → Prop) (r0 : Nat) (r1 : Nat) (r2 : Nat) (r3 : Nat) (x4 : Int32) (h : AH) : Prop := m_Law_law_1011 Q X23 r0 r1 r2 r3 x4 h
def m_Law_law_320 (Q : Int32 → AH → Prop) (X23 : Int32 × AH → Prop) (r0 : Nat) (r1 : Nat) (r2 : Nat) (r3 : Nat) (x4 : Int32) (h : AH) : Prop := ik (hp_k h r0) ∧ vp_in (x4 + (1 : Int32)) (hp_n h r0) ∧ vp_in (x4 + (2 : Int32)) (hp_n h r0) ∧ vp_in (x4 + (3 : Int32)) (hp_n h r0) ∧ vp_in (x4 + (4 : Int32)) (hp_n h r0) ∧ vp_in (x4 + (5 : Int32)) (hp_n h r0) ∧ m_Law_issue (fun v1 h1 => fx_ext h h1 → vp_in (x4 + (1 : Int32)) (hp_n h1 r0) ∧ vp_in (x4 + (2 : Int32)) (hp_n h1 r0) ∧ vp_in (x4 + (3 : Int32)) (hp_n h1 r0) ∧ vp_in (x4 + (4 : Int32)) (hp_n h1 r0) ∧ vp_in (x4 + (5 : Int32)) (hp_n h1 r0) ∧ hp_k h1 r2 = 13 ∧ m_M_issue (fun v2 h2 => fx_ext h1 h2 → m_M_thrown (fun v3 h3 => fx_ext h2 h3 → (v3 = v1 → (¬ v1 = 0 → m_Law_law_421 Q X23 r0 r1 r2 r3 x4 h3) ∧ (v1 = 0 → lk (hp_k h3 r3) ∧ vp_in (0 : Int32) (hp_n h3 r3) ∧ ((lg_cmp (hp_L h3 r3 (0 : Int32).toNatClampNeg) ((v2).toInt64)) = 0 → m_Law_law_421 Q X23 r0 r1 r2 r3 x4 h3) ∧ (¬ (lg_cmp (hp_L h3 r3 (0 : Int32).toNatClampNeg) ((v2).toInt64)) = 0 → Q (0 : Int32) h3))) ∧ (¬ v3 = v1 → Q (0 : Int32) h3)) r2 h2) r2 (hp_I h1 r0 ((x4 + (1 : Int32))).toNatClampNeg) (hp_I h1 r0 ((x4 + (2 : Int32))).toNatClampNeg) (hp_I h1 r0 ((x4 + (3 : Int32))).toNatClampNeg) (hp_I h1 r0 ((x4 + (4 : Int32))).toNatClampNeg) (hp_I h1 r0 ((x4 + (5 : Int32))).toNatClampNeg) h1) r1 (hp_I h r0 ((x4 + (1 : Int32))).toNatClampNeg) (hp_I h r0 ((x4 + (2 : Int32))).toNatClampNeg) (hp_I h r0 ((x4 + (3 : Int32))).toNatClampNeg) (hp_I h r0 ((x4 + (4 : Int32))).toNatClampNeg) (hp_I h r0 ((x4 + (5 : Int32))).toNatClampNeg) r3 h
def m_Law_law_477 (Q : Int32 → AH → Prop) (X23 : Int32 × AH → Prop) (r0 : Nat) (r1 : Nat) (r2 : Nat) (r3 : Nat) (x4 : Int32) (h : AH) : Prop := m_Law_law_1011 Q X23 r0 r1 r2 r3 x4 h
def m_Law_law_424 (Q : Int32 → AH → Prop) (X23 : Int32 × AH → Prop) (r0 : Nat) (r1 : Nat) (r2 : Nat) (r3 : Nat) (x4 : Int32) (h : AH) : Prop := ik (hp_k h r0) ∧ vp_in (x4 + (1 : Int32)) (hp_n h r0) ∧ m_Law_take (fun v1 h1 => fx_ext h h1 → vp_in (x4 + (1 : Int32)) (hp_n h1 r0) ∧ hp_k h1 r2 = 13 ∧ m_M_take (fun v2 h2 => fx_ext h1 h2 → m_M_thrown (fun v3 h3 => fx_ext h2 h3 → (v3 = v1 → (¬ v1 = 0 → m_Law_law_477 Q X23 r0 r1 r2 r3 x4 h3) ∧ (v1 = 0 → lk (hp_k h3 r3) ∧ vp_in (0 : Int32) (hp_n h3 r3) ∧ ((lg_cmp (hp_L h3 r3 (0 : Int32).toNatClampNeg) ((v2).toInt64)) = 0 → m_Law_law_477 Q X23 r0 r1 r2 r3 x4 h3) ∧ (¬ (lg_cmp (hp_L h3 r3 (0 : Int32).toNatClampNeg) ((v2).toInt64)) = 0 → Q (0 : Int32) h3))) ∧ (¬ v3 = v1 → Q (0 : Int32) h3)) r2 h2) r2 (hp_I h1 r0 ((x4 + (1 : Int32))).toNatClampNeg) h1) r1 (hp_I h r0 ((x4 + (1 : Int32))).toNatClampNeg) r3 h
def m_Law_law_557 (Q : Int32 → AH → Prop) (X23 : Int32 × AH → Prop) (r0 : Nat) (r1 : Nat) (r2 : Nat) (r3 : Nat) (x4 : Int32) (h : AH) : Prop := m_Law_law_1011 Q X23 r0 r1 r2 r3 x4 h
def m_Law_law_480 (Q : Int32 → AH → Prop) (X23 : Int32 × AH → Prop) (r0 : Nat) (r1 : Nat) (r2 : Nat) (r3 : Nat) (x4 : Int32) (h : AH) : Prop := ik (hp_k h r0) ∧ vp_in (x4 + (1 : Int32)) (hp_n h r0) ∧ vp_in (x4 + (2 : Int32)) (hp_n h r0) ∧ vp_in (x4 + (3 : Int32)) (hp_n h r0) ∧ m_Law_alter (fun v1 h1 => fx_ext h h1 → vp_in (x4 + (1 : Int32)) (hp_n h1 r0) ∧ vp_in (x4 + (2 : Int32)) (hp_n h1 r0) ∧ vp_in (x4 + (3 : Int32)) (hp_n h1 r0) ∧ hp_k h1 r2 = 13 ∧ m_M_alter (fun v2 h2 => fx_ext h1 h2 → m_M_thrown (fun v3 h3 => fx_ext h2 h3 → (v3 = v1 → (¬ v1 = 0 → m_Law_law_557 Q X23 r0 r1 r2 r3 x4 h3) ∧ (v1 = 0 → lk (hp_k h3 r3) ∧ vp_in (0 : Int32) (hp_n h3 r3) ∧ ((lg_cmp (hp_L h3 r3 (0 : Int32).toNatClampNeg) ((v2).toInt64)) = 0 → m_Law_law_557 Q X23 r0 r1 r2 r3 x4 h3) ∧ (¬ (lg_cmp (hp_L h3 r3 (0 : Int32).toNatClampNeg) ((v2).toInt64)) = 0 → Q (0 : Int32) h3))) ∧ (¬ v3 = v1 → Q (0 : Int32) h3)) r2 h2) r2 (hp_I h1 r0 ((x4 + (1 : Int32))).toNatClampNeg) (hp_I h1 r0 ((x4 + (2 : Int32))).toNatClampNeg) (hp_I h1 r0 ((x4 + (3 : Int32))).toNatClampNeg) h1) r1 (hp_I h r0 ((x4 + (1 : Int32))).toNatClampNeg) (hp_I h r0 ((x4 + (2 : Int32))).toNatClampNeg) (hp_I h r0 ((x4 + (3 : Int32))).toNatClampNeg) r3 h
def m_Law_law_625 (Q : Int32 → AH → Prop) (X23 : Int32 × AH → Prop) (r0 : Nat) (r1 : Nat) (r2 : Nat) (r3 : Nat) (x4 : Int32) (h : AH) : Prop := m_Law_law_1011 Q X23 r0 r1 r2 r3 x4 h
def m_Law_law_560 (Q : Int32 → AH → Prop) (X23 : Int32 × AH → Prop) (r0 : Nat) (r1 : Nat) (r2 : Nat) (r3 : Nat) (x4 : Int32) (h : AH) : Prop := ik (hp_k h r0) ∧ vp_in (x4 + (1 : Int32)) (hp_n h r0) ∧ vp_in (x4 + (2 : Int32)) (hp_n h r0) ∧ m_Law_byteOf (fun v1 h1 => fx_ext h h1 → vp_in (x4 + (1 : Int32)) (hp_n h1 r0) ∧ vp_in (x4 + (2 : Int32)) (hp_n h1 r0) ∧ hp_k h1 r2 = 13 ∧ m_M_byteOf (fun v2 h2 => fx_ext h1 h2 → m_M_thrown (fun v3 h3 => fx_ext h2 h3 → (v3 = v1 → (¬ v1 = 0 → m_Law_law_625 Q X23 r0 r1 r2 r3 x4 h3) ∧ (v1 = 0 → lk (hp_k h3 r3) ∧ vp_in (0 : Int32) (hp_n h3 r3) ∧ ((lg_cmp (hp_L h3 r3 (0 : Int32).toNatClampNeg) ((v2).toInt64)) = 0 → m_Law_law_625 Q X23 r0 r1 r2 r3 x4 h3) ∧ (¬ (lg_cmp (hp_L h3 r3 (0 : Int32).toNatClampNeg) ((v2).toInt64)) = 0 → Q (0 : Int32) h3))) ∧ (¬ v3 = v1 → Q (0 : Int32) h3)) r2 h2) r2 (hp_I h1 r0 ((x4 + (1 : Int32))).toNatClampNeg) (hp_I h1 r0 ((x4 + (2 : Int32))).toNatClampNeg) h1) r1 (hp_I h r0 ((x4 + (1 : Int32))).toNatClampNeg) (hp_I h r0 ((x4 + (2 : Int32))).toNatClampNeg) r3 h
def m_Law_law_692 (Q : Int32 → AH → Prop) (X23 : Int32 × AH → Prop) (r0 : Nat) (r1 : Nat) (r2 : Nat) (r3 : Nat) (x4 : Int32) (h : AH) : Prop := m_Law_law_1011 Q X23 r0 r1 r2 r3 x4 h
def m_Law_law_628 (Q : Int32 → AH → Prop) (X23 : Int32 × AH → Prop) (r0 : Nat) (r1 : Nat) (r2 : Nat) (r3 : Nat) (x4 : Int32) (h : AH) : Prop := ik (hp_k h r0) ∧ vp_in (x4 + (1 : Int32)) (hp_n h r0) ∧ vp_in (x4 + (2 : Int32)) (hp_n h r0) ∧ m_Law_told (fun v1 h1 => fx_ext h h1 → vp_in (x4 + (1 : Int32)) (hp_n h1 r0) ∧ vp_in (x4 + (2 : Int32)) (hp_n h1 r0) ∧ hp_k h1 r2 = 13 ∧ m_M_told (fun u1 h2 => fx_ext h1 h2 → m_M_thrown (fun v2 h3 => fx_ext h2 h3 → (v2 = v1 → (¬ v1 = 0 → m_Law_law_692 Q X23 r0 r1 r2 r3 x4 h3) ∧ (v1 = 0 → lk (hp_k h3 r3) ∧ vp_in (0 : Int32) (hp_n h3 r3) ∧ ((lg_cmp (hp_L h3 r3 (0 : Int32).toNatClampNeg) u1) = 0 → m_Law_law_692 Q X23 r0 r1 r2 r3 x4 h3) ∧ (¬ (lg_cmp (hp_L h3 r3 (0 : Int32).toNatClampNeg) u1) = 0 → Q (0 : Int32) h3))) ∧ (¬ v2 = v1 → Q (0 : Int32) h3)) r2 h2) r2 (hp_I h1 r0 ((x4 + (1 : Int32))).toNatClampNeg) (hp_I h1 r0 ((x4 + (2 : Int32))).toNatClampNeg) h1) r1 (hp_I h r0 ((x4 + (1 : Int32))).toNatClampNeg) (hp_I h r0 ((x4 + (2 : Int32))).toNatClampNeg) r3 h
def m_Law_law_748 (Q : Int32 → AH → Prop) (X23 : Int32 × AH → Prop) (r0 : Nat) (r1 : Nat) (r2 : Nat) (r3 : Nat) (x4 : Int32) (h : AH) : Prop := m_Law_law_1011 Q X23 r0 r1 r2 r3 x4 h
def m_Law_law_695 (Q : Int32 → AH → Prop) (X23 : Int32 × AH → Prop) (r0 : Nat) (r1 : Nat) (r2 : Nat) (r3 : Nat) (x4 : Int32) (h : AH) : Prop := ik (hp_k h r0) ∧ vp_in (x4 + (1 : Int32)) (hp_n h r0) ∧ m_Law_add (fun v1 h1 => fx_ext h h1 → vp_in (x4 + (1 : Int32)) (hp_n h1 r0) ∧ hp_k h1 r2 = 13 ∧ m_M_add (fun v2 h2 => fx_ext h1 h2 → m_M_thrown (fun v3 h3 => fx_ext h2 h3 → (v3 = v1 → (¬ v1 = 0 → m_Law_law_748 Q X23 r0 r1 r2 r3 x4 h3) ∧ (v1 = 0 → lk (hp_k h3 r3) ∧ vp_in (0 : Int32) (hp_n h3 r3) ∧ ((lg_cmp (hp_L h3 r3 (0 : Int32).toNatClampNeg) ((v2).toInt64)) = 0 → m_Law_law_748 Q X23 r0 r1 r2 r3 x4 h3) ∧ (¬ (lg_cmp (hp_L h3 r3 (0 : Int32).toNatClampNeg) ((v2).toInt64)) = 0 → Q (0 : Int32) h3))) ∧ (¬ v3 = v1 → Q (0 : Int32) h3)) r2 h2) r2 (hp_I h1 r0 ((x4 + (1 : Int32))).toNatClampNeg) h1) r1 (hp_I h r0 ((x4 + (1 : Int32))).toNatClampNeg) r3 h
def m_Law_law_751 (Q : Int32 → AH → Prop) (X23 : Int32 × AH → Prop) (r0 : Nat) (r1 : Nat) (r2 : Nat) (r3 : Nat) (x4 : Int32) (h : AH) : Prop := hp_k h r1 = 1 ∧ m_J_clear (fun h1 => fx_ext h h1 → hp_k h1 r2 = 13 ∧ m_M_clear (fun h2 => fx_ext h1 h2 → m_Law_law_1011 Q X23 r0 r1 r2 r3 x4 h2) r2 h1) r1 h
def m_Law_law_815 (Q : Int32 → AH → Prop) (X23 : Int32 × AH → Prop) (r0 : Nat) (r1 : Nat) (r2 : Nat) (r3 : Nat) (x4 : Int32) (h : AH) : Prop := m_Law_law_1011 Q X23 r0 r1 r2 r3 x4 h
def m_Law_law_762 (Q : Int32 → AH → Prop) (X23 : Int32 × AH → Prop) (r0 : Nat) (r1 : Nat) (r2 : Nat) (r3 : Nat) (x4 : Int32) (h : AH) : Prop := ik (hp_k h r0) ∧ vp_in (x4 + (1 : Int32)) (hp_n h r0) ∧ m_Law_trust (fun v1 h1 => fx_ext h h1 → vp_in (x4 + (1 : Int32)) (hp_n h1 r0) ∧ hp_k h1 r2 = 13 ∧ m_M_trust (fun v2 h2 => fx_ext h1 h2 → m_M_thrown (fun v3 h3 => fx_ext h2 h3 → (v3 = v1 → (¬ v1 = 0 → m_Law_law_815 Q X23 r0 r1 r2 r3 x4 h3) ∧ (v1 = 0 → lk (hp_k h3 r3) ∧ vp_in (0 : Int32) (hp_n h3 r3) ∧ ((lg_cmp (hp_L h3 r3 (0 : Int32).toNatClampNeg) ((v2).toInt64)) = 0 → m_Law_law_815 Q X23 r0 r1 r2 r3 x4 h3) ∧ (¬ (lg_cmp (hp_L h3 r3 (0 : Int32).toNatClampNeg) ((v2).toInt64)) = 0 → Q (0 : Int32) h3))) ∧ (¬ v3 = v1 → Q (0 : Int32) h3)) r2 h2) r2 (hp_I h1 r0 ((x4 + (1 : Int32))).toNatClampNeg) h1) r1 (hp_I h r0 ((x4 + (1 : Int32))).toNatClampNeg) r3 h
def m_Law_law_859 (Q : Int32 → AH → Prop) (X23 : Int32 × AH → Prop) (r0 : Nat) (r1 : Nat) (r2 : Nat) (r3 : Nat) (x4 : Int32) (h : AH) : Prop := m_Law_law_1011 Q X23 r0 r1 r2 r3 x4 h
def m_Law_law_818 (Q : Int32 → AH → Prop) (X23 : Int32 × AH → Prop) (r0 : Nat) (r1 : Nat) (r2 : Nat) (r3 : Nat) (x4 : Int32) (h : AH) : Prop := m_Law_host (fun v1 h1 => fx_ext h h1 → hp_k h1 r2 = 13 ∧ m_M_host (fun v2 h2 => fx_ext h1 h2 → m_M_thrown (fun v3 h3 => fx_ext h2 h3 → (v3 = v1 → (¬ v1 = 0 → m_Law_law_859 Q X23 r0 r1 r2 r3 x4 h3) ∧ (v1 = 0 → lk (hp_k h3 r3) ∧ vp_in (0 : Int32) (hp_n h3 r3) ∧ ((lg_cmp (hp_L h3 r3 (0 : Int32).toNatClampNeg) ((v2).toInt64)) = 0 → m_Law_law_859 Q X23 r0 r1 r2 r3 x4 h3) ∧ (¬ (lg_cmp (hp_L h3 r3 (0 : Int32).toNatClampNeg) ((v2).toInt64)) = 0 → Q (0 : Int32) h3))) ∧ (¬ v3 = v1 → Q (0 : Int32) h3)) r2 h2) r2 h1) r1 r3 h
def m_Law_law_927 (Q : Int32 → AH → Prop) (X23 : Int32 × AH → Prop) (r0 : Nat) (r1 : Nat) (r2 : Nat) (r3 : Nat) (x4 : Int32) (h : AH) : Prop := m_Law_law_1011 Q X23 r0 r1 r2 r3 x4 h
def m_Law_law_862 (Q : Int32 → AH → Prop) (X23 : Int32 × AH → Prop) (r0 : Nat) (r1 : Nat) (r2 : Nat) (r3 : Nat) (x4 : Int32) (h : AH) : Prop := ik (hp_k h r0) ∧ vp_in (x4 + (1 : Int32)) (hp_n h r0) ∧ vp_in (x4 + (2 : Int32)) (hp_n h r0) ∧ m_Law_judge (fun v1 h1 => fx_ext h h1 → vp_in (x4 + (1 : Int32)) (hp_n h1 r0) ∧ vp_in (x4 + (2 : Int32)) (hp_n h1 r0) ∧ hp_k h1 r2 = 13 ∧ m_M_judge (fun v2 h2 => fx_ext h1 h2 → m_M_thrown (fun v3 h3 => fx_ext h2 h3 → (v3 = v1 → (¬ v1 = 0 → m_Law_law_927 Q X23 r0 r1 r2 r3 x4 h3) ∧ (v1 = 0 → lk (hp_k h3 r3) ∧ vp_in (0 : Int32) (hp_n h3 r3) ∧ ((lg_cmp (hp_L h3 r3 (0 : Int32).toNatClampNeg) ((v2).toInt64)) = 0 → m_Law_law_927 Q X23 r0 r1 r2 r3 x4 h3) ∧ (¬ (lg_cmp (hp_L h3 r3 (0 : Int32).toNatClampNeg) ((v2).toInt64)) = 0 → Q (0 : Int32) h3))) ∧ (¬ v3 = v1 → Q (0 : Int32) h3)) r2 h2) r2 (hp_I h1 r0 ((x4 + (1 : Int32))).toNatClampNeg) (hp_I h1 r0 ((x4 + (2 : Int32))).toNatClampNeg) h1) r1 (hp_I h r0 ((x4 + (1 : Int32))).toNatClampNeg) (hp_I h r0 ((x4 + (2 : Int32))).toNatClampNeg) r3 h
def m_Law_law_983 (Q : Int32 → AH → Prop) (X23 : Int32 × AH → Prop) (r0 : Nat) (r1 : Nat) (r2 : Nat) (r3 : Nat) (x4 : Int32) (h : AH) : Prop := m_Law_law_1011 Q X23 r0 r1 r2 r3 x4 h
def m_Law_law_930 (Q : Int32 → AH → Prop) (X23 : Int32 × AH → Prop) (r0 : Nat) (r1 : Nat) (r2 : Nat) (r3 : Nat) (x4 : Int32) (h : AH) : Prop := ik (hp_k h r0) ∧ vp_in (x4 + (1 : Int32)) (hp_n h r0) ∧ m_Law_path (fun v1 h1 => fx_ext h h1 → vp_in (x4 + (1 : Int32)) (hp_n h1 r0) ∧ hp_k h1 r2 = 13 ∧ m_M_path (fun v2 h2 => fx_ext h1 h2 → m_M_thrown (fun v3 h3 => fx_ext h2 h3 → (v3 = v1 → (¬ v1 = 0 → m_Law_law_983 Q X23 r0 r1 r2 r3 x4 h3) ∧ (v1 = 0 → lk (hp_k h3 r3) ∧ vp_in (0 : Int32) (hp_n h3 r3) ∧ ((lg_cmp (hp_L h3 r3 (0 : Int32).toNatClampNeg) ((v2).toInt64)) = 0 → m_Law_law_983 Q X23 r0 r1 r2 r3 x4 h3) ∧ (¬ (lg_cmp (hp_L h3 r3 (0 : Int32).toNatClampNeg) ((v2).toInt64)) = 0 → Q (0 : Int32) h3))) ∧ (¬ v3 = v1 → Q (0 : Int32) h3)) r2 h2) r2 (hp_I h1 r0 ((x4 + (1 : Int32))).toNatClampNeg) h1) r1 (hp_I h r0 ((x4 + (1 : Int32))).toNatClampNeg) r3 h
def m_Law_law_986 (Q : Int32 → AH → Prop) (X23 : Int32 × AH → Prop) (r0 : Nat) (r1 : Nat) (r2 : Nat) (r3 : Nat) (x4 : Int32) (h : AH) : Prop := ik (hp_k h r0) ∧ vp_in (x4 + (1 : Int32)) (hp_n h r0) ∧ hp_k h r1 = 1 ∧ m_J_count (fun v1 h1 => fx_ext h h1 → vp_in (x4 + (1 : Int32)) (hp_n h1 r0) ∧ hp_k h1 r2 = 13 ∧ m_M_count (fun v2 h2 => fx_ext h1 h2 → (v1 = v2 → m_Law_law_1011 Q X23 r0 r1 r2 r3 x4 h2) ∧ (¬ v1 = v2 → Q (0 : Int32) h2)) r2 (hp_I h1 r0 ((x4 + (1 : Int32))).toNatClampNeg) h1) r1 (hp_I h r0 ((x4 + (1 : Int32))).toNatClampNeg) h
def m_Law_law_23_b (Q : Int32 → AH → Prop) (X23 : Int32 × AH → Prop) (r0 : Nat) (r1 : Nat) (r2 : Nat) (r3 : Nat) (x4 : Int32) (h : AH) : Prop := ik (hp_k h r0) ∧ (((nI (hp_n h r0)) - (6 : Int32)) < x4 → Q (1 : Int32) h) ∧ (¬ ((nI (hp_n h r0)) - (6 : Int32)) < x4 → vp_in x4 (hp_n h r0) ∧ (((hp_I h r0 x4.toNatClampNeg) &&& (15 : Int32)) = (0 : Int32) → m_Law_law_116 Q X23 r0 r1 r2 r3 x4 h) ∧ (((hp_I h r0 x4.toNatClampNeg) &&& (15 : Int32)) = (1 : Int32) → m_Law_law_220 Q X23 r0 r1 r2 r3 x4 h) ∧ (((hp_I h r0 x4.toNatClampNeg) &&& (15 : Int32)) = (2 : Int32) → m_Law_law_276 Q X23 r0 r1 r2 r3 x4 h) ∧ (((hp_I h r0 x4.toNatClampNeg) &&& (15 : Int32)) = (3 : Int32) → m_Law_law_320 Q X23 r0 r1 r2 r3 x4 h) ∧ (((hp_I h r0 x4.toNatClampNeg) &&& (15 : Int32)) = (4 : Int32) → m_Law_law_424 Q X23 r0 r1 r2 r3 x4 h) ∧ (((hp_I h r0 x4.toNatClampNeg) &&& (15 : Int32)) = (5 : Int32) → m_Law_law_480 Q X23 r0 r1 r2 r3 x4 h) ∧ (((hp_I h r0 x4.toNatClampNeg) &&& (15 : Int32)) = (6 : Int32) → m_Law_law_560 Q X23 r0 r1 r2 r3 x4 h) ∧ (((hp_I h r0 x4.toNatClampNeg) &&& (15 : Int32)) = (7 : Int32) → m_Law_law_628 Q X23 r0 r1 r2 r3 x4 h) ∧ (((hp_I h r0 x4.toNatClampNeg) &&& (15 : Int32)) = (8 : Int32) → m_Law_law_695 Q X23 r0 r1 r2 r3 x4 h) ∧ (((hp_I h r0 x4.toNatClampNeg) &&& (15 : Int32)) = (9 : Int32) → m_Law_law_751 Q X23 r0 r1 r2 r3 x4 h) ∧ (((hp_I h r0 x4.toNatClampNeg) &&& (15 : Int32)) = (10 : Int32) → m_Law_law_762 Q X23 r0 r1 r2 r3 x4 h) ∧ (((hp_I h r0 x4.toNatClampNeg) &&& (15 : Int32)) = (11 : Int32) → m_Law_law_818 Q X23 r0 r1 r2 r3 x4 h) ∧ (((hp_I h r0 x4.toNatClampNeg) &&& (15 : Int32)) = (12 : Int32) → m_Law_law_862 Q X23 r0 r1 r2 r3 x4 h) ∧ (((hp_I h r0 x4.toNatClampNeg) &&& (15 : Int32)) = (13 : Int32) → m_Law_law_930 Q X23 r0 r1 r2 r3 x4 h) ∧ (((hp_I h r0 x4.toNatClampNeg) &&& (15 : Int32)) = (14 : Int32) → m_Law_law_986 Q X23 r0 r1 r2 r3 x4 h) ∧ ((∀ k ∈ ([(0 : Int32), (1 : Int32), (2 : Int32), (3 : Int32), (4 : Int32), (5 : Int32), (6 : Int32), (7 : Int32), (8 : Int32), (9 : Int32), (10 : Int32), (11 : Int32), (12 : Int32), (13 : Int32), (14 : Int32)] : List Int32), ¬ ((hp_I h r0 x4.toNatClampNeg) &&& (15 : Int32)) = k) → m_Law_law_1011 Q X23 r0 r1 r2 r3 x4 h))
def m_Law_law_23 (Q : Int32 → AH → Prop) (r0 : Nat) (r1 : Nat) (r2 : Nat) (r3 : Nat) (x4 : Int32) (h : AH) : Prop := fx_loop (fun (X23 : Int32 × AH → Prop) (st : Int32 × AH) => m_Law_law_23_b Q X23 r0 r1 r2 r3 st.1 st.2) (x4, h)
def m_Law_law (Q : Int32 → AH → Prop) (r0 : Nat) (h : AH) : Prop := fx_has h 16 ∧ ∀ (_ : fx_wf h) (q1 : Nat), q1 = hp_z h → ∀ h1 : AH, h1 = up_N h 1 0 16 → m_J_init (fun h2 => fx_ext h1 h2 → fx_has h2 57 ∧ ∀ (_ : fx_wf h2) (q2 : Nat), q2 = hp_z h2 → ∀ h3 : AH, h3 = up_N h2 13 0 57 → m_M_init (fun h4 => fx_ext h3 h4 → fx_has h4 1 ∧ ∀ (_ : fx_wf h4) (q3 : Nat), q3 = hp_z h4 → ∀ h5 : AH, h5 = up_N h4 103 1 1 → m_Law_law_23 Q r0 q1 q2 q3 (0 : Int32) h5) q2 h3) q1 h1
theorem b_Law_law_1011 {p : Program} {l : Launch} {e : Env} {R : Room} {s : State} {m : MethodId} {args : Array Value} {below : List Frame} {meth : Method} {c : Code} {D : DD} {h0 : AH} {Q : Int32 → AH → Prop} {X23 : Int32 × AH → Prop} (C : fx_CX D y_Law_law code 8 20 848 (Option.some FieldType.boolean) [] h0 p R s m meth c) (hl : l.flags = flags0) (r0 : Nat) (r1 : Nat) (r2 : Nat) (r3 : Nat) (x4 : Int32) (h : AH) (hX23 : ∀ st, X23 st → ∀ (ls : Array Slot) (H : Heap) (locs : List Loc) (cells slots : Nat), lv_has ls 8 [(0, .ref r0), (1, .ref r1), (2, .ref r2), (3, .ref r3), (4, .int st.1)] → fx_F D h0 st.2 H locs cells slots → W p l e R s m args below meth c H locs cells slots (fx_Z D below s h0 (fx_oZ Q fx_no)) (F0 m 23 ls [])) (hw : m_Law_law_1011 Q X23 r0 r1 r2 r3 x4 h) : ∀ (ls : Array Slot) (H : Heap) (locs : List Loc) (cells slots : Nat), lv_has ls 8 [(0, .ref r0), (1, .ref r1), (2, .ref r2), (3, .ref r3), (4, .int x4)] → fx_F D h0 h H locs cells slots → W p l e R s m args below meth c H locs cells slots (fx_Z D below s h0 (fx_oZ Q fx_no)) (F0 m 1011 ls []) := by
  unfold m_Law_law_1011 at hw
  intro ls H locs cells slots hv F
  let v1 : Int32 := (x4 + (6 : Int32))
  replace hw := hw v1 rfl
  refine lv_iinc (v := v1) (k := 4) (lv' := [(4, .int v1), (0, .ref r0), (1, .ref r1), (2, .ref r2), (3, .ref r3)]) C.ex C.by d_Law_law_1011 hv rfl (congrArg (fun z => x4 + z) (by decide)) (by decide) rfl (fun ls hv => ?_)
  refine lv_goto C.ex C.by d_Law_law_1014 rfl ?_
  exact hX23 _ hw _ _ _ _ _ (lv_sub hv [1, 2, 3, 4, 0] rfl) F
theorem b_Law_law_217 {p : Program} {l : Launch} {e : Env} {R : Room} {s : State} {m : MethodId} {args : Array Value} {below : List Frame} {meth : Method} {c : Code} {D : DD} {h0 : AH} {Q : Int32 → AH → Prop} {X23 : Int32 × AH → Prop} (C : fx_CX D y_Law_law code 8 20 848 (Option.some FieldType.boolean) [] h0 p R s m meth c) (hl : l.flags = flags0) (r0 : Nat) (r1 : Nat) (r2 : Nat) (r3 : Nat) (x4 : Int32) (h : AH) (hX23 : ∀ st, X23 st → ∀ (ls : Array Slot) (H : Heap) (locs : List Loc) (cells slots : Nat), lv_has ls 8 [(0, .ref r0), (1, .ref r1), (2, .ref r2), (3, .ref r3), (4, .int st.1)] → fx_F D h0 st.2 H locs cells slots → W p l e R s m args below meth c H locs cells slots (fx_Z D below s h0 (fx_oZ Q fx_no)) (F0 m 23 ls [])) (hw : m_Law_law_217 Q X23 r0 r1 r2 r3 x4 h) : ∀ (ls : Array Slot) (H : Heap) (locs : List Loc) (cells slots : Nat), lv_has ls 8 [(0, .ref r0), (1, .ref r1), (2, .ref r2), (3, .ref r3), (4, .int x4)] → fx_F D h0 h H locs cells slots → W p l e R s m args below meth c H locs cells slots (fx_Z D below s h0 (fx_oZ Q fx_no)) (F0 m 217 ls []) := by
  unfold m_Law_law_217 at hw
  intro ls H locs cells slots hv F
  refine lv_goto C.ex C.by d_Law_law_217 rfl ?_
  exact b_Law_law_1011 C hl _ _ _ _ _ _ hX23 hw _ _ _ _ _ hv F
theorem b_Law_law_116 {p : Program} {l : Launch} {e : Env} {R : Room} {s : State} {m : MethodId} {args : Array Value} {below : List Frame} {meth : Method} {c : Code} {D : DD} {h0 : AH} {Q : Int32 → AH → Prop} {X23 : Int32 × AH → Prop} (C : fx_CX D y_Law_law code 8 20 848 (Option.some FieldType.boolean) [] h0 p R s m meth c) (hl : l.flags = flags0) (r0 : Nat) (r1 : Nat) (r2 : Nat) (r3 : Nat) (x4 : Int32) (h : AH) (hX23 : ∀ st, X23 st → ∀ (ls : Array Slot) (H : Heap) (locs : List Loc) (cells slots : Nat), lv_has ls 8 [(0, .ref r0), (1, .ref r1), (2, .ref r2), (3, .ref r3), (4, .int st.1)] → fx_F D h0 st.2 H locs cells slots → W p l e R s m args below meth c H locs cells slots (fx_Z D below s h0 (fx_oZ Q fx_no)) (F0 m 23 ls [])) (hw : m_Law_law_116 Q X23 r0 r1 r2 r3 x4 h) : ∀ (ls : Array Slot) (H : Heap) (locs : List Loc) (cells slots : Nat), lv_has ls 8 [(0, .ref r0), (1, .ref r1), (2, .ref r2), (3, .ref r3), (4, .int x4)] → fx_F D h0 h H locs cells slots → W p l e R s m args below meth c H locs cells slots (fx_Z D below s h0 (fx_oZ Q fx_no)) (F0 m 116 ls []) := by
  unfold m_Law_law_116 at hw
  intro ls H locs cells slots hv F
  refine lv_aload_n C.ex C.by d_Law_law_116 rfl (lv_at hv 1 rfl) ?_
  refine lv_aload_n C.ex C.by d_Law_law_117 rfl (lv_at hv 0 rfl) ?_
  refine lv_iload C.ex C.by d_Law_law_118 (lv_at hv 4 rfl) ?_
  refine lv_iconst (v := (1 : Int32)) C.ex C.by d_Law_law_120 (by decide) ?_
  refine lv_iadd C.ex C.by d_Law_law_121 ?_
  obtain ⟨hk1, hw⟩ := hw
  obtain ⟨hi1, hw⟩ := hw
  refine fx_iald C F hk1 hi1 d_Law_law_122 ?_
  refine lv_aload_n C.ex C.by d_Law_law_123 rfl (lv_at hv 0 rfl) ?_
  refine lv_iload C.ex C.by d_Law_law_124 (lv_at hv 4 rfl) ?_
  refine lv_iconst (v := (2 : Int32)) C.ex C.by d_Law_law_126 (by decide) ?_
  refine lv_iadd C.ex C.by d_Law_law_127 ?_
  obtain ⟨hi2, hw⟩ := hw
  refine fx_iald C F hk1 hi2 d_Law_law_128 ?_
  refine lv_aload_n C.ex C.by d_Law_law_129 rfl (lv_at hv 0 rfl) ?_
  refine lv_iload C.ex C.by d_Law_law_130 (lv_at hv 4 rfl) ?_
  refine lv_iconst (v := (3 : Int32)) C.ex C.by d_Law_law_132 (by decide) ?_
  refine lv_iadd C.ex C.by d_Law_law_133 ?_
  obtain ⟨hi3, hw⟩ := hw
  refine fx_iald C F hk1 hi3 d_Law_law_134 ?_
  refine lv_aload_n C.ex C.by d_Law_law_135 rfl (lv_at hv 0 rfl) ?_
  refine lv_iload C.ex C.by d_Law_law_136 (lv_at hv 4 rfl) ?_
  refine lv_iconst (v := (4 : Int32)) C.ex C.by d_Law_law_138 (by decide) ?_
  refine lv_iadd C.ex C.by d_Law_law_139 ?_
  obtain ⟨hi4, hw⟩ := hw
  refine fx_iald C F hk1 hi4 d_Law_law_140 ?_
  refine lv_aload_n C.ex C.by d_Law_law_141 rfl (lv_at hv 0 rfl) ?_
  refine lv_iload C.ex C.by d_Law_law_142 (lv_at hv 4 rfl) ?_
  refine lv_iconst (v := (5 : Int32)) C.ex C.by d_Law_law_144 (by decide) ?_
  refine lv_iadd C.ex C.by d_Law_law_145 ?_
  obtain ⟨hi5, hw⟩ := hw
  refine fx_iald C F hk1 hi5 d_Law_law_146 ?_
  refine lv_aload_n C.ex C.by d_Law_law_147 rfl (lv_at hv 3 rfl) ?_
  refine fx_callI C F (c_Law_feed hl hw) hm_Law_feed hi_Law_feed hv.1 (by decide) (Nat.le_of_ble_eq_true rfl) (iv_Law_feed C F lm_Law_68 d_Law_law_148) (fx_out0 _) fx_eno (fun v1 h1 H locs cells slots hw hx1 F => ?_)
  replace hw := hw hx1
  have hk1 := (hx1).gi hk1
  refine lv_istore (lv' := [(5, .int v1), (0, .ref r0), (1, .ref r1), (2, .ref r2), (3, .ref r3), (4, .int x4)]) C.ex C.by d_Law_law_151 hv (by decide) rfl (fun ls hv => ?_)
  refine lv_aload_n C.ex C.by d_Law_law_153 rfl (lv_at hv 3 rfl) ?_
  refine lv_aload_n C.ex C.by d_Law_law_154 rfl (lv_at hv 1 rfl) ?_
  refine lv_iload C.ex C.by d_Law_law_155 (lv_at hv 5 rfl) ?_
  refine lv_iconst (v := (1 : Int32)) C.ex C.by d_Law_law_157 (by decide) ?_
  refine lv_iadd C.ex C.by d_Law_law_158 ?_
  obtain ⟨hi6, hw⟩ := hw
  refine fx_iald C F hk1 hi6 d_Law_law_159 ?_
  refine lv_aload_n C.ex C.by d_Law_law_160 rfl (lv_at hv 1 rfl) ?_
  refine lv_iload C.ex C.by d_Law_law_161 (lv_at hv 5 rfl) ?_
  refine lv_iconst (v := (2 : Int32)) C.ex C.by d_Law_law_163 (by decide) ?_
  refine lv_iadd C.ex C.by d_Law_law_164 ?_
  obtain ⟨hi7, hw⟩ := hw
  refine fx_iald C F hk1 hi7 d_Law_law_165 ?_
  refine lv_aload_n C.ex C.by d_Law_law_166 rfl (lv_at hv 1 rfl) ?_
  refine lv_iload C.ex C.by d_Law_law_167 (lv_at hv 5 rfl) ?_
  refine lv_iconst (v := (3 : Int32)) C.ex C.by d_Law_law_169 (by decide) ?_
  refine lv_iadd C.ex C.by d_Law_law_170 ?_
  obtain ⟨hi8, hw⟩ := hw
  refine fx_iald C F hk1 hi8 d_Law_law_171 ?_
  refine lv_aload_n C.ex C.by d_Law_law_172 rfl (lv_at hv 1 rfl) ?_
  refine lv_iload C.ex C.by d_Law_law_173 (lv_at hv 5 rfl) ?_
  refine lv_iconst (v := (4 : Int32)) C.ex C.by d_Law_law_175 (by decide) ?_
  refine lv_iadd C.ex C.by d_Law_law_176 ?_
  obtain ⟨hi9, hw⟩ := hw
  refine fx_iald C F hk1 hi9 d_Law_law_177 ?_
  refine lv_aload_n C.ex C.by d_Law_law_178 rfl (lv_at hv 1 rfl) ?_
  refine lv_iload C.ex C.by d_Law_law_179 (lv_at hv 5 rfl) ?_
  refine lv_iconst (v := (5 : Int32)) C.ex C.by d_Law_law_181 (by decide) ?_
  refine lv_iadd C.ex C.by d_Law_law_182 ?_
  obtain ⟨hi10, hw⟩ := hw
  refine fx_iald C F hk1 hi10 d_Law_law_183 ?_
  obtain ⟨hk2, hw⟩ := hw
  refine fx_callI C F (c_M_feed hl hw) hm_M_feed hi_M_feed hv.1 (by decide) (Nat.le_of_ble_eq_true rfl) (iv_M_feed C F lm_Law_73 hk2 d_Law_law_184) (fx_out0 _) fx_eno (fun v2 h2 H locs cells slots hw hx2 F => ?_)
  replace hw := hw hx2
  have hk1 := (hx2).gi hk1
  have hk2 := (hx2).k hk2
  refine lv_istore (lv' := [(6, .int v2), (5, .int v1), (0, .ref r0), (1, .ref r1), (2, .ref r2), (3, .ref r3), (4, .int x4)]) C.ex C.by d_Law_law_187 hv (by decide) rfl (fun ls hv => ?_)
  refine lv_aload_n C.ex C.by d_Law_law_189 rfl (lv_at hv 4 rfl) ?_
  refine fx_callI C F (c_M_thrown hl hw) hm_M_thrown hi_M_thrown hv.1 (by decide) (Nat.le_of_ble_eq_true rfl) (iv_M_thrown C F lm_Law_74 hk2 d_Law_law_190) (fx_out0 _) fx_eno (fun v3 h3 H locs cells slots hw hx3 F => ?_)
  replace hw := hw hx3
  have hk1 := (hx3).gi hk1
  have hk2 := (hx3).k hk2
  refine lv_iload C.ex C.by d_Law_law_193 (lv_at hv 1 rfl) ?_
  refine lv_icmp_eq C.ex C.by d_Law_law_195 rfl (fun hc => ?_) (fun hc => ?_)
  · replace hw := hw.1 hc
    refine lv_iload C.ex C.by d_Law_law_200 (lv_at hv 1 rfl) ?_
    refine lv_if_ne C.ex C.by d_Law_law_202 rfl (fun hc => ?_) (fun hc => ?_)
    · replace hw := hw.1 hc
      exact b_Law_law_217 C hl _ _ _ _ _ _ hX23 hw _ _ _ _ _ (lv_sub hv [2, 3, 4, 5, 6] rfl) F
    · replace hw := hw.2 hc
      refine lv_aload_n C.ex C.by d_Law_law_205 rfl (lv_at hv 5 rfl) ?_
      refine lv_iconst (v := (0 : Int32)) C.ex C.by d_Law_law_206 (by decide) ?_
      obtain ⟨hk3, hw⟩ := hw
      obtain ⟨hi11, hw⟩ := hw
      refine fx_lald C F hk3 hi11 d_Law_law_207 ?_
      refine lv_iload C.ex C.by d_Law_law_208 (lv_at hv 0 rfl) ?_
      refine lv_i2l (v := ((v2).toInt64)) C.ex C.by d_Law_law_210 rfl ?_
      refine W.lcmp C.ex C.by d_Law_law_211 ?_
      refine lv_if_eq C.ex C.by d_Law_law_212 rfl (fun hc => ?_) (fun hc => ?_)
      · replace hw := hw.1 hc
        exact b_Law_law_217 C hl _ _ _ _ _ _ hX23 hw _ _ _ _ _ (lv_sub hv [2, 3, 4, 5, 6] rfl) F
      · replace hw := hw.2 hc
        refine lv_iconst (v := (0 : Int32)) C.ex C.by d_Law_law_215 (by decide) ?_
        exact fx_zret C F d_Law_law_216 (Or.inl rfl) (Or.inl ⟨_, rfl, Or.inl rfl, hw⟩)
  · replace hw := hw.2 hc
    refine lv_iconst (v := (0 : Int32)) C.ex C.by d_Law_law_198 (by decide) ?_
    exact fx_zret C F d_Law_law_199 (Or.inl rfl) (Or.inl ⟨_, rfl, Or.inl rfl, hw⟩)
theorem b_Law_law_273 {p : Program} {l : Launch} {e : Env} {R : Room} {s : State} {m : MethodId} {args : Array Value} {below : List Frame} {meth : Method} {c : Code} {D : DD} {h0 : AH} {Q : Int32 → AH → Prop} {X23 : Int32 × AH → Prop} (C : fx_CX D y_Law_law code 8 20 848 (Option.some FieldType.boolean) [] h0 p R s m meth c) (hl : l.flags = flags0) (r0 : Nat) (r1 : Nat) (r2 : Nat) (r3 : Nat) (x4 : Int32) (h : AH) (hX23 : ∀ st, X23 st → ∀ (ls : Array Slot) (H : Heap) (locs : List Loc) (cells slots : Nat), lv_has ls 8 [(0, .ref r0), (1, .ref r1), (2, .ref r2), (3, .ref r3), (4, .int st.1)] → fx_F D h0 st.2 H locs cells slots → W p l e R s m args below meth c H locs cells slots (fx_Z D below s h0 (fx_oZ Q fx_no)) (F0 m 23 ls [])) (hw : m_Law_law_273 Q X23 r0 r1 r2 r3 x4 h) : ∀ (ls : Array Slot) (H : Heap) (locs : List Loc) (cells slots : Nat), lv_has ls 8 [(0, .ref r0), (1, .ref r1), (2, .ref r2), (3, .ref r3), (4, .int x4)] → fx_F D h0 h H locs cells slots → W p l e R s m args below meth c H locs cells slots (fx_Z D below s h0 (fx_oZ Q fx_no)) (F0 m 273 ls []) := by
  unfold m_Law_law_273 at hw
  intro ls H locs cells slots hv F
  refine lv_goto C.ex C.by d_Law_law_273 rfl ?_
  exact b_Law_law_1011 C hl _ _ _ _ _ _ hX23 hw _ _ _ _ _ hv F
theorem b_Law_law_220 {p : Program} {l : Launch} {e : Env} {R : Room} {s : State} {m : MethodId} {args : Array Value} {below : List Frame} {meth : Method} {c : Code} {D : DD} {h0 : AH} {Q : Int32 → AH → Prop} {X23 : Int32 × AH → Prop} (C : fx_CX D y_Law_law code 8 20 848 (Option.some FieldType.boolean) [] h0 p R s m meth c) (hl : l.flags = flags0) (r0 : Nat) (r1 : Nat) (r2 : Nat) (r3 : Nat) (x4 : Int32) (h : AH) (hX23 : ∀ st, X23 st → ∀ (ls : Array Slot) (H : Heap) (locs : List Loc) (cells slots : Nat), lv_has ls 8 [(0, .ref r0), (1, .ref r1), (2, .ref r2), (3, .ref r3), (4, .int st.1)] → fx_F D h0 st.2 H locs cells slots → W p l e R s m args below meth c H locs cells slots (fx_Z D below s h0 (fx_oZ Q fx_no)) (F0 m 23 ls [])) (hw : m_Law_law_220 Q X23 r0 r1 r2 r3 x4 h) : ∀ (ls : Array Slot) (H : Heap) (locs : List Loc) (cells slots : Nat), lv_has ls 8 [(0, .ref r0), (1, .ref r1), (2, .ref r2), (3, .ref r3), (4, .int x4)] → fx_F D h0 h H locs cells slots → W p l e R s m args below meth c H locs cells slots (fx_Z D below s h0 (fx_oZ Q fx_no)) (F0 m 220 ls []) := by
  unfold m_Law_law_220 at hw
  intro ls H locs cells slots hv F
  refine lv_aload_n C.ex C.by d_Law_law_220 rfl (lv_at hv 1 rfl) ?_
  refine lv_aload_n C.ex C.by d_Law_law_221 rfl (lv_at hv 0 rfl) ?_
  refine lv_iload C.ex C.by d_Law_law_222 (lv_at hv 4 rfl) ?_
  refine lv_iconst (v := (1 : Int32)) C.ex C.by d_Law_law_224 (by decide) ?_
  refine lv_iadd C.ex C.by d_Law_law_225 ?_
  obtain ⟨hk1, hw⟩ := hw
  obtain ⟨hi1, hw⟩ := hw
  refine fx_iald C F hk1 hi1 d_Law_law_226 ?_
  refine lv_aload_n C.ex C.by d_Law_law_227 rfl (lv_at hv 3 rfl) ?_
  refine fx_callI C F (c_Law_end hl hw) hm_Law_end hi_Law_end hv.1 (by decide) (Nat.le_of_ble_eq_true rfl) (iv_Law_end C F lm_Law_77 d_Law_law_228) (fx_out0 _) fx_eno (fun v1 h1 H locs cells slots hw hx1 F => ?_)
  replace hw := hw hx1
  have hk1 := (hx1).gi hk1
  refine lv_istore (lv' := [(5, .int v1), (0, .ref r0), (1, .ref r1), (2, .ref r2), (3, .ref r3), (4, .int x4)]) C.ex C.by d_Law_law_231 hv (by decide) rfl (fun ls hv => ?_)
  refine lv_aload_n C.ex C.by d_Law_law_233 rfl (lv_at hv 3 rfl) ?_
  refine lv_aload_n C.ex C.by d_Law_law_234 rfl (lv_at hv 1 rfl) ?_
  refine lv_iload C.ex C.by d_Law_law_235 (lv_at hv 5 rfl) ?_
  refine lv_iconst (v := (1 : Int32)) C.ex C.by d_Law_law_237 (by decide) ?_
  refine lv_iadd C.ex C.by d_Law_law_238 ?_
  obtain ⟨hi2, hw⟩ := hw
  refine fx_iald C F hk1 hi2 d_Law_law_239 ?_
  obtain ⟨hk2, hw⟩ := hw
  refine fx_callI C F (c_M_end hl hw) hm_M_end hi_M_end hv.1 (by decide) (Nat.le_of_ble_eq_true rfl) (iv_M_end C F lm_Law_80 hk2 d_Law_law_240) (fx_out0 _) fx_eno (fun v2 h2 H locs cells slots hw hx2 F => ?_)
  replace hw := hw hx2
  have hk1 := (hx2).gi hk1
  have hk2 := (hx2).k hk2
  refine lv_istore (lv' := [(6, .int v2), (5, .int v1), (0, .ref r0), (1, .ref r1), (2, .ref r2), (3, .ref r3), (4, .int x4)]) C.ex C.by d_Law_law_243 hv (by decide) rfl (fun ls hv => ?_)
  refine lv_aload_n C.ex C.by d_Law_law_245 rfl (lv_at hv 4 rfl) ?_
  refine fx_callI C F (c_M_thrown hl hw) hm_M_thrown hi_M_thrown hv.1 (by decide) (Nat.le_of_ble_eq_true rfl) (iv_M_thrown C F lm_Law_74 hk2 d_Law_law_246) (fx_out0 _) fx_eno (fun v3 h3 H locs cells slots hw hx3 F => ?_)
  replace hw := hw hx3
  have hk1 := (hx3).gi hk1
  have hk2 := (hx3).k hk2
  refine lv_iload C.ex C.by d_Law_law_249 (lv_at hv 1 rfl) ?_
  refine lv_icmp_eq C.ex C.by d_Law_law_251 rfl (fun hc => ?_) (fun hc => ?_)
  · replace hw := hw.1 hc
    refine lv_iload C.ex C.by d_Law_law_256 (lv_at hv 1 rfl) ?_
    refine lv_if_ne C.ex C.by d_Law_law_258 rfl (fun hc => ?_) (fun hc => ?_)
    · replace hw := hw.1 hc
      exact b_Law_law_273 C hl _ _ _ _ _ _ hX23 hw _ _ _ _ _ (lv_sub hv [2, 3, 4, 5, 6] rfl) F
    · replace hw := hw.2 hc
      refine lv_aload_n C.ex C.by d_Law_law_261 rfl (lv_at hv 5 rfl) ?_
      refine lv_iconst (v := (0 : Int32)) C.ex C.by d_Law_law_262 (by decide) ?_
      obtain ⟨hk3, hw⟩ := hw
      obtain ⟨hi3, hw⟩ := hw
      refine fx_lald C F hk3 hi3 d_Law_law_263 ?_
      refine lv_iload C.ex C.by d_Law_law_264 (lv_at hv 0 rfl) ?_
      refine lv_i2l (v := ((v2).toInt64)) C.ex C.by d_Law_law_266 rfl ?_
      refine W.lcmp C.ex C.by d_Law_law_267 ?_
      refine lv_if_eq C.ex C.by d_Law_law_268 rfl (fun hc => ?_) (fun hc => ?_)
      · replace hw := hw.1 hc
        exact b_Law_law_273 C hl _ _ _ _ _ _ hX23 hw _ _ _ _ _ (lv_sub hv [2, 3, 4, 5, 6] rfl) F
      · replace hw := hw.2 hc
        refine lv_iconst (v := (0 : Int32)) C.ex C.by d_Law_law_271 (by decide) ?_
        exact fx_zret C F d_Law_law_272 (Or.inl rfl) (Or.inl ⟨_, rfl, Or.inl rfl, hw⟩)
  · replace hw := hw.2 hc
    refine lv_iconst (v := (0 : Int32)) C.ex C.by d_Law_law_254 (by decide) ?_
    exact fx_zret C F d_Law_law_255 (Or.inl rfl) (Or.inl ⟨_, rfl, Or.inl rfl, hw⟩)
theorem b_Law_law_317 {p : Program} {l : Launch} {e : Env} {R : Room} {s : State} {m : MethodId} {args : Array Value} {below : List Frame} {meth : Method} {c : Code} {D : DD} {h0 : AH} {Q : Int32 → AH → Prop} {X23 : Int32 × AH → Prop} (C : fx_CX D y_Law_law code 8 20 848 (Option.some FieldType.boolean) [] h0 p R s m meth c) (hl : l.flags = flags0) (r0 : Nat) (r1 : Nat) (r2 : Nat) (r3 : Nat) (x4 : Int32) (h : AH) (hX23 : ∀ st, X23 st → ∀ (ls : Array Slot) (H : Heap) (locs : List Loc) (cells slots : Nat), lv_has ls 8 [(0, .ref r0), (1, .ref r1), (2, .ref r2), (3, .ref r3), (4, .int st.1)] → fx_F D h0 st.2 H locs cells slots → W p l e R s m args below meth c H locs cells slots (fx_Z D below s h0 (fx_oZ Q fx_no)) (F0 m 23 ls [])) (hw : m_Law_law_317 Q X23 r0 r1 r2 r3 x4 h) : ∀ (ls : Array Slot) (H : Heap) (locs : List Loc) (cells slots : Nat), lv_has ls 8 [(0, .ref r0), (1, .ref r1), (2, .ref r2), (3, .ref r3), (4, .int x4)] → fx_F D h0 h H locs cells slots → W p l e R s m args below meth c H locs cells slots (fx_Z D below s h0 (fx_oZ Q fx_no)) (F0 m 317 ls []) := by
  unfold m_Law_law_317 at hw
  intro ls H locs cells slots hv F
  refine lv_goto C.ex C.by d_Law_law_317 rfl ?_
  exact b_Law_law_1011 C hl _ _ _ _ _ _ hX23 hw _ _ _ _ _ hv F
theorem b_Law_law_276 {p : Program} {l : Launch} {e : Env} {R : Room} {s : State} {m : MethodId} {args : Array Value} {below : List Frame} {meth : Method} {c : Code} {D : DD} {h0 : AH} {Q : Int32 → AH → Prop} {X23 : Int32 × AH → Prop} (C : fx_CX D y_Law_law code 8 20 848 (Option.some FieldType.boolean) [] h0 p R s m meth c) (hl : l.flags = flags0) (r0 : Nat) (r1 : Nat) (r2 : Nat) (r3 : Nat) (x4 : Int32) (h : AH) (hX23 : ∀ st, X23 st → ∀ (ls : Array Slot) (H : Heap) (locs : List Loc) (cells slots : Nat), lv_has ls 8 [(0, .ref r0), (1, .ref r1), (2, .ref r2), (3, .ref r3), (4, .int st.1)] → fx_F D h0 st.2 H locs cells slots → W p l e R s m args below meth c H locs cells slots (fx_Z D below s h0 (fx_oZ Q fx_no)) (F0 m 23 ls [])) (hw : m_Law_law_276 Q X23 r0 r1 r2 r3 x4 h) : ∀ (ls : Array Slot) (H : Heap) (locs : List Loc) (cells slots : Nat), lv_has ls 8 [(0, .ref r0), (1, .ref r1), (2, .ref r2), (3, .ref r3), (4, .int x4)] → fx_F D h0 h H locs cells slots → W p l e R s m args below meth c H locs cells slots (fx_Z D below s h0 (fx_oZ Q fx_no)) (F0 m 276 ls []) := by
  unfold m_Law_law_276 at hw
  intro ls H locs cells slots hv F
  refine lv_aload_n C.ex C.by d_Law_law_276 rfl (lv_at hv 1 rfl) ?_
  refine lv_aload_n C.ex C.by d_Law_law_277 rfl (lv_at hv 3 rfl) ?_
  refine fx_callI C F (c_Law_key hl hw) hm_Law_key hi_Law_key hv.1 (by decide) (Nat.le_of_ble_eq_true rfl) (iv_Law_key C F lm_Law_81 d_Law_law_278) (fx_out0 _) fx_eno (fun v1 h1 H locs cells slots hw hx1 F => ?_)
  replace hw := hw hx1
  refine lv_istore (lv' := [(5, .int v1), (0, .ref r0), (1, .ref r1), (2, .ref r2), (3, .ref r3), (4, .int x4)]) C.ex C.by d_Law_law_281 hv (by decide) rfl (fun ls hv => ?_)
  refine lv_aload_n C.ex C.by d_Law_law_283 rfl (lv_at hv 3 rfl) ?_
  obtain ⟨hk1, hw⟩ := hw
  refine fx_callI C F (c_M_key_ hl hw) hm_M_key_ hi_M_key_ hv.1 (by decide) (Nat.le_of_ble_eq_true rfl) (iv_M_key_ C F lm_Law_84 hk1 d_Law_law_284) (fx_out0 _) fx_eno (fun v2 h2 H locs cells slots hw hx2 F => ?_)
  replace hw := hw hx2
  have hk1 := (hx2).k hk1
  refine lv_istore (lv' := [(6, .int v2), (5, .int v1), (0, .ref r0), (1, .ref r1), (2, .ref r2), (3, .ref r3), (4, .int x4)]) C.ex C.by d_Law_law_287 hv (by decide) rfl (fun ls hv => ?_)
  refine lv_aload_n C.ex C.by d_Law_law_289 rfl (lv_at hv 4 rfl) ?_
  refine fx_callI C F (c_M_thrown hl hw) hm_M_thrown hi_M_thrown hv.1 (by decide) (Nat.le_of_ble_eq_true rfl) (iv_M_thrown C F lm_Law_74 hk1 d_Law_law_290) (fx_out0 _) fx_eno (fun v3 h3 H locs cells slots hw hx3 F => ?_)
  replace hw := hw hx3
  have hk1 := (hx3).k hk1
  refine lv_iload C.ex C.by d_Law_law_293 (lv_at hv 1 rfl) ?_
  refine lv_icmp_eq C.ex C.by d_Law_law_295 rfl (fun hc => ?_) (fun hc => ?_)
  · replace hw := hw.1 hc
    refine lv_iload C.ex C.by d_Law_law_300 (lv_at hv 1 rfl) ?_
    refine lv_if_ne C.ex C.by d_Law_law_302 rfl (fun hc => ?_) (fun hc => ?_)
    · replace hw := hw.1 hc
      exact b_Law_law_317 C hl _ _ _ _ _ _ hX23 hw _ _ _ _ _ (lv_sub hv [2, 3, 4, 5, 6] rfl) F
    · replace hw := hw.2 hc
      refine lv_aload_n C.ex C.by d_Law_law_305 rfl (lv_at hv 5 rfl) ?_
      refine lv_iconst (v := (0 : Int32)) C.ex C.by d_Law_law_306 (by decide) ?_
      obtain ⟨hk2, hw⟩ := hw
      obtain ⟨hi1, hw⟩ := hw
      refine fx_lald C F hk2 hi1 d_Law_law_307 ?_
      refine lv_iload C.ex C.by d_Law_law_308 (lv_at hv 0 rfl) ?_
      refine lv_i2l (v := ((v2).toInt64)) C.ex C.by d_Law_law_310 rfl ?_
      refine W.lcmp C.ex C.by d_Law_law_311 ?_
      refine lv_if_eq C.ex C.by d_Law_law_312 rfl (fun hc => ?_) (fun hc => ?_)
      · replace hw := hw.1 hc
        exact b_Law_law_317 C hl _ _ _ _ _ _ hX23 hw _ _ _ _ _ (lv_sub hv [2, 3, 4, 5, 6] rfl) F
      · replace hw := hw.2 hc
        refine lv_iconst (v := (0 : Int32)) C.ex C.by d_Law_law_315 (by decide) ?_
        exact fx_zret C F d_Law_law_316 (Or.inl rfl) (Or.inl ⟨_, rfl, Or.inl rfl, hw⟩)
  · replace hw := hw.2 hc
    refine lv_iconst (v := (0 : Int32)) C.ex C.by d_Law_law_298 (by decide) ?_
    exact fx_zret C F d_Law_law_299 (Or.inl rfl) (Or.inl ⟨_, rfl, Or.inl rfl, hw⟩)
theorem b_Law_law_421 {p : Program} {l : Launch} {e : Env} {R : Room} {s : State} {m : MethodId} {args : Array Value} {below : List Frame} {meth : Method} {c : Code} {D : DD} {h0 : AH} {Q : Int32 → AH → Prop} {X23 : Int32 × AH → Prop} (C : fx_CX D y_Law_law code 8 20 848 (Option.some FieldType.boolean) [] h0 p R s m meth c) (hl : l.flags = flags0) (r0 : Nat) (r1 : Nat) (r2 : Nat) (r3 : Nat) (x4 : Int32) (h : AH) (hX23 : ∀ st, X23 st → ∀ (ls : Array Slot) (H : Heap) (locs : List Loc) (cells slots : Nat), lv_has ls 8 [(0, .ref r0), (1, .ref r1), (2, .ref r2), (3, .ref r3), (4, .int st.1)] → fx_F D h0 st.2 H locs cells slots → W p l e R s m args below meth c H locs cells slots (fx_Z D below s h0 (fx_oZ Q fx_no)) (F0 m 23 ls [])) (hw : m_Law_law_421 Q X23 r0 r1 r2 r3 x4 h) : ∀ (ls : Array Slot) (H : Heap) (locs : List Loc) (cells slots : Nat), lv_has ls 8 [(0, .ref r0), (1, .ref r1), (2, .ref r2), (3, .ref r3), (4, .int x4)] → fx_F D h0 h H locs cells slots → W p l e R s m args below meth c H locs cells slots (fx_Z D below s h0 (fx_oZ Q fx_no)) (F0 m 421 ls []) := by
  unfold m_Law_law_421 at hw
  intro ls H locs cells slots hv F
  refine lv_goto C.ex C.by d_Law_law_421 rfl ?_
  exact b_Law_law_1011 C hl _ _ _ _ _ _ hX23 hw _ _ _ _ _ hv F
theorem b_Law_law_320 {p : Program} {l : Launch} {e : Env} {R : Room} {s : State} {m : MethodId} {args : Array Value} {below : List Frame} {meth : Method} {c : Code} {D : DD} {h0 : AH} {Q : Int32 → AH → Prop} {X23 : Int32 × AH → Prop} (C : fx_CX D y_Law_law code 8 20 848 (Option.some FieldType.boolean) [] h0 p R s m meth c) (hl : l.flags = flags0) (r0 : Nat) (r1 : Nat) (r2 : Nat) (r3 : Nat) (x4 : Int32) (h : AH) (hX23 : ∀ st, X23 st → ∀ (ls : Array Slot) (H : Heap) (locs : List Loc) (cells slots : Nat), lv_has ls 8 [(0, .ref r0), (1, .ref r1), (2, .ref r2), (3, .ref r3), (4, .int st.1)] → fx_F D h0 st.2 H locs cells slots → W p l e R s m args below meth c H locs cells slots (fx_Z D below s h0 (fx_oZ Q fx_no)) (F0 m 23 ls [])) (hw : m_Law_law_320 Q X23 r0 r1 r2 r3 x4 h) : ∀ (ls : Array Slot) (H : Heap) (locs : List Loc) (cells slots : Nat), lv_has ls 8 [(0, .ref r0), (1, .ref r1), (2, .ref r2), (3, .ref r3), (4, .int x4)] → fx_F D h0 h H locs cells slots → W p l e R s m args below meth c H locs cells slots (fx_Z D below s h0 (fx_oZ Q fx_no)) (F0 m 320 ls []) := by
  unfold m_Law_law_320 at hw
  intro ls H locs cells slots hv F
  refine lv_aload_n C.ex C.by d_Law_law_320 rfl (lv_at hv 1 rfl) ?_
  refine lv_aload_n C.ex C.by d_Law_law_321 rfl (lv_at hv 0 rfl) ?_
  refine lv_iload C.ex C.by d_Law_law_322 (lv_at hv 4 rfl) ?_
  refine lv_iconst (v := (1 : Int32)) C.ex C.by d_Law_law_324 (by decide) ?_
  refine lv_iadd C.ex C.by d_Law_law_325 ?_
  obtain ⟨hk1, hw⟩ := hw
  obtain ⟨hi1, hw⟩ := hw
  refine fx_iald C F hk1 hi1 d_Law_law_326 ?_
  refine lv_aload_n C.ex C.by d_Law_law_327 rfl (lv_at hv 0 rfl) ?_
  refine lv_iload C.ex C.by d_Law_law_328 (lv_at hv 4 rfl) ?_
  refine lv_iconst (v := (2 : Int32)) C.ex C.by d_Law_law_330 (by decide) ?_
  refine lv_iadd C.ex C.by d_Law_law_331 ?_
  obtain ⟨hi2, hw⟩ := hw
  refine fx_iald C F hk1 hi2 d_Law_law_332 ?_
  refine lv_aload_n C.ex C.by d_Law_law_333 rfl (lv_at hv 0 rfl) ?_
  refine lv_iload C.ex C.by d_Law_law_334 (lv_at hv 4 rfl) ?_
  refine lv_iconst (v := (3 : Int32)) C.ex C.by d_Law_law_336 (by decide) ?_
  refine lv_iadd C.ex C.by d_Law_law_337 ?_
  obtain ⟨hi3, hw⟩ := hw
  refine fx_iald C F hk1 hi3 d_Law_law_338 ?_
  refine lv_aload_n C.ex C.by d_Law_law_339 rfl (lv_at hv 0 rfl) ?_
  refine lv_iload C.ex C.by d_Law_law_340 (lv_at hv 4 rfl) ?_
  refine lv_iconst (v := (4 : Int32)) C.ex C.by d_Law_law_342 (by decide) ?_
  refine lv_iadd C.ex C.by d_Law_law_343 ?_
  obtain ⟨hi4, hw⟩ := hw
  refine fx_iald C F hk1 hi4 d_Law_law_344 ?_
  refine lv_aload_n C.ex C.by d_Law_law_345 rfl (lv_at hv 0 rfl) ?_
  refine lv_iload C.ex C.by d_Law_law_346 (lv_at hv 4 rfl) ?_
  refine lv_iconst (v := (5 : Int32)) C.ex C.by d_Law_law_348 (by decide) ?_
  refine lv_iadd C.ex C.by d_Law_law_349 ?_
  obtain ⟨hi5, hw⟩ := hw
  refine fx_iald C F hk1 hi5 d_Law_law_350 ?_
  refine lv_aload_n C.ex C.by d_Law_law_351 rfl (lv_at hv 3 rfl) ?_
  refine fx_callI C F (c_Law_issue hl hw) hm_Law_issue hi_Law_issue hv.1 (by decide) (Nat.le_of_ble_eq_true rfl) (iv_Law_issue C F lm_Law_85 d_Law_law_352) (fx_out0 _) fx_eno (fun v1 h1 H locs cells slots hw hx1 F => ?_)
  replace hw := hw hx1
  have hk1 := (hx1).gi hk1
  refine lv_istore (lv' := [(5, .int v1), (0, .ref r0), (1, .ref r1), (2, .ref r2), (3, .ref r3), (4, .int x4)]) C.ex C.by d_Law_law_355 hv (by decide) rfl (fun ls hv => ?_)
  refine lv_aload_n C.ex C.by d_Law_law_357 rfl (lv_at hv 3 rfl) ?_
  refine lv_aload_n C.ex C.by d_Law_law_358 rfl (lv_at hv 1 rfl) ?_
  refine lv_iload C.ex C.by d_Law_law_359 (lv_at hv 5 rfl) ?_
  refine lv_iconst (v := (1 : Int32)) C.ex C.by d_Law_law_361 (by decide) ?_
  refine lv_iadd C.ex C.by d_Law_law_362 ?_
  obtain ⟨hi6, hw⟩ := hw
  refine fx_iald C F hk1 hi6 d_Law_law_363 ?_
  refine lv_aload_n C.ex C.by d_Law_law_364 rfl (lv_at hv 1 rfl) ?_
  refine lv_iload C.ex C.by d_Law_law_365 (lv_at hv 5 rfl) ?_
  refine lv_iconst (v := (2 : Int32)) C.ex C.by d_Law_law_367 (by decide) ?_
  refine lv_iadd C.ex C.by d_Law_law_368 ?_
  obtain ⟨hi7, hw⟩ := hw
  refine fx_iald C F hk1 hi7 d_Law_law_369 ?_
  refine lv_aload_n C.ex C.by d_Law_law_370 rfl (lv_at hv 1 rfl) ?_
  refine lv_iload C.ex C.by d_Law_law_371 (lv_at hv 5 rfl) ?_
  refine lv_iconst (v := (3 : Int32)) C.ex C.by d_Law_law_373 (by decide) ?_
  refine lv_iadd C.ex C.by d_Law_law_374 ?_
  obtain ⟨hi8, hw⟩ := hw
  refine fx_iald C F hk1 hi8 d_Law_law_375 ?_
  refine lv_aload_n C.ex C.by d_Law_law_376 rfl (lv_at hv 1 rfl) ?_
  refine lv_iload C.ex C.by d_Law_law_377 (lv_at hv 5 rfl) ?_
  refine lv_iconst (v := (4 : Int32)) C.ex C.by d_Law_law_379 (by decide) ?_
  refine lv_iadd C.ex C.by d_Law_law_380 ?_
  obtain ⟨hi9, hw⟩ := hw
  refine fx_iald C F hk1 hi9 d_Law_law_381 ?_
  refine lv_aload_n C.ex C.by d_Law_law_382 rfl (lv_at hv 1 rfl) ?_
  refine lv_iload C.ex C.by d_Law_law_383 (lv_at hv 5 rfl) ?_
  refine lv_iconst (v := (5 : Int32)) C.ex C.by d_Law_law_385 (by decide) ?_
  refine lv_iadd C.ex C.by d_Law_law_386 ?_
  obtain ⟨hi10, hw⟩ := hw
  refine fx_iald C F hk1 hi10 d_Law_law_387 ?_
  obtain ⟨hk2, hw⟩ := hw
  refine fx_callI C F (c_M_issue hl hw) hm_M_issue hi_M_issue hv.1 (by decide) (Nat.le_of_ble_eq_true rfl) (iv_M_issue C F lm_Law_87 hk2 d_Law_law_388) (fx_out0 _) fx_eno (fun v2 h2 H locs cells slots hw hx2 F => ?_)
  replace hw := hw hx2
  have hk1 := (hx2).gi hk1
  have hk2 := (hx2).k hk2
  refine lv_istore (lv' := [(6, .int v2), (5, .int v1), (0, .ref r0), (1, .ref r1), (2, .ref r2), (3, .ref r3), (4, .int x4)]) C.ex C.by d_Law_law_391 hv (by decide) rfl (fun ls hv => ?_)
  refine lv_aload_n C.ex C.by d_Law_law_393 rfl (lv_at hv 4 rfl) ?_
  refine fx_callI C F (c_M_thrown hl hw) hm_M_thrown hi_M_thrown hv.1 (by decide) (Nat.le_of_ble_eq_true rfl) (iv_M_thrown C F lm_Law_74 hk2 d_Law_law_394) (fx_out0 _) fx_eno (fun v3 h3 H locs cells slots hw hx3 F => ?_)
  replace hw := hw hx3
  have hk1 := (hx3).gi hk1
  have hk2 := (hx3).k hk2
  refine lv_iload C.ex C.by d_Law_law_397 (lv_at hv 1 rfl) ?_
  refine lv_icmp_eq C.ex C.by d_Law_law_399 rfl (fun hc => ?_) (fun hc => ?_)
  · replace hw := hw.1 hc
    refine lv_iload C.ex C.by d_Law_law_404 (lv_at hv 1 rfl) ?_
    refine lv_if_ne C.ex C.by d_Law_law_406 rfl (fun hc => ?_) (fun hc => ?_)
    · replace hw := hw.1 hc
      exact b_Law_law_421 C hl _ _ _ _ _ _ hX23 hw _ _ _ _ _ (lv_sub hv [2, 3, 4, 5, 6] rfl) F
    · replace hw := hw.2 hc
      refine lv_aload_n C.ex C.by d_Law_law_409 rfl (lv_at hv 5 rfl) ?_
      refine lv_iconst (v := (0 : Int32)) C.ex C.by d_Law_law_410 (by decide) ?_
      obtain ⟨hk3, hw⟩ := hw
      obtain ⟨hi11, hw⟩ := hw
      refine fx_lald C F hk3 hi11 d_Law_law_411 ?_
      refine lv_iload C.ex C.by d_Law_law_412 (lv_at hv 0 rfl) ?_
      refine lv_i2l (v := ((v2).toInt64)) C.ex C.by d_Law_law_414 rfl ?_
      refine W.lcmp C.ex C.by d_Law_law_415 ?_
      refine lv_if_eq C.ex C.by d_Law_law_416 rfl (fun hc => ?_) (fun hc => ?_)
      · replace hw := hw.1 hc
        exact b_Law_law_421 C hl _ _ _ _ _ _ hX23 hw _ _ _ _ _ (lv_sub hv [2, 3, 4, 5, 6] rfl) F
      · replace hw := hw.2 hc
        refine lv_iconst (v := (0 : Int32)) C.ex C.by d_Law_law_419 (by decide) ?_
        exact fx_zret C F d_Law_law_420 (Or.inl rfl) (Or.inl ⟨_, rfl, Or.inl rfl, hw⟩)
  · replace hw := hw.2 hc
    refine lv_iconst (v := (0 : Int32)) C.ex C.by d_Law_law_402 (by decide) ?_
    exact fx_zret C F d_Law_law_403 (Or.inl rfl) (Or.inl ⟨_, rfl, Or.inl rfl, hw⟩)
theorem b_Law_law_477 {p : Program} {l : Launch} {e : Env} {R : Room} {s : State} {m : MethodId} {args : Array Value} {below : List Frame} {meth : Method} {c : Code} {D : DD} {h0 : AH} {Q : Int32 → AH → Prop} {X23 : Int32 × AH → Prop} (C : fx_CX D y_Law_law code 8 20 848 (Option.some FieldType.boolean) [] h0 p R s m meth c) (hl : l.flags = flags0) (r0 : Nat) (r1 : Nat) (r2 : Nat) (r3 : Nat) (x4 : Int32) (h : AH) (hX23 : ∀ st, X23 st → ∀ (ls : Array Slot) (H : Heap) (locs : List Loc) (cells slots : Nat), lv_has ls 8 [(0, .ref r0), (1, .ref r1), (2, .ref r2), (3, .ref r3), (4, .int st.1)] → fx_F D h0 st.2 H locs cells slots → W p l e R s m args below meth c H locs cells slots (fx_Z D below s h0 (fx_oZ Q fx_no)) (F0 m 23 ls [])) (hw : m_Law_law_477 Q X23 r0 r1 r2 r3 x4 h) : ∀ (ls : Array Slot) (H : Heap) (locs : List Loc) (cells slots : Nat), lv_has ls 8 [(0, .ref r0), (1, .ref r1), (2, .ref r2), (3, .ref r3), (4, .int x4)] → fx_F D h0 h H locs cells slots → W p l e R s m args below meth c H locs cells slots (fx_Z D below s h0 (fx_oZ Q fx_no)) (F0 m 477 ls []) := by
  unfold m_Law_law_477 at hw
  intro ls H locs cells slots hv F
  refine lv_goto C.ex C.by d_Law_law_477 rfl ?_
  exact b_Law_law_1011 C hl _ _ _ _ _ _ hX23 hw _ _ _ _ _ hv F
theorem b_Law_law_424 {p : Program} {l : Launch} {e : Env} {R : Room} {s : State} {m : MethodId} {args : Array Value} {below : List Frame} {meth : Method} {c : Code} {D : DD} {h0 : AH} {Q : Int32 → AH → Prop} {X23 : Int32 × AH → Prop} (C : fx_CX D y_Law_law code 8 20 848 (Option.some FieldType.boolean) [] h0 p R s m meth c) (hl : l.flags = flags0) (r0 : Nat) (r1 : Nat) (r2 : Nat) (r3 : Nat) (x4 : Int32) (h : AH) (hX23 : ∀ st, X23 st → ∀ (ls : Array Slot) (H : Heap) (locs : List Loc) (cells slots : Nat), lv_has ls 8 [(0, .ref r0), (1, .ref r1), (2, .ref r2), (3, .ref r3), (4, .int st.1)] → fx_F D h0 st.2 H locs cells slots → W p l e R s m args below meth c H locs cells slots (fx_Z D below s h0 (fx_oZ Q fx_no)) (F0 m 23 ls [])) (hw : m_Law_law_424 Q X23 r0 r1 r2 r3 x4 h) : ∀ (ls : Array Slot) (H : Heap) (locs : List Loc) (cells slots : Nat), lv_has ls 8 [(0, .ref r0), (1, .ref r1), (2, .ref r2), (3, .ref r3), (4, .int x4)] → fx_F D h0 h H locs cells slots → W p l e R s m args below meth c H locs cells slots (fx_Z D below s h0 (fx_oZ Q fx_no)) (F0 m 424 ls []) := by
  unfold m_Law_law_424 at hw
  intro ls H locs cells slots hv F
  refine lv_aload_n C.ex C.by d_Law_law_424 rfl (lv_at hv 1 rfl) ?_
  refine lv_aload_n C.ex C.by d_Law_law_425 rfl (lv_at hv 0 rfl) ?_
  refine lv_iload C.ex C.by d_Law_law_426 (lv_at hv 4 rfl) ?_
  refine lv_iconst (v := (1 : Int32)) C.ex C.by d_Law_law_428 (by decide) ?_
  refine lv_iadd C.ex C.by d_Law_law_429 ?_
  obtain ⟨hk1, hw⟩ := hw
  obtain ⟨hi1, hw⟩ := hw
  refine fx_iald C F hk1 hi1 d_Law_law_430 ?_
  refine lv_aload_n C.ex C.by d_Law_law_431 rfl (lv_at hv 3 rfl) ?_
  refine fx_callI C F (c_Law_take hl hw) hm_Law_take hi_Law_take hv.1 (by decide) (Nat.le_of_ble_eq_true rfl) (iv_Law_take C F lm_Law_88 d_Law_law_432) (fx_out0 _) fx_eno (fun v1 h1 H locs cells slots hw hx1 F => ?_)
  replace hw := hw hx1
  have hk1 := (hx1).gi hk1
  refine lv_istore (lv' := [(5, .int v1), (0, .ref r0), (1, .ref r1), (2, .ref r2), (3, .ref r3), (4, .int x4)]) C.ex C.by d_Law_law_435 hv (by decide) rfl (fun ls hv => ?_)
  refine lv_aload_n C.ex C.by d_Law_law_437 rfl (lv_at hv 3 rfl) ?_
  refine lv_aload_n C.ex C.by d_Law_law_438 rfl (lv_at hv 1 rfl) ?_
  refine lv_iload C.ex C.by d_Law_law_439 (lv_at hv 5 rfl) ?_
  refine lv_iconst (v := (1 : Int32)) C.ex C.by d_Law_law_441 (by decide) ?_
  refine lv_iadd C.ex C.by d_Law_law_442 ?_
  obtain ⟨hi2, hw⟩ := hw
  refine fx_iald C F hk1 hi2 d_Law_law_443 ?_
  obtain ⟨hk2, hw⟩ := hw
  refine fx_callI C F (c_M_take hl hw) hm_M_take hi_M_take hv.1 (by decide) (Nat.le_of_ble_eq_true rfl) (iv_M_take C F lm_Law_90 hk2 d_Law_law_444) (fx_out0 _) fx_eno (fun v2 h2 H locs cells slots hw hx2 F => ?_)
  replace hw := hw hx2
  have hk1 := (hx2).gi hk1
  have hk2 := (hx2).k hk2
  refine lv_istore (lv' := [(6, .int v2), (5, .int v1), (0, .ref r0), (1, .ref r1), (2, .ref r2), (3, .ref r3), (4, .int x4)]) C.ex C.by d_Law_law_447 hv (by decide) rfl (fun ls hv => ?_)
  refine lv_aload_n C.ex C.by d_Law_law_449 rfl (lv_at hv 4 rfl) ?_
  refine fx_callI C F (c_M_thrown hl hw) hm_M_thrown hi_M_thrown hv.1 (by decide) (Nat.le_of_ble_eq_true rfl) (iv_M_thrown C F lm_Law_74 hk2 d_Law_law_450) (fx_out0 _) fx_eno (fun v3 h3 H locs cells slots hw hx3 F => ?_)
  replace hw := hw hx3
  have hk1 := (hx3).gi hk1
  have hk2 := (hx3).k hk2
  refine lv_iload C.ex C.by d_Law_law_453 (lv_at hv 1 rfl) ?_
  refine lv_icmp_eq C.ex C.by d_Law_law_455 rfl (fun hc => ?_) (fun hc => ?_)
  · replace hw := hw.1 hc
    refine lv_iload C.ex C.by d_Law_law_460 (lv_at hv 1 rfl) ?_
    refine lv_if_ne C.ex C.by d_Law_law_462 rfl (fun hc => ?_) (fun hc => ?_)
    · replace hw := hw.1 hc
      exact b_Law_law_477 C hl _ _ _ _ _ _ hX23 hw _ _ _ _ _ (lv_sub hv [2, 3, 4, 5, 6] rfl) F
    · replace hw := hw.2 hc
      refine lv_aload_n C.ex C.by d_Law_law_465 rfl (lv_at hv 5 rfl) ?_
      refine lv_iconst (v := (0 : Int32)) C.ex C.by d_Law_law_466 (by decide) ?_
      obtain ⟨hk3, hw⟩ := hw
      obtain ⟨hi3, hw⟩ := hw
      refine fx_lald C F hk3 hi3 d_Law_law_467 ?_
      refine lv_iload C.ex C.by d_Law_law_468 (lv_at hv 0 rfl) ?_
      refine lv_i2l (v := ((v2).toInt64)) C.ex C.by d_Law_law_470 rfl ?_
      refine W.lcmp C.ex C.by d_Law_law_471 ?_
      refine lv_if_eq C.ex C.by d_Law_law_472 rfl (fun hc => ?_) (fun hc => ?_)
      · replace hw := hw.1 hc
        exact b_Law_law_477 C hl _ _ _ _ _ _ hX23 hw _ _ _ _ _ (lv_sub hv [2, 3, 4, 5, 6] rfl) F
      · replace hw := hw.2 hc
        refine lv_iconst (v := (0 : Int32)) C.ex C.by d_Law_law_475 (by decide) ?_
        exact fx_zret C F d_Law_law_476 (Or.inl rfl) (Or.inl ⟨_, rfl, Or.inl rfl, hw⟩)
  · replace hw := hw.2 hc
    refine lv_iconst (v := (0 : Int32)) C.ex C.by d_Law_law_458 (by decide) ?_
    exact fx_zret C F d_Law_law_459 (Or.inl rfl) (Or.inl ⟨_, rfl, Or.inl rfl, hw⟩)
theorem b_Law_law_557 {p : Program} {l : Launch} {e : Env} {R : Room} {s : State} {m : MethodId} {args : Array Value} {below : List Frame} {meth : Method} {c : Code} {D : DD} {h0 : AH} {Q : Int32 → AH → Prop} {X23 : Int32 × AH → Prop} (C : fx_CX D y_Law_law code 8 20 848 (Option.some FieldType.boolean) [] h0 p R s m meth c) (hl : l.flags = flags0) (r0 : Nat) (r1 : Nat) (r2 : Nat) (r3 : Nat) (x4 : Int32) (h : AH) (hX23 : ∀ st, X23 st → ∀ (ls : Array Slot) (H : Heap) (locs : List Loc) (cells slots : Nat), lv_has ls 8 [(0, .ref r0), (1, .ref r1), (2, .ref r2), (3, .ref r3), (4, .int st.1)] → fx_F D h0 st.2 H locs cells slots → W p l e R s m args below meth c H locs cells slots (fx_Z D below s h0 (fx_oZ Q fx_no)) (F0 m 23 ls [])) (hw : m_Law_law_557 Q X23 r0 r1 r2 r3 x4 h) : ∀ (ls : Array Slot) (H : Heap) (locs : List Loc) (cells slots : Nat), lv_has ls 8 [(0, .ref r0), (1, .ref r1), (2, .ref r2), (3, .ref r3), (4, .int x4)] → fx_F D h0 h H locs cells slots → W p l e R s m args below meth c H locs cells slots (fx_Z D below s h0 (fx_oZ Q fx_no)) (F0 m 557 ls []) := by
  unfold m_Law_law_557 at hw
  intro ls H locs cells slots hv F
  refine lv_goto C.ex C.by d_Law_law_557 rfl ?_
  exact b_Law_law_1011 C hl _ _ _ _ _ _ hX23 hw _ _ _ _ _ hv F
theorem b_Law_law_480 {p : Program} {l : Launch} {e : Env} {R : Room} {s : State} {m : MethodId} {args : Array Value} {below : List Frame} {meth : Method} {c : Code} {D : DD} {h0 : AH} {Q : Int32 → AH → Prop} {X23 : Int32 × AH → Prop} (C : fx_CX D y_Law_law code 8 20 848 (Option.some FieldType.boolean) [] h0 p R s m meth c) (hl : l.flags = flags0) (r0 : Nat) (r1 : Nat) (r2 : Nat) (r3 : Nat) (x4 : Int32) (h : AH) (hX23 : ∀ st, X23 st → ∀ (ls : Array Slot) (H : Heap) (locs : List Loc) (cells slots : Nat), lv_has ls 8 [(0, .ref r0), (1, .ref r1), (2, .ref r2), (3, .ref r3), (4, .int st.1)] → fx_F D h0 st.2 H locs cells slots → W p l e R s m args below meth c H locs cells slots (fx_Z D below s h0 (fx_oZ Q fx_no)) (F0 m 23 ls [])) (hw : m_Law_law_480 Q X23 r0 r1 r2 r3 x4 h) : ∀ (ls : Array Slot) (H : Heap) (locs : List Loc) (cells slots : Nat), lv_has ls 8 [(0, .ref r0), (1, .ref r1), (2, .ref r2), (3, .ref r3), (4, .int x4)] → fx_F D h0 h H locs cells slots → W p l e R s m args below meth c H locs cells slots (fx_Z D below s h0 (fx_oZ Q fx_no)) (F0 m 480 ls []) := by
  unfold m_Law_law_480 at hw
  intro ls H locs cells slots hv F
  refine lv_aload_n C.ex C.by d_Law_law_480 rfl (lv_at hv 1 rfl) ?_
  refine lv_aload_n C.ex C.by d_Law_law_481 rfl (lv_at hv 0 rfl) ?_
  refine lv_iload C.ex C.by d_Law_law_482 (lv_at hv 4 rfl) ?_
  refine lv_iconst (v := (1 : Int32)) C.ex C.by d_Law_law_484 (by decide) ?_
  refine lv_iadd C.ex C.by d_Law_law_485 ?_
  obtain ⟨hk1, hw⟩ := hw
  obtain ⟨hi1, hw⟩ := hw
  refine fx_iald C F hk1 hi1 d_Law_law_486 ?_
  refine lv_aload_n C.ex C.by d_Law_law_487 rfl (lv_at hv 0 rfl) ?_
  refine lv_iload C.ex C.by d_Law_law_488 (lv_at hv 4 rfl) ?_
  refine lv_iconst (v := (2 : Int32)) C.ex C.by d_Law_law_490 (by decide) ?_
  refine lv_iadd C.ex C.by d_Law_law_491 ?_
  obtain ⟨hi2, hw⟩ := hw
  refine fx_iald C F hk1 hi2 d_Law_law_492 ?_
  refine lv_aload_n C.ex C.by d_Law_law_493 rfl (lv_at hv 0 rfl) ?_
  refine lv_iload C.ex C.by d_Law_law_494 (lv_at hv 4 rfl) ?_
  refine lv_iconst (v := (3 : Int32)) C.ex C.by d_Law_law_496 (by decide) ?_
  refine lv_iadd C.ex C.by d_Law_law_497 ?_
  obtain ⟨hi3, hw⟩ := hw
  refine fx_iald C F hk1 hi3 d_Law_law_498 ?_
  refine lv_aload_n C.ex C.by d_Law_law_499 rfl (lv_at hv 3 rfl) ?_
  refine fx_callI C F (c_Law_alter hl hw) hm_Law_alter hi_Law_alter hv.1 (by decide) (Nat.le_of_ble_eq_true rfl) (iv_Law_alter C F lm_Law_91 d_Law_law_500) (fx_out0 _) fx_eno (fun v1 h1 H locs cells slots hw hx1 F => ?_)
  replace hw := hw hx1
  have hk1 := (hx1).gi hk1
  refine lv_istore (lv' := [(5, .int v1), (0, .ref r0), (1, .ref r1), (2, .ref r2), (3, .ref r3), (4, .int x4)]) C.ex C.by d_Law_law_503 hv (by decide) rfl (fun ls hv => ?_)
  refine lv_aload_n C.ex C.by d_Law_law_505 rfl (lv_at hv 3 rfl) ?_
  refine lv_aload_n C.ex C.by d_Law_law_506 rfl (lv_at hv 1 rfl) ?_
  refine lv_iload C.ex C.by d_Law_law_507 (lv_at hv 5 rfl) ?_
  refine lv_iconst (v := (1 : Int32)) C.ex C.by d_Law_law_509 (by decide) ?_
  refine lv_iadd C.ex C.by d_Law_law_510 ?_
  obtain ⟨hi4, hw⟩ := hw
  refine fx_iald C F hk1 hi4 d_Law_law_511 ?_
  refine lv_aload_n C.ex C.by d_Law_law_512 rfl (lv_at hv 1 rfl) ?_
  refine lv_iload C.ex C.by d_Law_law_513 (lv_at hv 5 rfl) ?_
  refine lv_iconst (v := (2 : Int32)) C.ex C.by d_Law_law_515 (by decide) ?_
  refine lv_iadd C.ex C.by d_Law_law_516 ?_
  obtain ⟨hi5, hw⟩ := hw
  refine fx_iald C F hk1 hi5 d_Law_law_517 ?_
  refine lv_aload_n C.ex C.by d_Law_law_518 rfl (lv_at hv 1 rfl) ?_
  refine lv_iload C.ex C.by d_Law_law_519 (lv_at hv 5 rfl) ?_
  refine lv_iconst (v := (3 : Int32)) C.ex C.by d_Law_law_521 (by decide) ?_
  refine lv_iadd C.ex C.by d_Law_law_522 ?_
  obtain ⟨hi6, hw⟩ := hw
  refine fx_iald C F hk1 hi6 d_Law_law_523 ?_
  obtain ⟨hk2, hw⟩ := hw
  refine fx_callI C F (c_M_alter hl hw) hm_M_alter hi_M_alter hv.1 (by decide) (Nat.le_of_ble_eq_true rfl) (iv_M_alter C F lm_Law_94 hk2 d_Law_law_524) (fx_out0 _) fx_eno (fun v2 h2 H locs cells slots hw hx2 F => ?_)
  replace hw := hw hx2
  have hk1 := (hx2).gi hk1
  have hk2 := (hx2).k hk2
  refine lv_istore (lv' := [(6, .int v2), (5, .int v1), (0, .ref r0), (1, .ref r1), (2, .ref r2), (3, .ref r3), (4, .int x4)]) C.ex C.by d_Law_law_527 hv (by decide) rfl (fun ls hv => ?_)
  refine lv_aload_n C.ex C.by d_Law_law_529 rfl (lv_at hv 4 rfl) ?_
  refine fx_callI C F (c_M_thrown hl hw) hm_M_thrown hi_M_thrown hv.1 (by decide) (Nat.le_of_ble_eq_true rfl) (iv_M_thrown C F lm_Law_74 hk2 d_Law_law_530) (fx_out0 _) fx_eno (fun v3 h3 H locs cells slots hw hx3 F => ?_)
  replace hw := hw hx3
  have hk1 := (hx3).gi hk1
  have hk2 := (hx3).k hk2
  refine lv_iload C.ex C.by d_Law_law_533 (lv_at hv 1 rfl) ?_
  refine lv_icmp_eq C.ex C.by d_Law_law_535 rfl (fun hc => ?_) (fun hc => ?_)
  · replace hw := hw.1 hc
    refine lv_iload C.ex C.by d_Law_law_540 (lv_at hv 1 rfl) ?_
    refine lv_if_ne C.ex C.by d_Law_law_542 rfl (fun hc => ?_) (fun hc => ?_)
    · replace hw := hw.1 hc
      exact b_Law_law_557 C hl _ _ _ _ _ _ hX23 hw _ _ _ _ _ (lv_sub hv [2, 3, 4, 5, 6] rfl) F
    · replace hw := hw.2 hc
      refine lv_aload_n C.ex C.by d_Law_law_545 rfl (lv_at hv 5 rfl) ?_
      refine lv_iconst (v := (0 : Int32)) C.ex C.by d_Law_law_546 (by decide) ?_
      obtain ⟨hk3, hw⟩ := hw
      obtain ⟨hi7, hw⟩ := hw
      refine fx_lald C F hk3 hi7 d_Law_law_547 ?_
      refine lv_iload C.ex C.by d_Law_law_548 (lv_at hv 0 rfl) ?_
      refine lv_i2l (v := ((v2).toInt64)) C.ex C.by d_Law_law_550 rfl ?_
      refine W.lcmp C.ex C.by d_Law_law_551 ?_
      refine lv_if_eq C.ex C.by d_Law_law_552 rfl (fun hc => ?_) (fun hc => ?_)
      · replace hw := hw.1 hc
        exact b_Law_law_557 C hl _ _ _ _ _ _ hX23 hw _ _ _ _ _ (lv_sub hv [2, 3, 4, 5, 6] rfl) F
      · replace hw := hw.2 hc
        refine lv_iconst (v := (0 : Int32)) C.ex C.by d_Law_law_555 (by decide) ?_
        exact fx_zret C F d_Law_law_556 (Or.inl rfl) (Or.inl ⟨_, rfl, Or.inl rfl, hw⟩)
  · replace hw := hw.2 hc
    refine lv_iconst (v := (0 : Int32)) C.ex C.by d_Law_law_538 (by decide) ?_
    exact fx_zret C F d_Law_law_539 (Or.inl rfl) (Or.inl ⟨_, rfl, Or.inl rfl, hw⟩)
theorem b_Law_law_625 {p : Program} {l : Launch} {e : Env} {R : Room} {s : State} {m : MethodId} {args : Array Value} {below : List Frame} {meth : Method} {c : Code} {D : DD} {h0 : AH} {Q : Int32 → AH → Prop} {X23 : Int32 × AH → Prop} (C : fx_CX D y_Law_law code 8 20 848 (Option.some FieldType.boolean) [] h0 p R s m meth c) (hl : l.flags = flags0) (r0 : Nat) (r1 : Nat) (r2 : Nat) (r3 : Nat) (x4 : Int32) (h : AH) (hX23 : ∀ st, X23 st → ∀ (ls : Array Slot) (H : Heap) (locs : List Loc) (cells slots : Nat), lv_has ls 8 [(0, .ref r0), (1, .ref r1), (2, .ref r2), (3, .ref r3), (4, .int st.1)] → fx_F D h0 st.2 H locs cells slots → W p l e R s m args below meth c H locs cells slots (fx_Z D below s h0 (fx_oZ Q fx_no)) (F0 m 23 ls [])) (hw : m_Law_law_625 Q X23 r0 r1 r2 r3 x4 h) : ∀ (ls : Array Slot) (H : Heap) (locs : List Loc) (cells slots : Nat), lv_has ls 8 [(0, .ref r0), (1, .ref r1), (2, .ref r2), (3, .ref r3), (4, .int x4)] → fx_F D h0 h H locs cells slots → W p l e R s m args below meth c H locs cells slots (fx_Z D below s h0 (fx_oZ Q fx_no)) (F0 m 625 ls []) := by
  unfold m_Law_law_625 at hw
  intro ls H locs cells slots hv F
  refine lv_goto C.ex C.by d_Law_law_625 rfl ?_
  exact b_Law_law_1011 C hl _ _ _ _ _ _ hX23 hw _ _ _ _ _ hv F
theorem b_Law_law_560 {p : Program} {l : Launch} {e : Env} {R : Room} {s : State} {m : MethodId} {args : Array Value} {below : List Frame} {meth : Method} {c : Code} {D : DD} {h0 : AH} {Q : Int32 → AH → Prop} {X23 : Int32 × AH → Prop} (C : fx_CX D y_Law_law code 8 20 848 (Option.some FieldType.boolean) [] h0 p R s m meth c) (hl : l.flags = flags0) (r0 : Nat) (r1 : Nat) (r2 : Nat) (r3 : Nat) (x4 : Int32) (h : AH) (hX23 : ∀ st, X23 st → ∀ (ls : Array Slot) (H : Heap) (locs : List Loc) (cells slots : Nat), lv_has ls 8 [(0, .ref r0), (1, .ref r1), (2, .ref r2), (3, .ref r3), (4, .int st.1)] → fx_F D h0 st.2 H locs cells slots → W p l e R s m args below meth c H locs cells slots (fx_Z D below s h0 (fx_oZ Q fx_no)) (F0 m 23 ls [])) (hw : m_Law_law_560 Q X23 r0 r1 r2 r3 x4 h) : ∀ (ls : Array Slot) (H : Heap) (locs : List Loc) (cells slots : Nat), lv_has ls 8 [(0, .ref r0), (1, .ref r1), (2, .ref r2), (3, .ref r3), (4, .int x4)] → fx_F D h0 h H locs cells slots → W p l e R s m args below meth c H locs cells slots (fx_Z D below s h0 (fx_oZ Q fx_no)) (F0 m 560 ls []) := by
  unfold m_Law_law_560 at hw
  intro ls H locs cells slots hv F
  refine lv_aload_n C.ex C.by d_Law_law_560 rfl (lv_at hv 1 rfl) ?_
  refine lv_aload_n C.ex C.by d_Law_law_561 rfl (lv_at hv 0 rfl) ?_
  refine lv_iload C.ex C.by d_Law_law_562 (lv_at hv 4 rfl) ?_
  refine lv_iconst (v := (1 : Int32)) C.ex C.by d_Law_law_564 (by decide) ?_
  refine lv_iadd C.ex C.by d_Law_law_565 ?_
  obtain ⟨hk1, hw⟩ := hw
  obtain ⟨hi1, hw⟩ := hw
  refine fx_iald C F hk1 hi1 d_Law_law_566 ?_
  refine lv_aload_n C.ex C.by d_Law_law_567 rfl (lv_at hv 0 rfl) ?_
  refine lv_iload C.ex C.by d_Law_law_568 (lv_at hv 4 rfl) ?_
  refine lv_iconst (v := (2 : Int32)) C.ex C.by d_Law_law_570 (by decide) ?_
  refine lv_iadd C.ex C.by d_Law_law_571 ?_
  obtain ⟨hi2, hw⟩ := hw
  refine fx_iald C F hk1 hi2 d_Law_law_572 ?_
  refine lv_aload_n C.ex C.by d_Law_law_573 rfl (lv_at hv 3 rfl) ?_
  refine fx_callI C F (c_Law_byteOf hl hw) hm_Law_byteOf hi_Law_byteOf hv.1 (by decide) (Nat.le_of_ble_eq_true rfl) (iv_Law_byteOf C F lm_Law_95 d_Law_law_574) (fx_out0 _) fx_eno (fun v1 h1 H locs cells slots hw hx1 F => ?_)
  replace hw := hw hx1
  have hk1 := (hx1).gi hk1
  refine lv_istore (lv' := [(5, .int v1), (0, .ref r0), (1, .ref r1), (2, .ref r2), (3, .ref r3), (4, .int x4)]) C.ex C.by d_Law_law_577 hv (by decide) rfl (fun ls hv => ?_)
  refine lv_aload_n C.ex C.by d_Law_law_579 rfl (lv_at hv 3 rfl) ?_
  refine lv_aload_n C.ex C.by d_Law_law_580 rfl (lv_at hv 1 rfl) ?_
  refine lv_iload C.ex C.by d_Law_law_581 (lv_at hv 5 rfl) ?_
  refine lv_iconst (v := (1 : Int32)) C.ex C.by d_Law_law_583 (by decide) ?_
  refine lv_iadd C.ex C.by d_Law_law_584 ?_
  obtain ⟨hi3, hw⟩ := hw
  refine fx_iald C F hk1 hi3 d_Law_law_585 ?_
  refine lv_aload_n C.ex C.by d_Law_law_586 rfl (lv_at hv 1 rfl) ?_
  refine lv_iload C.ex C.by d_Law_law_587 (lv_at hv 5 rfl) ?_
  refine lv_iconst (v := (2 : Int32)) C.ex C.by d_Law_law_589 (by decide) ?_
  refine lv_iadd C.ex C.by d_Law_law_590 ?_
  obtain ⟨hi4, hw⟩ := hw
  refine fx_iald C F hk1 hi4 d_Law_law_591 ?_
  obtain ⟨hk2, hw⟩ := hw
  refine fx_callI C F (c_M_byteOf hl hw) hm_M_byteOf hi_M_byteOf hv.1 (by decide) (Nat.le_of_ble_eq_true rfl) (iv_M_byteOf C F lm_Law_98 hk2 d_Law_law_592) (fx_out0 _) fx_eno (fun v2 h2 H locs cells slots hw hx2 F => ?_)
  replace hw := hw hx2
  have hk1 := (hx2).gi hk1
  have hk2 := (hx2).k hk2
  refine lv_istore (lv' := [(6, .int v2), (5, .int v1), (0, .ref r0), (1, .ref r1), (2, .ref r2), (3, .ref r3), (4, .int x4)]) C.ex C.by d_Law_law_595 hv (by decide) rfl (fun ls hv => ?_)
  refine lv_aload_n C.ex C.by d_Law_law_597 rfl (lv_at hv 4 rfl) ?_
  refine fx_callI C F (c_M_thrown hl hw) hm_M_thrown hi_M_thrown hv.1 (by decide) (Nat.le_of_ble_eq_true rfl) (iv_M_thrown C F lm_Law_74 hk2 d_Law_law_598) (fx_out0 _) fx_eno (fun v3 h3 H locs cells slots hw hx3 F => ?_)
  replace hw := hw hx3
  have hk1 := (hx3).gi hk1
  have hk2 := (hx3).k hk2
  refine lv_iload C.ex C.by d_Law_law_601 (lv_at hv 1 rfl) ?_
  refine lv_icmp_eq C.ex C.by d_Law_law_603 rfl (fun hc => ?_) (fun hc => ?_)
  · replace hw := hw.1 hc
    refine lv_iload C.ex C.by d_Law_law_608 (lv_at hv 1 rfl) ?_
    refine lv_if_ne C.ex C.by d_Law_law_610 rfl (fun hc => ?_) (fun hc => ?_)
    · replace hw := hw.1 hc
      exact b_Law_law_625 C hl _ _ _ _ _ _ hX23 hw _ _ _ _ _ (lv_sub hv [2, 3, 4, 5, 6] rfl) F
    · replace hw := hw.2 hc
      refine lv_aload_n C.ex C.by d_Law_law_613 rfl (lv_at hv 5 rfl) ?_
      refine lv_iconst (v := (0 : Int32)) C.ex C.by d_Law_law_614 (by decide) ?_
      obtain ⟨hk3, hw⟩ := hw
      obtain ⟨hi5, hw⟩ := hw
      refine fx_lald C F hk3 hi5 d_Law_law_615 ?_
      refine lv_iload C.ex C.by d_Law_law_616 (lv_at hv 0 rfl) ?_
      refine lv_i2l (v := ((v2).toInt64)) C.ex C.by d_Law_law_618 rfl ?_
      refine W.lcmp C.ex C.by d_Law_law_619 ?_
      refine lv_if_eq C.ex C.by d_Law_law_620 rfl (fun hc => ?_) (fun hc => ?_)
      · replace hw := hw.1 hc
        exact b_Law_law_625 C hl _ _ _ _ _ _ hX23 hw _ _ _ _ _ (lv_sub hv [2, 3, 4, 5, 6] rfl) F
      · replace hw := hw.2 hc
        refine lv_iconst (v := (0 : Int32)) C.ex C.by d_Law_law_623 (by decide) ?_
        exact fx_zret C F d_Law_law_624 (Or.inl rfl) (Or.inl ⟨_, rfl, Or.inl rfl, hw⟩)
  · replace hw := hw.2 hc
    refine lv_iconst (v := (0 : Int32)) C.ex C.by d_Law_law_606 (by decide) ?_
    exact fx_zret C F d_Law_law_607 (Or.inl rfl) (Or.inl ⟨_, rfl, Or.inl rfl, hw⟩)
theorem b_Law_law_692 {p : Program} {l : Launch} {e : Env} {R : Room} {s : State} {m : MethodId} {args : Array Value} {below : List Frame} {meth : Method} {c : Code} {D : DD} {h0 : AH} {Q : Int32 → AH → Prop} {X23 : Int32 × AH → Prop} (C : fx_CX D y_Law_law code 8 20 848 (Option.some FieldType.boolean) [] h0 p R s m meth c) (hl : l.flags = flags0) (r0 : Nat) (r1 : Nat) (r2 : Nat) (r3 : Nat) (x4 : Int32) (h : AH) (hX23 : ∀ st, X23 st → ∀ (ls : Array Slot) (H : Heap) (locs : List Loc) (cells slots : Nat), lv_has ls 8 [(0, .ref r0), (1, .ref r1), (2, .ref r2), (3, .ref r3), (4, .int st.1)] → fx_F D h0 st.2 H locs cells slots → W p l e R s m args below meth c H locs cells slots (fx_Z D below s h0 (fx_oZ Q fx_no)) (F0 m 23 ls [])) (hw : m_Law_law_692 Q X23 r0 r1 r2 r3 x4 h) : ∀ (ls : Array Slot) (H : Heap) (locs : List Loc) (cells slots : Nat), lv_has ls 8 [(0, .ref r0), (1, .ref r1), (2, .ref r2), (3, .ref r3), (4, .int x4)] → fx_F D h0 h H locs cells slots → W p l e R s m args below meth c H locs cells slots (fx_Z D below s h0 (fx_oZ Q fx_no)) (F0 m 692 ls []) := by
  unfold m_Law_law_692 at hw
  intro ls H locs cells slots hv F
  refine lv_goto C.ex C.by d_Law_law_692 rfl ?_
  exact b_Law_law_1011 C hl _ _ _ _ _ _ hX23 hw _ _ _ _ _ hv F
theorem b_Law_law_628 {p : Program} {l : Launch} {e : Env} {R : Room} {s : State} {m : MethodId} {args : Array Value} {below : List Frame} {meth : Method} {c : Code} {D : DD} {h0 : AH} {Q : Int32 → AH → Prop} {X23 : Int32 × AH → Prop} (C : fx_CX D y_Law_law code 8 20 848 (Option.some FieldType.boolean) [] h0 p R s m meth c) (hl : l.flags = flags0) (r0 : Nat) (r1 : Nat) (r2 : Nat) (r3 : Nat) (x4 : Int32) (h : AH) (hX23 : ∀ st, X23 st → ∀ (ls : Array Slot) (H : Heap) (locs : List Loc) (cells slots : Nat), lv_has ls 8 [(0, .ref r0), (1, .ref r1), (2, .ref r2), (3, .ref r3), (4, .int st.1)] → fx_F D h0 st.2 H locs cells slots → W p l e R s m args below meth c H locs cells slots (fx_Z D below s h0 (fx_oZ Q fx_no)) (F0 m 23 ls [])) (hw : m_Law_law_628 Q X23 r0 r1 r2 r3 x4 h) : ∀ (ls : Array Slot) (H : Heap) (locs : List Loc) (cells slots : Nat), lv_has ls 8 [(0, .ref r0), (1, .ref r1), (2, .ref r2), (3, .ref r3), (4, .int x4)] → fx_F D h0 h H locs cells slots → W p l e R s m args below meth c H locs cells slots (fx_Z D below s h0 (fx_oZ Q fx_no)) (F0 m 628 ls []) := by
  unfold m_Law_law_628 at hw
  intro ls H locs cells slots hv F
  refine lv_aload_n C.ex C.by d_Law_law_628 rfl (lv_at hv 1 rfl) ?_
  refine lv_aload_n C.ex C.by d_Law_law_629 rfl (lv_at hv 0 rfl) ?_
  refine lv_iload C.ex C.by d_Law_law_630 (lv_at hv 4 rfl) ?_
  refine lv_iconst (v := (1 : Int32)) C.ex C.by d_Law_law_632 (by decide) ?_
  refine lv_iadd C.ex C.by d_Law_law_633 ?_
  obtain ⟨hk1, hw⟩ := hw
  obtain ⟨hi1, hw⟩ := hw
  refine fx_iald C F hk1 hi1 d_Law_law_634 ?_
  refine lv_aload_n C.ex C.by d_Law_law_635 rfl (lv_at hv 0 rfl) ?_
  refine lv_iload C.ex C.by d_Law_law_636 (lv_at hv 4 rfl) ?_
  refine lv_iconst (v := (2 : Int32)) C.ex C.by d_Law_law_638 (by decide) ?_
  refine lv_iadd C.ex C.by d_Law_law_639 ?_
  obtain ⟨hi2, hw⟩ := hw
  refine fx_iald C F hk1 hi2 d_Law_law_640 ?_
  refine lv_aload_n C.ex C.by d_Law_law_641 rfl (lv_at hv 3 rfl) ?_
  refine fx_callI C F (c_Law_told hl hw) hm_Law_told hi_Law_told hv.1 (by decide) (Nat.le_of_ble_eq_true rfl) (iv_Law_told C F lm_Law_99 d_Law_law_642) (fx_out0 _) fx_eno (fun v1 h1 H locs cells slots hw hx1 F => ?_)
  replace hw := hw hx1
  have hk1 := (hx1).gi hk1
  refine lv_istore (lv' := [(5, .int v1), (0, .ref r0), (1, .ref r1), (2, .ref r2), (3, .ref r3), (4, .int x4)]) C.ex C.by d_Law_law_645 hv (by decide) rfl (fun ls hv => ?_)
  refine lv_aload_n C.ex C.by d_Law_law_647 rfl (lv_at hv 3 rfl) ?_
  refine lv_aload_n C.ex C.by d_Law_law_648 rfl (lv_at hv 1 rfl) ?_
  refine lv_iload C.ex C.by d_Law_law_649 (lv_at hv 5 rfl) ?_
  refine lv_iconst (v := (1 : Int32)) C.ex C.by d_Law_law_651 (by decide) ?_
  refine lv_iadd C.ex C.by d_Law_law_652 ?_
  obtain ⟨hi3, hw⟩ := hw
  refine fx_iald C F hk1 hi3 d_Law_law_653 ?_
  refine lv_aload_n C.ex C.by d_Law_law_654 rfl (lv_at hv 1 rfl) ?_
  refine lv_iload C.ex C.by d_Law_law_655 (lv_at hv 5 rfl) ?_
  refine lv_iconst (v := (2 : Int32)) C.ex C.by d_Law_law_657 (by decide) ?_
  refine lv_iadd C.ex C.by d_Law_law_658 ?_
  obtain ⟨hi4, hw⟩ := hw
  refine fx_iald C F hk1 hi4 d_Law_law_659 ?_
  obtain ⟨hk2, hw⟩ := hw
  refine fx_callL C F (c_M_told hl hw) hm_M_told hi_M_told hv.1 (by decide) (Nat.le_of_ble_eq_true rfl) (iv_M_told C F lm_Law_101 hk2 d_Law_law_660) (fx_out0 _) fx_eno (fun u1 h2 H locs cells slots hw hx2 F => ?_)
  replace hw := hw hx2
  have hk1 := (hx2).gi hk1
  have hk2 := (hx2).k hk2
  refine lv_lstore (lv' := [(6, .long u1), (5, .int v1), (0, .ref r0), (1, .ref r1), (2, .ref r2), (3, .ref r3), (4, .int x4)]) C.ex C.by d_Law_law_663 hv (by decide) rfl (fun ls hv => ?_)
  refine lv_aload_n C.ex C.by d_Law_law_665 rfl (lv_at hv 4 rfl) ?_
  refine fx_callI C F (c_M_thrown hl hw) hm_M_thrown hi_M_thrown hv.1 (by decide) (Nat.le_of_ble_eq_true rfl) (iv_M_thrown C F lm_Law_74 hk2 d_Law_law_666) (fx_out0 _) fx_eno (fun v2 h3 H locs cells slots hw hx3 F => ?_)
  replace hw := hw hx3
  have hk1 := (hx3).gi hk1
  have hk2 := (hx3).k hk2
  refine lv_iload C.ex C.by d_Law_law_669 (lv_at hv 1 rfl) ?_
  refine lv_icmp_eq C.ex C.by d_Law_law_671 rfl (fun hc => ?_) (fun hc => ?_)
  · replace hw := hw.1 hc
    refine lv_iload C.ex C.by d_Law_law_676 (lv_at hv 1 rfl) ?_
    refine lv_if_ne C.ex C.by d_Law_law_678 rfl (fun hc => ?_) (fun hc => ?_)
    · replace hw := hw.1 hc
      exact b_Law_law_692 C hl _ _ _ _ _ _ hX23 hw _ _ _ _ _ (lv_sub hv [2, 3, 4, 5, 6] rfl) F
    · replace hw := hw.2 hc
      refine lv_aload_n C.ex C.by d_Law_law_681 rfl (lv_at hv 5 rfl) ?_
      refine lv_iconst (v := (0 : Int32)) C.ex C.by d_Law_law_682 (by decide) ?_
      obtain ⟨hk3, hw⟩ := hw
      obtain ⟨hi5, hw⟩ := hw
      refine fx_lald C F hk3 hi5 d_Law_law_683 ?_
      refine lv_lload C.ex C.by d_Law_law_684 (lv_at hv 0 rfl) ?_
      refine W.lcmp C.ex C.by d_Law_law_686 ?_
      refine lv_if_eq C.ex C.by d_Law_law_687 rfl (fun hc => ?_) (fun hc => ?_)
      · replace hw := hw.1 hc
        exact b_Law_law_692 C hl _ _ _ _ _ _ hX23 hw _ _ _ _ _ (lv_sub hv [2, 3, 4, 5, 6] rfl) F
      · replace hw := hw.2 hc
        refine lv_iconst (v := (0 : Int32)) C.ex C.by d_Law_law_690 (by decide) ?_
        exact fx_zret C F d_Law_law_691 (Or.inl rfl) (Or.inl ⟨_, rfl, Or.inl rfl, hw⟩)
  · replace hw := hw.2 hc
    refine lv_iconst (v := (0 : Int32)) C.ex C.by d_Law_law_674 (by decide) ?_
    exact fx_zret C F d_Law_law_675 (Or.inl rfl) (Or.inl ⟨_, rfl, Or.inl rfl, hw⟩)
theorem b_Law_law_748 {p : Program} {l : Launch} {e : Env} {R : Room} {s : State} {m : MethodId} {args : Array Value} {below : List Frame} {meth : Method} {c : Code} {D : DD} {h0 : AH} {Q : Int32 → AH → Prop} {X23 : Int32 × AH → Prop} (C : fx_CX D y_Law_law code 8 20 848 (Option.some FieldType.boolean) [] h0 p R s m meth c) (hl : l.flags = flags0) (r0 : Nat) (r1 : Nat) (r2 : Nat) (r3 : Nat) (x4 : Int32) (h : AH) (hX23 : ∀ st, X23 st → ∀ (ls : Array Slot) (H : Heap) (locs : List Loc) (cells slots : Nat), lv_has ls 8 [(0, .ref r0), (1, .ref r1), (2, .ref r2), (3, .ref r3), (4, .int st.1)] → fx_F D h0 st.2 H locs cells slots → W p l e R s m args below meth c H locs cells slots (fx_Z D below s h0 (fx_oZ Q fx_no)) (F0 m 23 ls [])) (hw : m_Law_law_748 Q X23 r0 r1 r2 r3 x4 h) : ∀ (ls : Array Slot) (H : Heap) (locs : List Loc) (cells slots : Nat), lv_has ls 8 [(0, .ref r0), (1, .ref r1), (2, .ref r2), (3, .ref r3), (4, .int x4)] → fx_F D h0 h H locs cells slots → W p l e R s m args below meth c H locs cells slots (fx_Z D below s h0 (fx_oZ Q fx_no)) (F0 m 748 ls []) := by
  unfold m_Law_law_748 at hw
  intro ls H locs cells slots hv F
  refine lv_goto C.ex C.by d_Law_law_748 rfl ?_
  exact b_Law_law_1011 C hl _ _ _ _ _ _ hX23 hw _ _ _ _ _ hv F
theorem b_Law_law_695 {p : Program} {l : Launch} {e : Env} {R : Room} {s : State} {m : MethodId} {args : Array Value} {below : List Frame} {meth : Method} {c : Code} {D : DD} {h0 : AH} {Q : Int32 → AH → Prop} {X23 : Int32 × AH → Prop} (C : fx_CX D y_Law_law code 8 20 848 (Option.some FieldType.boolean) [] h0 p R s m meth c) (hl : l.flags = flags0) (r0 : Nat) (r1 : Nat) (r2 : Nat) (r3 : Nat) (x4 : Int32) (h : AH) (hX23 : ∀ st, X23 st → ∀ (ls : Array Slot) (H : Heap) (locs : List Loc) (cells slots : Nat), lv_has ls 8 [(0, .ref r0), (1, .ref r1), (2, .ref r2), (3, .ref r3), (4, .int st.1)] → fx_F D h0 st.2 H locs cells slots → W p l e R s m args below meth c H locs cells slots (fx_Z D below s h0 (fx_oZ Q fx_no)) (F0 m 23 ls [])) (hw : m_Law_law_695 Q X23 r0 r1 r2 r3 x4 h) : ∀ (ls : Array Slot) (H : Heap) (locs : List Loc) (cells slots : Nat), lv_has ls 8 [(0, .ref r0), (1, .ref r1), (2, .ref r2), (3, .ref r3), (4, .int x4)] → fx_F D h0 h H locs cells slots → W p l e R s m args below meth c H locs cells slots (fx_Z D below s h0 (fx_oZ Q fx_no)) (F0 m 695 ls []) := by
  unfold m_Law_law_695 at hw
  intro ls H locs cells slots hv F
  refine lv_aload_n C.ex C.by d_Law_law_695 rfl (lv_at hv 1 rfl) ?_
  refine lv_aload_n C.ex C.by d_Law_law_696 rfl (lv_at hv 0 rfl) ?_
  refine lv_iload C.ex C.by d_Law_law_697 (lv_at hv 4 rfl) ?_
  refine lv_iconst (v := (1 : Int32)) C.ex C.by d_Law_law_699 (by decide) ?_
  refine lv_iadd C.ex C.by d_Law_law_700 ?_
  obtain ⟨hk1, hw⟩ := hw
  obtain ⟨hi1, hw⟩ := hw
  refine fx_iald C F hk1 hi1 d_Law_law_701 ?_
  refine lv_aload_n C.ex C.by d_Law_law_702 rfl (lv_at hv 3 rfl) ?_
  refine fx_callI C F (c_Law_add hl hw) hm_Law_add hi_Law_add hv.1 (by decide) (Nat.le_of_ble_eq_true rfl) (iv_Law_add C F lm_Law_102 d_Law_law_703) (fx_out0 _) fx_eno (fun v1 h1 H locs cells slots hw hx1 F => ?_)
  replace hw := hw hx1
  have hk1 := (hx1).gi hk1
  refine lv_istore (lv' := [(5, .int v1), (0, .ref r0), (1, .ref r1), (2, .ref r2), (3, .ref r3), (4, .int x4)]) C.ex C.by d_Law_law_706 hv (by decide) rfl (fun ls hv => ?_)
  refine lv_aload_n C.ex C.by d_Law_law_708 rfl (lv_at hv 3 rfl) ?_
  refine lv_aload_n C.ex C.by d_Law_law_709 rfl (lv_at hv 1 rfl) ?_
  refine lv_iload C.ex C.by d_Law_law_710 (lv_at hv 5 rfl) ?_
  refine lv_iconst (v := (1 : Int32)) C.ex C.by d_Law_law_712 (by decide) ?_
  refine lv_iadd C.ex C.by d_Law_law_713 ?_
  obtain ⟨hi2, hw⟩ := hw
  refine fx_iald C F hk1 hi2 d_Law_law_714 ?_
  obtain ⟨hk2, hw⟩ := hw
  refine fx_callI C F (c_M_add hl hw) hm_M_add hi_M_add hv.1 (by decide) (Nat.le_of_ble_eq_true rfl) (iv_M_add C F lm_Law_104 hk2 d_Law_law_715) (fx_out0 _) fx_eno (fun v2 h2 H locs cells slots hw hx2 F => ?_)
  replace hw := hw hx2
  have hk1 := (hx2).gi hk1
  have hk2 := (hx2).k hk2
  refine lv_istore (lv' := [(6, .int v2), (5, .int v1), (0, .ref r0), (1, .ref r1), (2, .ref r2), (3, .ref r3), (4, .int x4)]) C.ex C.by d_Law_law_718 hv (by decide) rfl (fun ls hv => ?_)
  refine lv_aload_n C.ex C.by d_Law_law_720 rfl (lv_at hv 4 rfl) ?_
  refine fx_callI C F (c_M_thrown hl hw) hm_M_thrown hi_M_thrown hv.1 (by decide) (Nat.le_of_ble_eq_true rfl) (iv_M_thrown C F lm_Law_74 hk2 d_Law_law_721) (fx_out0 _) fx_eno (fun v3 h3 H locs cells slots hw hx3 F => ?_)
  replace hw := hw hx3
  have hk1 := (hx3).gi hk1
  have hk2 := (hx3).k hk2
  refine lv_iload C.ex C.by d_Law_law_724 (lv_at hv 1 rfl) ?_
  refine lv_icmp_eq C.ex C.by d_Law_law_726 rfl (fun hc => ?_) (fun hc => ?_)
  · replace hw := hw.1 hc
    refine lv_iload C.ex C.by d_Law_law_731 (lv_at hv 1 rfl) ?_
    refine lv_if_ne C.ex C.by d_Law_law_733 rfl (fun hc => ?_) (fun hc => ?_)
    · replace hw := hw.1 hc
      exact b_Law_law_748 C hl _ _ _ _ _ _ hX23 hw _ _ _ _ _ (lv_sub hv [2, 3, 4, 5, 6] rfl) F
    · replace hw := hw.2 hc
      refine lv_aload_n C.ex C.by d_Law_law_736 rfl (lv_at hv 5 rfl) ?_
      refine lv_iconst (v := (0 : Int32)) C.ex C.by d_Law_law_737 (by decide) ?_
      obtain ⟨hk3, hw⟩ := hw
      obtain ⟨hi3, hw⟩ := hw
      refine fx_lald C F hk3 hi3 d_Law_law_738 ?_
      refine lv_iload C.ex C.by d_Law_law_739 (lv_at hv 0 rfl) ?_
      refine lv_i2l (v := ((v2).toInt64)) C.ex C.by d_Law_law_741 rfl ?_
      refine W.lcmp C.ex C.by d_Law_law_742 ?_
      refine lv_if_eq C.ex C.by d_Law_law_743 rfl (fun hc => ?_) (fun hc => ?_)
      · replace hw := hw.1 hc
        exact b_Law_law_748 C hl _ _ _ _ _ _ hX23 hw _ _ _ _ _ (lv_sub hv [2, 3, 4, 5, 6] rfl) F
      · replace hw := hw.2 hc
        refine lv_iconst (v := (0 : Int32)) C.ex C.by d_Law_law_746 (by decide) ?_
        exact fx_zret C F d_Law_law_747 (Or.inl rfl) (Or.inl ⟨_, rfl, Or.inl rfl, hw⟩)
  · replace hw := hw.2 hc
    refine lv_iconst (v := (0 : Int32)) C.ex C.by d_Law_law_729 (by decide) ?_
    exact fx_zret C F d_Law_law_730 (Or.inl rfl) (Or.inl ⟨_, rfl, Or.inl rfl, hw⟩)
theorem b_Law_law_751 {p : Program} {l : Launch} {e : Env} {R : Room} {s : State} {m : MethodId} {args : Array Value} {below : List Frame} {meth : Method} {c : Code} {D : DD} {h0 : AH} {Q : Int32 → AH → Prop} {X23 : Int32 × AH → Prop} (C : fx_CX D y_Law_law code 8 20 848 (Option.some FieldType.boolean) [] h0 p R s m meth c) (hl : l.flags = flags0) (r0 : Nat) (r1 : Nat) (r2 : Nat) (r3 : Nat) (x4 : Int32) (h : AH) (hX23 : ∀ st, X23 st → ∀ (ls : Array Slot) (H : Heap) (locs : List Loc) (cells slots : Nat), lv_has ls 8 [(0, .ref r0), (1, .ref r1), (2, .ref r2), (3, .ref r3), (4, .int st.1)] → fx_F D h0 st.2 H locs cells slots → W p l e R s m args below meth c H locs cells slots (fx_Z D below s h0 (fx_oZ Q fx_no)) (F0 m 23 ls [])) (hw : m_Law_law_751 Q X23 r0 r1 r2 r3 x4 h) : ∀ (ls : Array Slot) (H : Heap) (locs : List Loc) (cells slots : Nat), lv_has ls 8 [(0, .ref r0), (1, .ref r1), (2, .ref r2), (3, .ref r3), (4, .int x4)] → fx_F D h0 h H locs cells slots → W p l e R s m args below meth c H locs cells slots (fx_Z D below s h0 (fx_oZ Q fx_no)) (F0 m 751 ls []) := by
  unfold m_Law_law_751 at hw
  intro ls H locs cells slots hv F
  refine lv_aload_n C.ex C.by d_Law_law_751 rfl (lv_at hv 1 rfl) ?_
  obtain ⟨hk1, hw⟩ := hw
  refine fx_callV C F (c_J_clear hl hw) hm_J_clear hi_J_clear hv.1 (by decide) (Nat.le_of_ble_eq_true rfl) (iv_J_clear C F lm_Law_105 hk1 d_Law_law_752) (fx_out0 _) fx_eno (fun h1 H locs cells slots hw hx1 F => ?_)
  replace hw := hw hx1
  have hk1 := (hx1).k hk1
  refine lv_aload_n C.ex C.by d_Law_law_755 rfl (lv_at hv 2 rfl) ?_
  obtain ⟨hk2, hw⟩ := hw
  refine fx_callV C F (c_M_clear hl hw) hm_M_clear hi_M_clear hv.1 (by decide) (Nat.le_of_ble_eq_true rfl) (iv_M_clear C F lm_Law_108 hk2 d_Law_law_756) (fx_out0 _) fx_eno (fun h2 H locs cells slots hw hx2 F => ?_)
  replace hw := hw hx2
  have hk1 := (hx2).k hk1
  have hk2 := (hx2).k hk2
  refine lv_goto C.ex C.by d_Law_law_759 rfl ?_
  exact b_Law_law_1011 C hl _ _ _ _ _ _ hX23 hw _ _ _ _ _ hv F
theorem b_Law_law_815 {p : Program} {l : Launch} {e : Env} {R : Room} {s : State} {m : MethodId} {args : Array Value} {below : List Frame} {meth : Method} {c : Code} {D : DD} {h0 : AH} {Q : Int32 → AH → Prop} {X23 : Int32 × AH → Prop} (C : fx_CX D y_Law_law code 8 20 848 (Option.some FieldType.boolean) [] h0 p R s m meth c) (hl : l.flags = flags0) (r0 : Nat) (r1 : Nat) (r2 : Nat) (r3 : Nat) (x4 : Int32) (h : AH) (hX23 : ∀ st, X23 st → ∀ (ls : Array Slot) (H : Heap) (locs : List Loc) (cells slots : Nat), lv_has ls 8 [(0, .ref r0), (1, .ref r1), (2, .ref r2), (3, .ref r3), (4, .int st.1)] → fx_F D h0 st.2 H locs cells slots → W p l e R s m args below meth c H locs cells slots (fx_Z D below s h0 (fx_oZ Q fx_no)) (F0 m 23 ls [])) (hw : m_Law_law_815 Q X23 r0 r1 r2 r3 x4 h) : ∀ (ls : Array Slot) (H : Heap) (locs : List Loc) (cells slots : Nat), lv_has ls 8 [(0, .ref r0), (1, .ref r1), (2, .ref r2), (3, .ref r3), (4, .int x4)] → fx_F D h0 h H locs cells slots → W p l e R s m args below meth c H locs cells slots (fx_Z D below s h0 (fx_oZ Q fx_no)) (F0 m 815 ls []) := by
  unfold m_Law_law_815 at hw
  intro ls H locs cells slots hv F
  refine lv_goto C.ex C.by d_Law_law_815 rfl ?_
  exact b_Law_law_1011 C hl _ _ _ _ _ _ hX23 hw _ _ _ _ _ hv F
theorem b_Law_law_762 {p : Program} {l : Launch} {e : Env} {R : Room} {s : State} {m : MethodId} {args : Array Value} {below : List Frame} {meth : Method} {c : Code} {D : DD} {h0 : AH} {Q : Int32 → AH → Prop} {X23 : Int32 × AH → Prop} (C : fx_CX D y_Law_law code 8 20 848 (Option.some FieldType.boolean) [] h0 p R s m meth c) (hl : l.flags = flags0) (r0 : Nat) (r1 : Nat) (r2 : Nat) (r3 : Nat) (x4 : Int32) (h : AH) (hX23 : ∀ st, X23 st → ∀ (ls : Array Slot) (H : Heap) (locs : List Loc) (cells slots : Nat), lv_has ls 8 [(0, .ref r0), (1, .ref r1), (2, .ref r2), (3, .ref r3), (4, .int st.1)] → fx_F D h0 st.2 H locs cells slots → W p l e R s m args below meth c H locs cells slots (fx_Z D below s h0 (fx_oZ Q fx_no)) (F0 m 23 ls [])) (hw : m_Law_law_762 Q X23 r0 r1 r2 r3 x4 h) : ∀ (ls : Array Slot) (H : Heap) (locs : List Loc) (cells slots : Nat), lv_has ls 8 [(0, .ref r0), (1, .ref r1), (2, .ref r2), (3, .ref r3), (4, .int x4)] → fx_F D h0 h H locs cells slots → W p l e R s m args below meth c H locs cells slots (fx_Z D below s h0 (fx_oZ Q fx_no)) (F0 m 762 ls []) := by
  unfold m_Law_law_762 at hw
  intro ls H locs cells slots hv F
  refine lv_aload_n C.ex C.by d_Law_law_762 rfl (lv_at hv 1 rfl) ?_
  refine lv_aload_n C.ex C.by d_Law_law_763 rfl (lv_at hv 0 rfl) ?_
  refine lv_iload C.ex C.by d_Law_law_764 (lv_at hv 4 rfl) ?_
  refine lv_iconst (v := (1 : Int32)) C.ex C.by d_Law_law_766 (by decide) ?_
  refine lv_iadd C.ex C.by d_Law_law_767 ?_
  obtain ⟨hk1, hw⟩ := hw
  obtain ⟨hi1, hw⟩ := hw
  refine fx_iald C F hk1 hi1 d_Law_law_768 ?_
  refine lv_aload_n C.ex C.by d_Law_law_769 rfl (lv_at hv 3 rfl) ?_
  refine fx_callI C F (c_Law_trust hl hw) hm_Law_trust hi_Law_trust hv.1 (by decide) (Nat.le_of_ble_eq_true rfl) (iv_Law_trust C F lm_Law_109 d_Law_law_770) (fx_out0 _) fx_eno (fun v1 h1 H locs cells slots hw hx1 F => ?_)
  replace hw := hw hx1
  have hk1 := (hx1).gi hk1
  refine lv_istore (lv' := [(5, .int v1), (0, .ref r0), (1, .ref r1), (2, .ref r2), (3, .ref r3), (4, .int x4)]) C.ex C.by d_Law_law_773 hv (by decide) rfl (fun ls hv => ?_)
  refine lv_aload_n C.ex C.by d_Law_law_775 rfl (lv_at hv 3 rfl) ?_
  refine lv_aload_n C.ex C.by d_Law_law_776 rfl (lv_at hv 1 rfl) ?_
  refine lv_iload C.ex C.by d_Law_law_777 (lv_at hv 5 rfl) ?_
  refine lv_iconst (v := (1 : Int32)) C.ex C.by d_Law_law_779 (by decide) ?_
  refine lv_iadd C.ex C.by d_Law_law_780 ?_
  obtain ⟨hi2, hw⟩ := hw
  refine fx_iald C F hk1 hi2 d_Law_law_781 ?_
  obtain ⟨hk2, hw⟩ := hw
  refine fx_callI C F (c_M_trust hl hw) hm_M_trust hi_M_trust hv.1 (by decide) (Nat.le_of_ble_eq_true rfl) (iv_M_trust C F lm_Law_111 hk2 d_Law_law_782) (fx_out0 _) fx_eno (fun v2 h2 H locs cells slots hw hx2 F => ?_)
  replace hw := hw hx2
  have hk1 := (hx2).gi hk1
  have hk2 := (hx2).k hk2
  refine lv_istore (lv' := [(6, .int v2), (5, .int v1), (0, .ref r0), (1, .ref r1), (2, .ref r2), (3, .ref r3), (4, .int x4)]) C.ex C.by d_Law_law_785 hv (by decide) rfl (fun ls hv => ?_)
  refine lv_aload_n C.ex C.by d_Law_law_787 rfl (lv_at hv 4 rfl) ?_
  refine fx_callI C F (c_M_thrown hl hw) hm_M_thrown hi_M_thrown hv.1 (by decide) (Nat.le_of_ble_eq_true rfl) (iv_M_thrown C F lm_Law_74 hk2 d_Law_law_788) (fx_out0 _) fx_eno (fun v3 h3 H locs cells slots hw hx3 F => ?_)
  replace hw := hw hx3
  have hk1 := (hx3).gi hk1
  have hk2 := (hx3).k hk2
  refine lv_iload C.ex C.by d_Law_law_791 (lv_at hv 1 rfl) ?_
  refine lv_icmp_eq C.ex C.by d_Law_law_793 rfl (fun hc => ?_) (fun hc => ?_)
  · replace hw := hw.1 hc
    refine lv_iload C.ex C.by d_Law_law_798 (lv_at hv 1 rfl) ?_
    refine lv_if_ne C.ex C.by d_Law_law_800 rfl (fun hc => ?_) (fun hc => ?_)
    · replace hw := hw.1 hc
      exact b_Law_law_815 C hl _ _ _ _ _ _ hX23 hw _ _ _ _ _ (lv_sub hv [2, 3, 4, 5, 6] rfl) F
    · replace hw := hw.2 hc
      refine lv_aload_n C.ex C.by d_Law_law_803 rfl (lv_at hv 5 rfl) ?_
      refine lv_iconst (v := (0 : Int32)) C.ex C.by d_Law_law_804 (by decide) ?_
      obtain ⟨hk3, hw⟩ := hw
      obtain ⟨hi3, hw⟩ := hw
      refine fx_lald C F hk3 hi3 d_Law_law_805 ?_
      refine lv_iload C.ex C.by d_Law_law_806 (lv_at hv 0 rfl) ?_
      refine lv_i2l (v := ((v2).toInt64)) C.ex C.by d_Law_law_808 rfl ?_
      refine W.lcmp C.ex C.by d_Law_law_809 ?_
      refine lv_if_eq C.ex C.by d_Law_law_810 rfl (fun hc => ?_) (fun hc => ?_)
      · replace hw := hw.1 hc
        exact b_Law_law_815 C hl _ _ _ _ _ _ hX23 hw _ _ _ _ _ (lv_sub hv [2, 3, 4, 5, 6] rfl) F
      · replace hw := hw.2 hc
        refine lv_iconst (v := (0 : Int32)) C.ex C.by d_Law_law_813 (by decide) ?_
        exact fx_zret C F d_Law_law_814 (Or.inl rfl) (Or.inl ⟨_, rfl, Or.inl rfl, hw⟩)
  · replace hw := hw.2 hc
    refine lv_iconst (v := (0 : Int32)) C.ex C.by d_Law_law_796 (by decide) ?_
    exact fx_zret C F d_Law_law_797 (Or.inl rfl) (Or.inl ⟨_, rfl, Or.inl rfl, hw⟩)
theorem b_Law_law_859 {p : Program} {l : Launch} {e : Env} {R : Room} {s : State} {m : MethodId} {args : Array Value} {below : List Frame} {meth : Method} {c : Code} {D : DD} {h0 : AH} {Q : Int32 → AH → Prop} {X23 : Int32 × AH → Prop} (C : fx_CX D y_Law_law code 8 20 848 (Option.some FieldType.boolean) [] h0 p R s m meth c) (hl : l.flags = flags0) (r0 : Nat) (r1 : Nat) (r2 : Nat) (r3 : Nat) (x4 : Int32) (h : AH) (hX23 : ∀ st, X23 st → ∀ (ls : Array Slot) (H : Heap) (locs : List Loc) (cells slots : Nat), lv_has ls 8 [(0, .ref r0), (1, .ref r1), (2, .ref r2), (3, .ref r3), (4, .int st.1)] → fx_F D h0 st.2 H locs cells slots → W p l e R s m args below meth c H locs cells slots (fx_Z D below s h0 (fx_oZ Q fx_no)) (F0 m 23 ls [])) (hw : m_Law_law_859 Q X23 r0 r1 r2 r3 x4 h) : ∀ (ls : Array Slot) (H : Heap) (locs : List Loc) (cells slots : Nat), lv_has ls 8 [(0, .ref r0), (1, .ref r1), (2, .ref r2), (3, .ref r3), (4, .int x4)] → fx_F D h0 h H locs cells slots → W p l e R s m args below meth c H locs cells slots (fx_Z D below s h0 (fx_oZ Q fx_no)) (F0 m 859 ls []) := by
  unfold m_Law_law_859 at hw
  intro ls H locs cells slots hv F
  refine lv_goto C.ex C.by d_Law_law_859 rfl ?_
  exact b_Law_law_1011 C hl _ _ _ _ _ _ hX23 hw _ _ _ _ _ hv F
theorem b_Law_law_818 {p : Program} {l : Launch} {e : Env} {R : Room} {s : State} {m : MethodId} {args : Array Value} {below : List Frame} {meth : Method} {c : Code} {D : DD} {h0 : AH} {Q : Int32 → AH → Prop} {X23 : Int32 × AH → Prop} (C : fx_CX D y_Law_law code 8 20 848 (Option.some FieldType.boolean) [] h0 p R s m meth c) (hl : l.flags = flags0) (r0 : Nat) (r1 : Nat) (r2 : Nat) (r3 : Nat) (x4 : Int32) (h : AH) (hX23 : ∀ st, X23 st → ∀ (ls : Array Slot) (H : Heap) (locs : List Loc) (cells slots : Nat), lv_has ls 8 [(0, .ref r0), (1, .ref r1), (2, .ref r2), (3, .ref r3), (4, .int st.1)] → fx_F D h0 st.2 H locs cells slots → W p l e R s m args below meth c H locs cells slots (fx_Z D below s h0 (fx_oZ Q fx_no)) (F0 m 23 ls [])) (hw : m_Law_law_818 Q X23 r0 r1 r2 r3 x4 h) : ∀ (ls : Array Slot) (H : Heap) (locs : List Loc) (cells slots : Nat), lv_has ls 8 [(0, .ref r0), (1, .ref r1), (2, .ref r2), (3, .ref r3), (4, .int x4)] → fx_F D h0 h H locs cells slots → W p l e R s m args below meth c H locs cells slots (fx_Z D below s h0 (fx_oZ Q fx_no)) (F0 m 818 ls []) := by
  unfold m_Law_law_818 at hw
  intro ls H locs cells slots hv F
  refine lv_aload_n C.ex C.by d_Law_law_818 rfl (lv_at hv 1 rfl) ?_
  refine lv_aload_n C.ex C.by d_Law_law_819 rfl (lv_at hv 3 rfl) ?_
  refine fx_callI C F (c_Law_host hl hw) hm_Law_host hi_Law_host hv.1 (by decide) (Nat.le_of_ble_eq_true rfl) (iv_Law_host C F lm_Law_112 d_Law_law_820) (fx_out0 _) fx_eno (fun v1 h1 H locs cells slots hw hx1 F => ?_)
  replace hw := hw hx1
  refine lv_istore (lv' := [(5, .int v1), (0, .ref r0), (1, .ref r1), (2, .ref r2), (3, .ref r3), (4, .int x4)]) C.ex C.by d_Law_law_823 hv (by decide) rfl (fun ls hv => ?_)
  refine lv_aload_n C.ex C.by d_Law_law_825 rfl (lv_at hv 3 rfl) ?_
  obtain ⟨hk1, hw⟩ := hw
  refine fx_callI C F (c_M_host hl hw) hm_M_host hi_M_host hv.1 (by decide) (Nat.le_of_ble_eq_true rfl) (iv_M_host C F lm_Law_114 hk1 d_Law_law_826) (fx_out0 _) fx_eno (fun v2 h2 H locs cells slots hw hx2 F => ?_)
  replace hw := hw hx2
  have hk1 := (hx2).k hk1
  refine lv_istore (lv' := [(6, .int v2), (5, .int v1), (0, .ref r0), (1, .ref r1), (2, .ref r2), (3, .ref r3), (4, .int x4)]) C.ex C.by d_Law_law_829 hv (by decide) rfl (fun ls hv => ?_)
  refine lv_aload_n C.ex C.by d_Law_law_831 rfl (lv_at hv 4 rfl) ?_
  refine fx_callI C F (c_M_thrown hl hw) hm_M_thrown hi_M_thrown hv.1 (by decide) (Nat.le_of_ble_eq_true rfl) (iv_M_thrown C F lm_Law_74 hk1 d_Law_law_832) (fx_out0 _) fx_eno (fun v3 h3 H locs cells slots hw hx3 F => ?_)
  replace hw := hw hx3
  have hk1 := (hx3).k hk1
  refine lv_iload C.ex C.by d_Law_law_835 (lv_at hv 1 rfl) ?_
  refine lv_icmp_eq C.ex C.by d_Law_law_837 rfl (fun hc => ?_) (fun hc => ?_)
  · replace hw := hw.1 hc
    refine lv_iload C.ex C.by d_Law_law_842 (lv_at hv 1 rfl) ?_
    refine lv_if_ne C.ex C.by d_Law_law_844 rfl (fun hc => ?_) (fun hc => ?_)
    · replace hw := hw.1 hc
      exact b_Law_law_859 C hl _ _ _ _ _ _ hX23 hw _ _ _ _ _ (lv_sub hv [2, 3, 4, 5, 6] rfl) F
    · replace hw := hw.2 hc
      refine lv_aload_n C.ex C.by d_Law_law_847 rfl (lv_at hv 5 rfl) ?_
      refine lv_iconst (v := (0 : Int32)) C.ex C.by d_Law_law_848 (by decide) ?_
      obtain ⟨hk2, hw⟩ := hw
      obtain ⟨hi1, hw⟩ := hw
      refine fx_lald C F hk2 hi1 d_Law_law_849 ?_
      refine lv_iload C.ex C.by d_Law_law_850 (lv_at hv 0 rfl) ?_
      refine lv_i2l (v := ((v2).toInt64)) C.ex C.by d_Law_law_852 rfl ?_
      refine W.lcmp C.ex C.by d_Law_law_853 ?_
      refine lv_if_eq C.ex C.by d_Law_law_854 rfl (fun hc => ?_) (fun hc => ?_)
      · replace hw := hw.1 hc
        exact b_Law_law_859 C hl _ _ _ _ _ _ hX23 hw _ _ _ _ _ (lv_sub hv [2, 3, 4, 5, 6] rfl) F
      · replace hw := hw.2 hc
        refine lv_iconst (v := (0 : Int32)) C.ex C.by d_Law_law_857 (by decide) ?_
        exact fx_zret C F d_Law_law_858 (Or.inl rfl) (Or.inl ⟨_, rfl, Or.inl rfl, hw⟩)
  · replace hw := hw.2 hc
    refine lv_iconst (v := (0 : Int32)) C.ex C.by d_Law_law_840 (by decide) ?_
    exact fx_zret C F d_Law_law_841 (Or.inl rfl) (Or.inl ⟨_, rfl, Or.inl rfl, hw⟩)
theorem b_Law_law_927 {p : Program} {l : Launch} {e : Env} {R : Room} {s : State} {m : MethodId} {args : Array Value} {below : List Frame} {meth : Method} {c : Code} {D : DD} {h0 : AH} {Q : Int32 → AH → Prop} {X23 : Int32 × AH → Prop} (C : fx_CX D y_Law_law code 8 20 848 (Option.some FieldType.boolean) [] h0 p R s m meth c) (hl : l.flags = flags0) (r0 : Nat) (r1 : Nat) (r2 : Nat) (r3 : Nat) (x4 : Int32) (h : AH) (hX23 : ∀ st, X23 st → ∀ (ls : Array Slot) (H : Heap) (locs : List Loc) (cells slots : Nat), lv_has ls 8 [(0, .ref r0), (1, .ref r1), (2, .ref r2), (3, .ref r3), (4, .int st.1)] → fx_F D h0 st.2 H locs cells slots → W p l e R s m args below meth c H locs cells slots (fx_Z D below s h0 (fx_oZ Q fx_no)) (F0 m 23 ls [])) (hw : m_Law_law_927 Q X23 r0 r1 r2 r3 x4 h) : ∀ (ls : Array Slot) (H : Heap) (locs : List Loc) (cells slots : Nat), lv_has ls 8 [(0, .ref r0), (1, .ref r1), (2, .ref r2), (3, .ref r3), (4, .int x4)] → fx_F D h0 h H locs cells slots → W p l e R s m args below meth c H locs cells slots (fx_Z D below s h0 (fx_oZ Q fx_no)) (F0 m 927 ls []) := by
  unfold m_Law_law_927 at hw
  intro ls H locs cells slots hv F
  refine lv_goto C.ex C.by d_Law_law_927 rfl ?_
  exact b_Law_law_1011 C hl _ _ _ _ _ _ hX23 hw _ _ _ _ _ hv F
theorem b_Law_law_862 {p : Program} {l : Launch} {e : Env} {R : Room} {s : State} {m : MethodId} {args : Array Value} {below : List Frame} {meth : Method} {c : Code} {D : DD} {h0 : AH} {Q : Int32 → AH → Prop} {X23 : Int32 × AH → Prop} (C : fx_CX D y_Law_law code 8 20 848 (Option.some FieldType.boolean) [] h0 p R s m meth c) (hl : l.flags = flags0) (r0 : Nat) (r1 : Nat) (r2 : Nat) (r3 : Nat) (x4 : Int32) (h : AH) (hX23 : ∀ st, X23 st → ∀ (ls : Array Slot) (H : Heap) (locs : List Loc) (cells slots : Nat), lv_has ls 8 [(0, .ref r0), (1, .ref r1), (2, .ref r2), (3, .ref r3), (4, .int st.1)] → fx_F D h0 st.2 H locs cells slots → W p l e R s m args below meth c H locs cells slots (fx_Z D below s h0 (fx_oZ Q fx_no)) (F0 m 23 ls [])) (hw : m_Law_law_862 Q X23 r0 r1 r2 r3 x4 h) : ∀ (ls : Array Slot) (H : Heap) (locs : List Loc) (cells slots : Nat), lv_has ls 8 [(0, .ref r0), (1, .ref r1), (2, .ref r2), (3, .ref r3), (4, .int x4)] → fx_F D h0 h H locs cells slots → W p l e R s m args below meth c H locs cells slots (fx_Z D below s h0 (fx_oZ Q fx_no)) (F0 m 862 ls []) := by
  unfold m_Law_law_862 at hw
  intro ls H locs cells slots hv F
  refine lv_aload_n C.ex C.by d_Law_law_862 rfl (lv_at hv 1 rfl) ?_
  refine lv_aload_n C.ex C.by d_Law_law_863 rfl (lv_at hv 0 rfl) ?_
  refine lv_iload C.ex C.by d_Law_law_864 (lv_at hv 4 rfl) ?_
  refine lv_iconst (v := (1 : Int32)) C.ex C.by d_Law_law_866 (by decide) ?_
  refine lv_iadd C.ex C.by d_Law_law_867 ?_
  obtain ⟨hk1, hw⟩ := hw
  obtain ⟨hi1, hw⟩ := hw
  refine fx_iald C F hk1 hi1 d_Law_law_868 ?_
  refine lv_aload_n C.ex C.by d_Law_law_869 rfl (lv_at hv 0 rfl) ?_
  refine lv_iload C.ex C.by d_Law_law_870 (lv_at hv 4 rfl) ?_
  refine lv_iconst (v := (2 : Int32)) C.ex C.by d_Law_law_872 (by decide) ?_
  refine lv_iadd C.ex C.by d_Law_law_873 ?_
  obtain ⟨hi2, hw⟩ := hw
  refine fx_iald C F hk1 hi2 d_Law_law_874 ?_
  refine lv_aload_n C.ex C.by d_Law_law_875 rfl (lv_at hv 3 rfl) ?_
  refine fx_callI C F (c_Law_judge hl hw) hm_Law_judge hi_Law_judge hv.1 (by decide) (Nat.le_of_ble_eq_true rfl) (iv_Law_judge C F lm_Law_115 d_Law_law_876) (fx_out0 _) fx_eno (fun v1 h1 H locs cells slots hw hx1 F => ?_)
  replace hw := hw hx1
  have hk1 := (hx1).gi hk1
  refine lv_istore (lv' := [(5, .int v1), (0, .ref r0), (1, .ref r1), (2, .ref r2), (3, .ref r3), (4, .int x4)]) C.ex C.by d_Law_law_879 hv (by decide) rfl (fun ls hv => ?_)
  refine lv_aload_n C.ex C.by d_Law_law_881 rfl (lv_at hv 3 rfl) ?_
  refine lv_aload_n C.ex C.by d_Law_law_882 rfl (lv_at hv 1 rfl) ?_
  refine lv_iload C.ex C.by d_Law_law_883 (lv_at hv 5 rfl) ?_
  refine lv_iconst (v := (1 : Int32)) C.ex C.by d_Law_law_885 (by decide) ?_
  refine lv_iadd C.ex C.by d_Law_law_886 ?_
  obtain ⟨hi3, hw⟩ := hw
  refine fx_iald C F hk1 hi3 d_Law_law_887 ?_
  refine lv_aload_n C.ex C.by d_Law_law_888 rfl (lv_at hv 1 rfl) ?_
  refine lv_iload C.ex C.by d_Law_law_889 (lv_at hv 5 rfl) ?_
  refine lv_iconst (v := (2 : Int32)) C.ex C.by d_Law_law_891 (by decide) ?_
  refine lv_iadd C.ex C.by d_Law_law_892 ?_
  obtain ⟨hi4, hw⟩ := hw
  refine fx_iald C F hk1 hi4 d_Law_law_893 ?_
  obtain ⟨hk2, hw⟩ := hw
  refine fx_callI C F (c_M_judge hl hw) hm_M_judge hi_M_judge hv.1 (by decide) (Nat.le_of_ble_eq_true rfl) (iv_M_judge C F lm_Law_117 hk2 d_Law_law_894) (fx_out0 _) fx_eno (fun v2 h2 H locs cells slots hw hx2 F => ?_)
  replace hw := hw hx2
  have hk1 := (hx2).gi hk1
  have hk2 := (hx2).k hk2
  refine lv_istore (lv' := [(6, .int v2), (5, .int v1), (0, .ref r0), (1, .ref r1), (2, .ref r2), (3, .ref r3), (4, .int x4)]) C.ex C.by d_Law_law_897 hv (by decide) rfl (fun ls hv => ?_)
  refine lv_aload_n C.ex C.by d_Law_law_899 rfl (lv_at hv 4 rfl) ?_
  refine fx_callI C F (c_M_thrown hl hw) hm_M_thrown hi_M_thrown hv.1 (by decide) (Nat.le_of_ble_eq_true rfl) (iv_M_thrown C F lm_Law_74 hk2 d_Law_law_900) (fx_out0 _) fx_eno (fun v3 h3 H locs cells slots hw hx3 F => ?_)
  replace hw := hw hx3
  have hk1 := (hx3).gi hk1
  have hk2 := (hx3).k hk2
  refine lv_iload C.ex C.by d_Law_law_903 (lv_at hv 1 rfl) ?_
  refine lv_icmp_eq C.ex C.by d_Law_law_905 rfl (fun hc => ?_) (fun hc => ?_)
  · replace hw := hw.1 hc
    refine lv_iload C.ex C.by d_Law_law_910 (lv_at hv 1 rfl) ?_
    refine lv_if_ne C.ex C.by d_Law_law_912 rfl (fun hc => ?_) (fun hc => ?_)
    · replace hw := hw.1 hc
      exact b_Law_law_927 C hl _ _ _ _ _ _ hX23 hw _ _ _ _ _ (lv_sub hv [2, 3, 4, 5, 6] rfl) F
    · replace hw := hw.2 hc
      refine lv_aload_n C.ex C.by d_Law_law_915 rfl (lv_at hv 5 rfl) ?_
      refine lv_iconst (v := (0 : Int32)) C.ex C.by d_Law_law_916 (by decide) ?_
      obtain ⟨hk3, hw⟩ := hw
      obtain ⟨hi5, hw⟩ := hw
      refine fx_lald C F hk3 hi5 d_Law_law_917 ?_
      refine lv_iload C.ex C.by d_Law_law_918 (lv_at hv 0 rfl) ?_
      refine lv_i2l (v := ((v2).toInt64)) C.ex C.by d_Law_law_920 rfl ?_
      refine W.lcmp C.ex C.by d_Law_law_921 ?_
      refine lv_if_eq C.ex C.by d_Law_law_922 rfl (fun hc => ?_) (fun hc => ?_)
      · replace hw := hw.1 hc
        exact b_Law_law_927 C hl _ _ _ _ _ _ hX23 hw _ _ _ _ _ (lv_sub hv [2, 3, 4, 5, 6] rfl) F
      · replace hw := hw.2 hc
        refine lv_iconst (v := (0 : Int32)) C.ex C.by d_Law_law_925 (by decide) ?_
        exact fx_zret C F d_Law_law_926 (Or.inl rfl) (Or.inl ⟨_, rfl, Or.inl rfl, hw⟩)
  · replace hw := hw.2 hc
    refine lv_iconst (v := (0 : Int32)) C.ex C.by d_Law_law_908 (by decide) ?_
    exact fx_zret C F d_Law_law_909 (Or.inl rfl) (Or.inl ⟨_, rfl, Or.inl rfl, hw⟩)
theorem b_Law_law_983 {p : Program} {l : Launch} {e : Env} {R : Room} {s : State} {m : MethodId} {args : Array Value} {below : List Frame} {meth : Method} {c : Code} {D : DD} {h0 : AH} {Q : Int32 → AH → Prop} {X23 : Int32 × AH → Prop} (C : fx_CX D y_Law_law code 8 20 848 (Option.some FieldType.boolean) [] h0 p R s m meth c) (hl : l.flags = flags0) (r0 : Nat) (r1 : Nat) (r2 : Nat) (r3 : Nat) (x4 : Int32) (h : AH) (hX23 : ∀ st, X23 st → ∀ (ls : Array Slot) (H : Heap) (locs : List Loc) (cells slots : Nat), lv_has ls 8 [(0, .ref r0), (1, .ref r1), (2, .ref r2), (3, .ref r3), (4, .int st.1)] → fx_F D h0 st.2 H locs cells slots → W p l e R s m args below meth c H locs cells slots (fx_Z D below s h0 (fx_oZ Q fx_no)) (F0 m 23 ls [])) (hw : m_Law_law_983 Q X23 r0 r1 r2 r3 x4 h) : ∀ (ls : Array Slot) (H : Heap) (locs : List Loc) (cells slots : Nat), lv_has ls 8 [(0, .ref r0), (1, .ref r1), (2, .ref r2), (3, .ref r3), (4, .int x4)] → fx_F D h0 h H locs cells slots → W p l e R s m args below meth c H locs cells slots (fx_Z D below s h0 (fx_oZ Q fx_no)) (F0 m 983 ls []) := by
  unfold m_Law_law_983 at hw
  intro ls H locs cells slots hv F
  refine lv_goto C.ex C.by d_Law_law_983 rfl ?_
  exact b_Law_law_1011 C hl _ _ _ _ _ _ hX23 hw _ _ _ _ _ hv F
theorem b_Law_law_930 {p : Program} {l : Launch} {e : Env} {R : Room} {s : State} {m : MethodId} {args : Array Value} {below : List Frame} {meth : Method} {c : Code} {D : DD} {h0 : AH} {Q : Int32 → AH → Prop} {X23 : Int32 × AH → Prop} (C : fx_CX D y_Law_law code 8 20 848 (Option.some FieldType.boolean) [] h0 p R s m meth c) (hl : l.flags = flags0) (r0 : Nat) (r1 : Nat) (r2 : Nat) (r3 : Nat) (x4 : Int32) (h : AH) (hX23 : ∀ st, X23 st → ∀ (ls : Array Slot) (H : Heap) (locs : List Loc) (cells slots : Nat), lv_has ls 8 [(0, .ref r0), (1, .ref r1), (2, .ref r2), (3, .ref r3), (4, .int st.1)] → fx_F D h0 st.2 H locs cells slots → W p l e R s m args below meth c H locs cells slots (fx_Z D below s h0 (fx_oZ Q fx_no)) (F0 m 23 ls [])) (hw : m_Law_law_930 Q X23 r0 r1 r2 r3 x4 h) : ∀ (ls : Array Slot) (H : Heap) (locs : List Loc) (cells slots : Nat), lv_has ls 8 [(0, .ref r0), (1, .ref r1), (2, .ref r2), (3, .ref r3), (4, .int x4)] → fx_F D h0 h H locs cells slots → W p l e R s m args below meth c H locs cells slots (fx_Z D below s h0 (fx_oZ Q fx_no)) (F0 m 930 ls []) := by
  unfold m_Law_law_930 at hw
  intro ls H locs cells slots hv F
  refine lv_aload_n C.ex C.by d_Law_law_930 rfl (lv_at hv 1 rfl) ?_
  refine lv_aload_n C.ex C.by d_Law_law_931 rfl (lv_at hv 0 rfl) ?_
  refine lv_iload C.ex C.by d_Law_law_932 (lv_at hv 4 rfl) ?_
  refine lv_iconst (v := (1 : Int32)) C.ex C.by d_Law_law_934 (by decide) ?_
  refine lv_iadd C.ex C.by d_Law_law_935 ?_
  obtain ⟨hk1, hw⟩ := hw
  obtain ⟨hi1, hw⟩ := hw
  refine fx_iald C F hk1 hi1 d_Law_law_936 ?_
  refine lv_aload_n C.ex C.by d_Law_law_937 rfl (lv_at hv 3 rfl) ?_
  refine fx_callI C F (c_Law_path hl hw) hm_Law_path hi_Law_path hv.1 (by decide) (Nat.le_of_ble_eq_true rfl) (iv_Law_path C F lm_Law_118 d_Law_law_938) (fx_out0 _) fx_eno (fun v1 h1 H locs cells slots hw hx1 F => ?_)
  replace hw := hw hx1
  have hk1 := (hx1).gi hk1
  refine lv_istore (lv' := [(5, .int v1), (0, .ref r0), (1, .ref r1), (2, .ref r2), (3, .ref r3), (4, .int x4)]) C.ex C.by d_Law_law_941 hv (by decide) rfl (fun ls hv => ?_)
  refine lv_aload_n C.ex C.by d_Law_law_943 rfl (lv_at hv 3 rfl) ?_
  refine lv_aload_n C.ex C.by d_Law_law_944 rfl (lv_at hv 1 rfl) ?_
  refine lv_iload C.ex C.by d_Law_law_945 (lv_at hv 5 rfl) ?_
  refine lv_iconst (v := (1 : Int32)) C.ex C.by d_Law_law_947 (by decide) ?_
  refine lv_iadd C.ex C.by d_Law_law_948 ?_
  obtain ⟨hi2, hw⟩ := hw
  refine fx_iald C F hk1 hi2 d_Law_law_949 ?_
  obtain ⟨hk2, hw⟩ := hw
  refine fx_callI C F (c_M_path hl hw) hm_M_path hi_M_path hv.1 (by decide) (Nat.le_of_ble_eq_true rfl) (iv_M_path C F lm_Law_120 hk2 d_Law_law_950) (fx_out0 _) fx_eno (fun v2 h2 H locs cells slots hw hx2 F => ?_)
  replace hw := hw hx2
  have hk1 := (hx2).gi hk1
  have hk2 := (hx2).k hk2
  refine lv_istore (lv' := [(6, .int v2), (5, .int v1), (0, .ref r0), (1, .ref r1), (2, .ref r2), (3, .ref r3), (4, .int x4)]) C.ex C.by d_Law_law_953 hv (by decide) rfl (fun ls hv => ?_)
  refine lv_aload_n C.ex C.by d_Law_law_955 rfl (lv_at hv 4 rfl) ?_
  refine fx_callI C F (c_M_thrown hl hw) hm_M_thrown hi_M_thrown hv.1 (by decide) (Nat.le_of_ble_eq_true rfl) (iv_M_thrown C F lm_Law_74 hk2 d_Law_law_956) (fx_out0 _) fx_eno (fun v3 h3 H locs cells slots hw hx3 F => ?_)
  replace hw := hw hx3
  have hk1 := (hx3).gi hk1
  have hk2 := (hx3).k hk2
  refine lv_iload C.ex C.by d_Law_law_959 (lv_at hv 1 rfl) ?_
  refine lv_icmp_eq C.ex C.by d_Law_law_961 rfl (fun hc => ?_) (fun hc => ?_)
  · replace hw := hw.1 hc
    refine lv_iload C.ex C.by d_Law_law_966 (lv_at hv 1 rfl) ?_
    refine lv_if_ne C.ex C.by d_Law_law_968 rfl (fun hc => ?_) (fun hc => ?_)
    · replace hw := hw.1 hc
      exact b_Law_law_983 C hl _ _ _ _ _ _ hX23 hw _ _ _ _ _ (lv_sub hv [2, 3, 4, 5, 6] rfl) F
    · replace hw := hw.2 hc
      refine lv_aload_n C.ex C.by d_Law_law_971 rfl (lv_at hv 5 rfl) ?_
      refine lv_iconst (v := (0 : Int32)) C.ex C.by d_Law_law_972 (by decide) ?_
      obtain ⟨hk3, hw⟩ := hw
      obtain ⟨hi3, hw⟩ := hw
      refine fx_lald C F hk3 hi3 d_Law_law_973 ?_
      refine lv_iload C.ex C.by d_Law_law_974 (lv_at hv 0 rfl) ?_
      refine lv_i2l (v := ((v2).toInt64)) C.ex C.by d_Law_law_976 rfl ?_
      refine W.lcmp C.ex C.by d_Law_law_977 ?_
      refine lv_if_eq C.ex C.by d_Law_law_978 rfl (fun hc => ?_) (fun hc => ?_)
      · replace hw := hw.1 hc
        exact b_Law_law_983 C hl _ _ _ _ _ _ hX23 hw _ _ _ _ _ (lv_sub hv [2, 3, 4, 5, 6] rfl) F
      · replace hw := hw.2 hc
        refine lv_iconst (v := (0 : Int32)) C.ex C.by d_Law_law_981 (by decide) ?_
        exact fx_zret C F d_Law_law_982 (Or.inl rfl) (Or.inl ⟨_, rfl, Or.inl rfl, hw⟩)
  · replace hw := hw.2 hc
    refine lv_iconst (v := (0 : Int32)) C.ex C.by d_Law_law_964 (by decide) ?_
    exact fx_zret C F d_Law_law_965 (Or.inl rfl) (Or.inl ⟨_, rfl, Or.inl rfl, hw⟩)
theorem b_Law_law_986 {p : Program} {l : Launch} {e : Env} {R : Room} {s : State} {m : MethodId} {args : Array Value} {below : List Frame} {meth : Method} {c : Code} {D : DD} {h0 : AH} {Q : Int32 → AH → Prop} {X23 : Int32 × AH → Prop} (C : fx_CX D y_Law_law code 8 20 848 (Option.some FieldType.boolean) [] h0 p R s m meth c) (hl : l.flags = flags0) (r0 : Nat) (r1 : Nat) (r2 : Nat) (r3 : Nat) (x4 : Int32) (h : AH) (hX23 : ∀ st, X23 st → ∀ (ls : Array Slot) (H : Heap) (locs : List Loc) (cells slots : Nat), lv_has ls 8 [(0, .ref r0), (1, .ref r1), (2, .ref r2), (3, .ref r3), (4, .int st.1)] → fx_F D h0 st.2 H locs cells slots → W p l e R s m args below meth c H locs cells slots (fx_Z D below s h0 (fx_oZ Q fx_no)) (F0 m 23 ls [])) (hw : m_Law_law_986 Q X23 r0 r1 r2 r3 x4 h) : ∀ (ls : Array Slot) (H : Heap) (locs : List Loc) (cells slots : Nat), lv_has ls 8 [(0, .ref r0), (1, .ref r1), (2, .ref r2), (3, .ref r3), (4, .int x4)] → fx_F D h0 h H locs cells slots → W p l e R s m args below meth c H locs cells slots (fx_Z D below s h0 (fx_oZ Q fx_no)) (F0 m 986 ls []) := by
  unfold m_Law_law_986 at hw
  intro ls H locs cells slots hv F
  refine lv_aload_n C.ex C.by d_Law_law_986 rfl (lv_at hv 1 rfl) ?_
  refine lv_aload_n C.ex C.by d_Law_law_987 rfl (lv_at hv 0 rfl) ?_
  refine lv_iload C.ex C.by d_Law_law_988 (lv_at hv 4 rfl) ?_
  refine lv_iconst (v := (1 : Int32)) C.ex C.by d_Law_law_990 (by decide) ?_
  refine lv_iadd C.ex C.by d_Law_law_991 ?_
  obtain ⟨hk1, hw⟩ := hw
  obtain ⟨hi1, hw⟩ := hw
  refine fx_iald C F hk1 hi1 d_Law_law_992 ?_
  obtain ⟨hk2, hw⟩ := hw
  refine fx_callI C F (c_J_count hl hw) hm_J_count hi_J_count hv.1 (by decide) (Nat.le_of_ble_eq_true rfl) (iv_J_count C F lm_Law_121 hk2 d_Law_law_993) (fx_out0 _) fx_eno (fun v1 h1 H locs cells slots hw hx1 F => ?_)
  replace hw := hw hx1
  have hk1 := (hx1).gi hk1
  have hk2 := (hx1).k hk2
  refine lv_aload_n C.ex C.by d_Law_law_996 rfl (lv_at hv 2 rfl) ?_
  refine lv_aload_n C.ex C.by d_Law_law_997 rfl (lv_at hv 0 rfl) ?_
  refine lv_iload C.ex C.by d_Law_law_998 (lv_at hv 4 rfl) ?_
  refine lv_iconst (v := (1 : Int32)) C.ex C.by d_Law_law_1000 (by decide) ?_
  refine lv_iadd C.ex C.by d_Law_law_1001 ?_
  obtain ⟨hi2, hw⟩ := hw
  refine fx_iald C F hk1 hi2 d_Law_law_1002 ?_
  obtain ⟨hk3, hw⟩ := hw
  refine fx_callI C F (c_M_count hl hw) hm_M_count hi_M_count hv.1 (by decide) (Nat.le_of_ble_eq_true rfl) (iv_M_count C F lm_Law_124 hk3 d_Law_law_1003) (fx_out0 _) fx_eno (fun v2 h2 H locs cells slots hw hx2 F => ?_)
  replace hw := hw hx2
  have hk1 := (hx2).gi hk1
  have hk2 := (hx2).k hk2
  have hk3 := (hx2).k hk3
  refine lv_icmp_eq C.ex C.by d_Law_law_1006 rfl (fun hc => ?_) (fun hc => ?_)
  · replace hw := hw.1 hc
    exact b_Law_law_1011 C hl _ _ _ _ _ _ hX23 hw _ _ _ _ _ hv F
  · replace hw := hw.2 hc
    refine lv_iconst (v := (0 : Int32)) C.ex C.by d_Law_law_1009 (by decide) ?_
    exact fx_zret C F d_Law_law_1010 (Or.inl rfl) (Or.inl ⟨_, rfl, Or.inl rfl, hw⟩)
theorem b_Law_law_23 {p : Program} {l : Launch} {e : Env} {R : Room} {s : State} {m : MethodId} {args : Array Value} {below : List Frame} {meth : Method} {c : Code} {D : DD} {h0 : AH} {Q : Int32 → AH → Prop} (C : fx_CX D y_Law_law code 8 20 848 (Option.some FieldType.boolean) [] h0 p R s m meth c) (hl : l.flags = flags0) (r0 : Nat) (r1 : Nat) (r2 : Nat) (r3 : Nat) (x4 : Int32) (h : AH) (hw : m_Law_law_23 Q r0 r1 r2 r3 x4 h) : ∀ (ls : Array Slot) (H : Heap) (locs : List Loc) (cells slots : Nat), lv_has ls 8 [(0, .ref r0), (1, .ref r1), (2, .ref r2), (3, .ref r3), (4, .int x4)] → fx_F D h0 h H locs cells slots → W p l e R s m args below meth c H locs cells slots (fx_Z D below s h0 (fx_oZ Q fx_no)) (F0 m 23 ls []) := by
  refine fx_loop.use hw (fun st => ∀ (ls : Array Slot) (H : Heap) (locs : List Loc) (cells slots : Nat), lv_has ls 8 [(0, .ref r0), (1, .ref r1), (2, .ref r2), (3, .ref r3), (4, .int st.1)] → fx_F D h0 st.2 H locs cells slots → W p l e R s m args below meth c H locs cells slots (fx_Z D below s h0 (fx_oZ Q fx_no)) (F0 m 23 ls [])) (fun X23 st hX23 hw => ?_)
  obtain ⟨x4, h⟩ := st
  replace hw : m_Law_law_23_b Q X23 r0 r1 r2 r3 x4 h := hw
  unfold m_Law_law_23_b at hw
  intro ls H locs cells slots hv F
  refine lv_iload C.ex C.by d_Law_law_23 (lv_at hv 4 rfl) ?_
  refine lv_aload_n C.ex C.by d_Law_law_25 rfl (lv_at hv 0 rfl) ?_
  obtain ⟨hk1, hw⟩ := hw
  refine fx_alen C F hk1.gt d_Law_law_26 ?_
  refine lv_bipush (v := (6 : Int32)) C.ex C.by d_Law_law_27 (by decide) ?_
  refine lv_isub C.ex C.by d_Law_law_29 ?_
  refine lv_icmp_gt C.ex C.by d_Law_law_30 rfl (fun hc => ?_) (fun hc => ?_)
  · replace hw := hw.1 hc
    refine lv_iconst (v := (1 : Int32)) C.ex C.by d_Law_law_1017 (by decide) ?_
    exact fx_zret C F d_Law_law_1018 (Or.inr rfl) (Or.inl ⟨_, rfl, Or.inr rfl, hw⟩)
  · replace hw := hw.2 hc
    refine lv_aload_n C.ex C.by d_Law_law_33 rfl (lv_at hv 0 rfl) ?_
    refine lv_iload C.ex C.by d_Law_law_34 (lv_at hv 4 rfl) ?_
    obtain ⟨hi1, hw⟩ := hw
    refine fx_iald C F hk1 hi1 d_Law_law_36 ?_
    refine lv_bipush (v := (15 : Int32)) C.ex C.by d_Law_law_37 (by decide) ?_
    refine lv_iand C.ex C.by d_Law_law_39 ?_
    by_cases hs0 : ((hp_I h r0 x4.toNatClampNeg) &&& (15 : Int32)) = (0 : Int32)
    · replace hw := hw.1 hs0
      refine lv_tableIn (off := 76) (tgt := 116) C.ex C.by d_Law_law_40 (by rw [hs0]; decide) (by rw [hs0]; decide) (by rw [hs0]; rfl) rfl ?_
      exact b_Law_law_116 C hl _ _ _ _ _ _ hX23 hw _ _ _ _ _ hv F
    by_cases hs1 : ((hp_I h r0 x4.toNatClampNeg) &&& (15 : Int32)) = (1 : Int32)
    · replace hw := hw.2.1 hs1
      refine lv_tableIn (off := 180) (tgt := 220) C.ex C.by d_Law_law_40 (by rw [hs1]; decide) (by rw [hs1]; decide) (by rw [hs1]; rfl) rfl ?_
      exact b_Law_law_220 C hl _ _ _ _ _ _ hX23 hw _ _ _ _ _ hv F
    by_cases hs2 : ((hp_I h r0 x4.toNatClampNeg) &&& (15 : Int32)) = (2 : Int32)
    · replace hw := hw.2.2.1 hs2
      refine lv_tableIn (off := 236) (tgt := 276) C.ex C.by d_Law_law_40 (by rw [hs2]; decide) (by rw [hs2]; decide) (by rw [hs2]; rfl) rfl ?_
      exact b_Law_law_276 C hl _ _ _ _ _ _ hX23 hw _ _ _ _ _ hv F
    by_cases hs3 : ((hp_I h r0 x4.toNatClampNeg) &&& (15 : Int32)) = (3 : Int32)
    · replace hw := hw.2.2.2.1 hs3
      refine lv_tableIn (off := 280) (tgt := 320) C.ex C.by d_Law_law_40 (by rw [hs3]; decide) (by rw [hs3]; decide) (by rw [hs3]; rfl) rfl ?_
      exact b_Law_law_320 C hl _ _ _ _ _ _ hX23 hw _ _ _ _ _ hv F
    by_cases hs4 : ((hp_I h r0 x4.toNatClampNeg) &&& (15 : Int32)) = (4 : Int32)
    · replace hw := hw.2.2.2.2.1 hs4
      refine lv_tableIn (off := 384) (tgt := 424) C.ex C.by d_Law_law_40 (by rw [hs4]; decide) (by rw [hs4]; decide) (by rw [hs4]; rfl) rfl ?_
      exact b_Law_law_424 C hl _ _ _ _ _ _ hX23 hw _ _ _ _ _ hv F
    by_cases hs5 : ((hp_I h r0 x4.toNatClampNeg) &&& (15 : Int32)) = (5 : Int32)
    · replace hw := hw.2.2.2.2.2.1 hs5
      refine lv_tableIn (off := 440) (tgt := 480) C.ex C.by d_Law_law_40 (by rw [hs5]; decide) (by rw [hs5]; decide) (by rw [hs5]; rfl) rfl ?_
      exact b_Law_law_480 C hl _ _ _ _ _ _ hX23 hw _ _ _ _ _ hv F
    by_cases hs6 : ((hp_I h r0 x4.toNatClampNeg) &&& (15 : Int32)) = (6 : Int32)
    · replace hw := hw.2.2.2.2.2.2.1 hs6
      refine lv_tableIn (off := 520) (tgt := 560) C.ex C.by d_Law_law_40 (by rw [hs6]; decide) (by rw [hs6]; decide) (by rw [hs6]; rfl) rfl ?_
      exact b_Law_law_560 C hl _ _ _ _ _ _ hX23 hw _ _ _ _ _ hv F
    by_cases hs7 : ((hp_I h r0 x4.toNatClampNeg) &&& (15 : Int32)) = (7 : Int32)
    · replace hw := hw.2.2.2.2.2.2.2.1 hs7
      refine lv_tableIn (off := 588) (tgt := 628) C.ex C.by d_Law_law_40 (by rw [hs7]; decide) (by rw [hs7]; decide) (by rw [hs7]; rfl) rfl ?_
      exact b_Law_law_628 C hl _ _ _ _ _ _ hX23 hw _ _ _ _ _ hv F
    by_cases hs8 : ((hp_I h r0 x4.toNatClampNeg) &&& (15 : Int32)) = (8 : Int32)
    · replace hw := hw.2.2.2.2.2.2.2.2.1 hs8
      refine lv_tableIn (off := 655) (tgt := 695) C.ex C.by d_Law_law_40 (by rw [hs8]; decide) (by rw [hs8]; decide) (by rw [hs8]; rfl) rfl ?_
      exact b_Law_law_695 C hl _ _ _ _ _ _ hX23 hw _ _ _ _ _ hv F
    by_cases hs9 : ((hp_I h r0 x4.toNatClampNeg) &&& (15 : Int32)) = (9 : Int32)
    · replace hw := hw.2.2.2.2.2.2.2.2.2.1 hs9
      refine lv_tableIn (off := 711) (tgt := 751) C.ex C.by d_Law_law_40 (by rw [hs9]; decide) (by rw [hs9]; decide) (by rw [hs9]; rfl) rfl ?_
      exact b_Law_law_751 C hl _ _ _ _ _ _ hX23 hw _ _ _ _ _ hv F
    by_cases hs10 : ((hp_I h r0 x4.toNatClampNeg) &&& (15 : Int32)) = (10 : Int32)
    · replace hw := hw.2.2.2.2.2.2.2.2.2.2.1 hs10
      refine lv_tableIn (off := 722) (tgt := 762) C.ex C.by d_Law_law_40 (by rw [hs10]; decide) (by rw [hs10]; decide) (by rw [hs10]; rfl) rfl ?_
      exact b_Law_law_762 C hl _ _ _ _ _ _ hX23 hw _ _ _ _ _ hv F
    by_cases hs11 : ((hp_I h r0 x4.toNatClampNeg) &&& (15 : Int32)) = (11 : Int32)
    · replace hw := hw.2.2.2.2.2.2.2.2.2.2.2.1 hs11
      refine lv_tableIn (off := 778) (tgt := 818) C.ex C.by d_Law_law_40 (by rw [hs11]; decide) (by rw [hs11]; decide) (by rw [hs11]; rfl) rfl ?_
      exact b_Law_law_818 C hl _ _ _ _ _ _ hX23 hw _ _ _ _ _ hv F
    by_cases hs12 : ((hp_I h r0 x4.toNatClampNeg) &&& (15 : Int32)) = (12 : Int32)
    · replace hw := hw.2.2.2.2.2.2.2.2.2.2.2.2.1 hs12
      refine lv_tableIn (off := 822) (tgt := 862) C.ex C.by d_Law_law_40 (by rw [hs12]; decide) (by rw [hs12]; decide) (by rw [hs12]; rfl) rfl ?_
      exact b_Law_law_862 C hl _ _ _ _ _ _ hX23 hw _ _ _ _ _ hv F
    by_cases hs13 : ((hp_I h r0 x4.toNatClampNeg) &&& (15 : Int32)) = (13 : Int32)
    · replace hw := hw.2.2.2.2.2.2.2.2.2.2.2.2.2.1 hs13
      refine lv_tableIn (off := 890) (tgt := 930) C.ex C.by d_Law_law_40 (by rw [hs13]; decide) (by rw [hs13]; decide) (by rw [hs13]; rfl) rfl ?_
      exact b_Law_law_930 C hl _ _ _ _ _ _ hX23 hw _ _ _ _ _ hv F
    by_cases hs14 : ((hp_I h r0 x4.toNatClampNeg) &&& (15 : Int32)) = (14 : Int32)
    · replace hw := hw.2.2.2.2.2.2.2.2.2.2.2.2.2.2.1 hs14
      refine lv_tableIn (off := 946) (tgt := 986) C.ex C.by d_Law_law_40 (by rw [hs14]; decide) (by rw [hs14]; decide) (by rw [hs14]; rfl) rfl ?_
      exact b_Law_law_986 C hl _ _ _ _ _ _ hX23 hw _ _ _ _ _ hv F
    have hno : ∀ k ∈ ([(0 : Int32), (1 : Int32), (2 : Int32), (3 : Int32), (4 : Int32), (5 : Int32), (6 : Int32), (7 : Int32), (8 : Int32), (9 : Int32), (10 : Int32), (11 : Int32), (12 : Int32), (13 : Int32), (14 : Int32)] : List Int32), ¬ ((hp_I h r0 x4.toNatClampNeg) &&& (15 : Int32)) = k := by
      intro k hk
      simp only [List.mem_cons, List.not_mem_nil, or_false] at hk
      rcases hk with rfl | rfl | rfl | rfl | rfl | rfl | rfl | rfl | rfl | rfl | rfl | rfl | rfl | rfl | rfl
      · exact hs0
      · exact hs1
      · exact hs2
      · exact hs3
      · exact hs4
      · exact hs5
      · exact hs6
      · exact hs7
      · exact hs8
      · exact hs9
      · exact hs10
      · exact hs11
      · exact hs12
      · exact hs13
      · exact hs14
    replace hw := hw.2.2.2.2.2.2.2.2.2.2.2.2.2.2.2 hno
    refine lv_tableOut (tgt := 1011) C.ex C.by d_Law_law_40 (fx_sw [(0 : Int32), (1 : Int32), (2 : Int32), (3 : Int32), (4 : Int32), (5 : Int32), (6 : Int32), (7 : Int32), (8 : Int32), (9 : Int32), (10 : Int32), (11 : Int32), (12 : Int32), (13 : Int32), (14 : Int32)] (by intro z h1 h2; rcases (show z = 0 ∨ z = 1 ∨ z = 2 ∨ z = 3 ∨ z = 4 ∨ z = 5 ∨ z = 6 ∨ z = 7 ∨ z = 8 ∨ z = 9 ∨ z = 10 ∨ z = 11 ∨ z = 12 ∨ z = 13 ∨ z = 14 by omega) with rfl | rfl | rfl | rfl | rfl | rfl | rfl | rfl | rfl | rfl | rfl | rfl | rfl | rfl | rfl; exact ⟨(0 : Int32), by decide, by decide⟩; exact ⟨(1 : Int32), by decide, by decide⟩; exact ⟨(2 : Int32), by decide, by decide⟩; exact ⟨(3 : Int32), by decide, by decide⟩; exact ⟨(4 : Int32), by decide, by decide⟩; exact ⟨(5 : Int32), by decide, by decide⟩; exact ⟨(6 : Int32), by decide, by decide⟩; exact ⟨(7 : Int32), by decide, by decide⟩; exact ⟨(8 : Int32), by decide, by decide⟩; exact ⟨(9 : Int32), by decide, by decide⟩; exact ⟨(10 : Int32), by decide, by decide⟩; exact ⟨(11 : Int32), by decide, by decide⟩; exact ⟨(12 : Int32), by decide, by decide⟩; exact ⟨(13 : Int32), by decide, by decide⟩; exact ⟨(14 : Int32), by decide, by decide⟩) hno) rfl ?_
    exact b_Law_law_1011 C hl _ _ _ _ _ _ hX23 hw _ _ _ _ _ hv F
theorem b_Law_law_0 {p : Program} {l : Launch} {e : Env} {R : Room} {s : State} {m : MethodId} {args : Array Value} {below : List Frame} {meth : Method} {c : Code} {D : DD} {h0 : AH} {Q : Int32 → AH → Prop} (C : fx_CX D y_Law_law code 8 20 848 (Option.some FieldType.boolean) [] h0 p R s m meth c) (hl : l.flags = flags0) (r0 : Nat) (h : AH) (hw : m_Law_law Q r0 h) : ∀ (ls : Array Slot) (H : Heap) (locs : List Loc) (cells slots : Nat), lv_has ls 8 [(0, .ref r0)] → fx_F D h0 h H locs cells slots → W p l e R s m args below meth c H locs cells slots (fx_Z D below s h0 (fx_oZ Q fx_no)) (F0 m 0 ls []) := by
  unfold m_Law_law at hw
  intro ls H locs cells slots hv F
  obtain ⟨hs, hw⟩ := hw
  let q1 : Nat := hp_z h
  let h1 : AH := up_N h 1 0 16
  replace hw := hw F.wf q1 rfl h1 rfl
  have hkq1 : hp_k h1 q1 = 1 := fx_nk _ _ _ _
  refine fx_new (ci := 0) (r := ("ChainJudge", fx_T0, 16)) C F rfl (fx_m1 (List.mem_of_getElem? (i := 32) rfl)) (fx_m1 (List.mem_of_getElem? (i := 33) rfl)) (fx_m1 (List.mem_of_getElem? (i := 1) rfl)) hs d_Law_law_0 (fun H cells slots (F : fx_F D h0 h1 H locs cells slots) => ?_)
  refine lv_dup C.ex C.by d_Law_law_3 rfl ?_
  refine fx_callV C F (c_J_init hl hw) hm_J_init hi_J_init hv.1 (by decide) (Nat.le_of_ble_eq_true rfl) (iv_J_init C F lm_Law_64 d_Law_law_4) (fx_out0 _) fx_eno (fun h2 H locs cells slots hw hx1 F => ?_)
  replace hw := hw hx1
  have hkq1 := (hx1).k hkq1
  refine lv_astore_n (lv' := [(1, .ref q1), (0, .ref r0)]) C.ex C.by d_Law_law_7 rfl hv (by decide) rfl (fun ls hv => ?_)
  obtain ⟨hs, hw⟩ := hw
  let q2 : Nat := hp_z h2
  let h3 : AH := up_N h2 13 0 57
  replace hw := hw F.wf q2 rfl h3 rfl
  have hkq1 := (F.xN (k := 13) (n := 0) (m := 57)).k hkq1
  have hkq2 : hp_k h3 q2 = 13 := fx_nk _ _ _ _
  refine fx_new (ci := 12) (r := ("ChainJudgeModel", fx_T12, 57)) C F rfl (fx_m5 (List.mem_of_getElem? (i := 216) rfl)) (fx_m5 (List.mem_of_getElem? (i := 217) rfl)) (fx_m1 (List.mem_of_getElem? (i := 15) rfl)) hs d_Law_law_8 (fun H cells slots (F : fx_F D h0 h3 H locs cells slots) => ?_)
  refine lv_dup C.ex C.by d_Law_law_11 rfl ?_
  refine fx_callV C F (c_M_init hl hw) hm_M_init hi_M_init hv.1 (by decide) (Nat.le_of_ble_eq_true rfl) (iv_M_init C F lm_Law_67 d_Law_law_12) (fx_out0 _) fx_eno (fun h4 H locs cells slots hw hx2 F => ?_)
  replace hw := hw hx2
  have hkq1 := (hx2).k hkq1
  have hkq2 := (hx2).k hkq2
  refine lv_astore_n (lv' := [(2, .ref q2), (1, .ref q1), (0, .ref r0)]) C.ex C.by d_Law_law_15 rfl hv (by decide) rfl (fun ls hv => ?_)
  refine lv_iconst (v := (1 : Int32)) C.ex C.by d_Law_law_16 (by decide) ?_
  obtain ⟨hs, hw⟩ := hw
  let q3 : Nat := hp_z h4
  let h5 : AH := up_N h4 103 1 1
  replace hw := hw F.wf q3 rfl h5 rfl
  have hkq1 := (F.xN (k := 103) (n := 1) (m := 1)).k hkq1
  have hkq2 := (F.xN (k := 103) (n := 1) (m := 1)).k hkq2
  have hkq3 : hp_k h5 q3 = 103 := fx_nk _ _ _ _
  refine fx_newaL (n := (1 : Int32)) C F (fx_m6 (List.mem_of_getElem? (i := 178) rfl)) (by decide) (by decide) hs d_Law_law_17 (fun H cells slots (F : fx_F D h0 h5 H locs cells slots) => ?_)
  refine lv_astore_n (lv' := [(3, .ref q3), (2, .ref q2), (1, .ref q1), (0, .ref r0)]) C.ex C.by d_Law_law_19 rfl hv (by decide) rfl (fun ls hv => ?_)
  refine lv_iconst (v := (0 : Int32)) C.ex C.by d_Law_law_20 (by decide) ?_
  refine lv_istore (lv' := [(4, .int (0 : Int32)), (3, .ref q3), (2, .ref q2), (1, .ref q1), (0, .ref r0)]) C.ex C.by d_Law_law_21 hv (by decide) rfl (fun ls hv => ?_)
  exact b_Law_law_23 C hl _ _ _ _ _ _ hw _ _ _ _ _ (lv_sub hv [4, 3, 2, 1, 0] rfl) F
