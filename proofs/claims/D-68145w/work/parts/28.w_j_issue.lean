set_option maxRecDepth 10000
/-! ChainJudge.issue(IIIII)I: frames 16, words 248, throws -/
abbrev y_J_issue : MethodName := ⟨"ChainJudge", "issue", "(IIIII)I"⟩
theorem lf_J_169 : fx_Lk "ChainJudge" 169 9 0 := fx_Lk.mk (C := "ChainJudge$Issuer") (T := fx_T9) (N := 2) rfl (by decide) (by decide) (fx_m2 (List.mem_of_getElem? (i := 106) rfl))
theorem lf_J_197 : fx_Lk "ChainJudge" 197 7 2 := fx_Lk.mk (C := "ChainJudge$Certificate") (T := fx_T7) (N := 29) rfl (by decide) (by decide) (fx_m1 (List.mem_of_getElem? (i := 220) rfl))
theorem lf_J_198 : fx_Lk "ChainJudge" 198 7 7 := fx_Lk.mk (C := "ChainJudge$Certificate") (T := fx_T7) (N := 29) rfl (by decide) (by decide) (fx_m1 (List.mem_of_getElem? (i := 226) rfl))
theorem lf_J_200 : fx_Lk "ChainJudge" 200 7 8 := fx_Lk.mk (C := "ChainJudge$Certificate") (T := fx_T7) (N := 29) rfl (by decide) (by decide) (fx_m1 (List.mem_of_getElem? (i := 228) rfl))
theorem lf_J_206 : fx_Lk "ChainJudge" 206 2 1 := fx_Lk.mk (C := "ChainJudge$Held") (T := fx_T2) (N := 2) rfl (by decide) (by decide) (fx_m4 (List.mem_of_getElem? (i := 232) rfl))
theorem lf_J_209 : fx_Lk "ChainJudge" 209 10 0 := fx_Lk.mk (C := "ChainJudge$Writer") (T := fx_T10) (N := 2) rfl (by decide) (by decide) (fx_m2 (List.mem_of_getElem? (i := 97) rfl))
theorem lf_J_210 : fx_Lk "ChainJudge" 210 10 1 := fx_Lk.mk (C := "ChainJudge$Writer") (T := fx_T10) (N := 2) rfl (by decide) (by decide) (fx_m2 (List.mem_of_getElem? (i := 99) rfl))
theorem lm_J_131 : Cond.methodLink "ChainJudge" 131 y_AL_get ∈ tables_1 ∨ ∃ host, Cond.methodLinkNest "ChainJudge" 131 y_AL_get host ∈ tables_1 := Or.inl (fx_m3 (List.mem_of_getElem? (i := 94) rfl))
theorem lm_J_155 : Cond.methodLink "ChainJudge" 155 y_J_check ∈ tables_1 ∨ ∃ host, Cond.methodLinkNest "ChainJudge" 155 y_J_check host ∈ tables_1 := Or.inl (fx_m3 (List.mem_of_getElem? (i := 86) rfl))
theorem lm_J_159 : Cond.methodLink "ChainJudge" 159 y_J_nameSize ∈ tables_1 ∨ ∃ host, Cond.methodLinkNest "ChainJudge" 159 y_J_nameSize host ∈ tables_1 := Or.inl (fx_m3 (List.mem_of_getElem? (i := 90) rfl))
theorem lm_J_162 : Cond.methodLink "ChainJudge" 162 y_J_reads ∈ tables_1 ∨ ∃ host, Cond.methodLinkNest "ChainJudge" 162 y_J_reads host ∈ tables_1 := Or.inl (fx_m3 (List.mem_of_getElem? (i := 109) rfl))
theorem lm_J_172 : Cond.methodLink "ChainJudge" 172 y_Wr_begin ∈ tables_1 ∨ ∃ host, Cond.methodLinkNest "ChainJudge" 172 y_Wr_begin host ∈ tables_1 := Or.inl (fx_m4 (List.mem_of_getElem? (i := 45) rfl))
theorem lm_J_175 : Cond.methodLink "ChainJudge" 175 y_Iss_extensions ∈ tables_1 ∨ ∃ host, Cond.methodLinkNest "ChainJudge" 175 y_Iss_extensions host ∈ tables_1 := Or.inr ⟨_, (fx_m4 (List.mem_of_getElem? (i := 49) rfl))⟩
theorem lm_J_178 : Cond.methodLink "ChainJudge" 178 y_Wr_all ∈ tables_1 ∨ ∃ host, Cond.methodLinkNest "ChainJudge" 178 y_Wr_all host ∈ tables_1 := Or.inl (fx_m4 (List.mem_of_getElem? (i := 102) rfl))
theorem lm_J_182 : Cond.methodLink "ChainJudge" 182 y_Wr_one ∈ tables_1 ∨ ∃ host, Cond.methodLinkNest "ChainJudge" 182 y_Wr_one host ∈ tables_1 := Or.inl (fx_m4 (List.mem_of_getElem? (i := 103) rfl))
theorem lm_J_185 : Cond.methodLink "ChainJudge" 185 y_J_algorithm ∈ tables_1 ∨ ∃ host, Cond.methodLinkNest "ChainJudge" 185 y_J_algorithm host ∈ tables_1 := Or.inl (fx_m4 (List.mem_of_getElem? (i := 105) rfl))
theorem lm_J_189 : Cond.methodLink "ChainJudge" 189 y_Iss_name ∈ tables_1 ∨ ∃ host, Cond.methodLinkNest "ChainJudge" 189 y_Iss_name host ∈ tables_1 := Or.inl (fx_m4 (List.mem_of_getElem? (i := 111) rfl))
theorem lm_J_193 : Cond.methodLink "ChainJudge" 193 y_Iss_times ∈ tables_1 ∨ ∃ host, Cond.methodLinkNest "ChainJudge" 193 y_Iss_times host ∈ tables_1 := Or.inl (fx_m4 (List.mem_of_getElem? (i := 117) rfl))
theorem lm_J_203 : Cond.methodLink "ChainJudge" 203 y_Iss_head ∈ tables_1 ∨ ∃ host, Cond.methodLinkNest "ChainJudge" 203 y_Iss_head host ∈ tables_1 := Or.inl (fx_m4 (List.mem_of_getElem? (i := 132) rfl))
theorem lm_J_213 : Cond.methodLink "ChainJudge" 213 y_KM_mark ∈ tables_1 ∨ ∃ host, Cond.methodLinkNest "ChainJudge" 213 y_KM_mark host ∈ tables_1 := Or.inl (fx_m4 (List.mem_of_getElem? (i := 136) rfl))
theorem lm_J_217 : Cond.methodLink "ChainJudge" 217 y_J_hold ∈ tables_1 ∨ ∃ host, Cond.methodLinkNest "ChainJudge" 217 y_J_hold host ∈ tables_1 := Or.inl (fx_m4 (List.mem_of_getElem? (i := 214) rfl))
theorem ex_J_130 : fx_eW "ChainJudge" 130 "java/util/NoSuchElementException" fx_rn := fx_eWmk (fx_m3 (List.mem_of_getElem? (i := 81) rfl)) (fx_m3 (List.mem_of_getElem? (i := 82) rfl)) (fx_m3 (List.mem_of_getElem? (i := 83) rfl)) (fx_m3 (List.mem_of_getElem? (i := 80) rfl)) (fx_m3 (List.mem_of_getElem? (i := 72) rfl)) (fx_m3 (List.mem_of_getElem? (i := 73) rfl)) (fx_m3 (List.mem_of_getElem? (i := 74) rfl)) (fx_m2 (List.mem_of_getElem? (i := 221) rfl)) (fx_m3 (List.mem_of_getElem? (i := 75) rfl)) (fx_m3 (List.mem_of_getElem? (i := 76) rfl)) (fx_m3 (List.mem_of_getElem? (i := 77) rfl)) (fx_m3 (List.mem_of_getElem? (i := 78) rfl)) (fx_m3 (List.mem_of_getElem? (i := 79) rfl))
theorem ex_J_168 : fx_eW "ChainJudge" 168 "java/lang/UnsupportedOperationException" fx_rn := fx_eWmk (fx_m4 (List.mem_of_getElem? (i := 40) rfl)) (fx_m4 (List.mem_of_getElem? (i := 41) rfl)) (fx_m4 (List.mem_of_getElem? (i := 42) rfl)) (fx_m4 (List.mem_of_getElem? (i := 39) rfl)) (fx_m4 (List.mem_of_getElem? (i := 31) rfl)) (fx_m4 (List.mem_of_getElem? (i := 32) rfl)) (fx_m4 (List.mem_of_getElem? (i := 33) rfl)) (fx_m2 (List.mem_of_getElem? (i := 220) rfl)) (fx_m4 (List.mem_of_getElem? (i := 34) rfl)) (fx_m4 (List.mem_of_getElem? (i := 35) rfl)) (fx_m4 (List.mem_of_getElem? (i := 36) rfl)) (fx_m4 (List.mem_of_getElem? (i := 37) rfl)) (fx_m4 (List.mem_of_getElem? (i := 38) rfl))
section
variable {p : Program} {l : Launch} {e : Env} {R : Room} {s : State} {m : MethodId} {args : Array Value} {below : List Frame} {meth : Method} {c : Code} {H : Heap} {locs : List Loc} {cells slots : Nat}
variable {D : DD} {y : MethodName} {cc : ByteArray} {nL kf kw : Nat} {ret : Option FieldType} {hh : List (Nat × Nat × Nat × Nat)} {h0 h : AH} {pc : Nat} {ls : Array Slot} {rest : List Value} {b idx : Nat}
theorem iv_J_algorithm {r1 : Nat} (C : fx_CX D y cc nL kf kw ret hh h0 p R s m meth c) (F : fx_F D h0 h H locs cells slots) (hw1 : Cond.methodLink y.cls idx y_J_algorithm ∈ tables_1 ∨ ∃ host, Cond.methodLinkNest y.cls idx y_J_algorithm host ∈ tables_1) (hk : hp_k h b = 1) (hd : decode cc pc = .ok (.invokevirtual idx, 3)) : fx_IV p l e R s m args below meth c H locs cells slots (F0 m pc ls (.ref r1 :: .ref b :: rest)) rest y_J_algorithm [.ref b, .ref r1] 3 := fun T hT X => fx_invV (As := [.ref r1]) (Cn := "ChainJudge") C X hw1 (fx_m4 (List.mem_of_getElem? (i := 107) rfl)) (fx_selP C ⟨by decide, by decide⟩ (fx_m1 (List.mem_of_getElem? (i := 33) rfl)) (fx_m4 (List.mem_of_getElem? (i := 106) rfl)) (fx_m4 (List.mem_of_getElem? (i := 107) rfl))) hm_J_algorithm ⟨by decide, by decide⟩ (by rw [hT]; exact fx_clsO (ci := 0) (r := ("ChainJudge", fx_T0, 16)) C F rfl (by decide) hk) rfl (n := 1) (by decide +kernel) rfl rfl hd
theorem iv_J_check {x1 : Int32} {x2 : Int32} {x3 : Int32} (C : fx_CX D y cc nL kf kw ret hh h0 p R s m meth c) (F : fx_F D h0 h H locs cells slots) (hw1 : Cond.methodLink y.cls idx y_J_check ∈ tables_1 ∨ ∃ host, Cond.methodLinkNest y.cls idx y_J_check host ∈ tables_1) (hk : hp_k h b = 1) (hd : decode cc pc = .ok (.invokevirtual idx, 3)) : fx_IV p l e R s m args below meth c H locs cells slots (F0 m pc ls (.int x3 :: .int x2 :: .int x1 :: .ref b :: rest)) rest y_J_check [.ref b, .int x1, .int x2, .int x3] 3 := fun T hT X => fx_invV (As := [.int x1, .int x2, .int x3]) (Cn := "ChainJudge") C X hw1 (fx_m3 (List.mem_of_getElem? (i := 88) rfl)) (fx_selP C ⟨by decide, by decide⟩ (fx_m1 (List.mem_of_getElem? (i := 33) rfl)) (fx_m3 (List.mem_of_getElem? (i := 87) rfl)) (fx_m3 (List.mem_of_getElem? (i := 88) rfl))) hm_J_check ⟨by decide, by decide⟩ (by rw [hT]; exact fx_clsO (ci := 0) (r := ("ChainJudge", fx_T0, 16)) C F rfl (by decide) hk) rfl (n := 3) (by decide +kernel) rfl rfl hd
theorem iv_J_hold {r1 : Nat} {x2 : Int32} {x3 : Int32} {x4 : Int32} (C : fx_CX D y cc nL kf kw ret hh h0 p R s m meth c) (F : fx_F D h0 h H locs cells slots) (hw1 : Cond.methodLink y.cls idx y_J_hold ∈ tables_1 ∨ ∃ host, Cond.methodLinkNest y.cls idx y_J_hold host ∈ tables_1) (hk : hp_k h b = 1) (hd : decode cc pc = .ok (.invokevirtual idx, 3)) : fx_IV p l e R s m args below meth c H locs cells slots (F0 m pc ls (.int x4 :: .int x3 :: .int x2 :: .ref r1 :: .ref b :: rest)) rest y_J_hold [.ref b, .ref r1, .int x2, .int x3, .int x4] 3 := fun T hT X => fx_invV (As := [.ref r1, .int x2, .int x3, .int x4]) (Cn := "ChainJudge") C X hw1 (fx_m4 (List.mem_of_getElem? (i := 216) rfl)) (fx_selP C ⟨by decide, by decide⟩ (fx_m1 (List.mem_of_getElem? (i := 33) rfl)) (fx_m4 (List.mem_of_getElem? (i := 215) rfl)) (fx_m4 (List.mem_of_getElem? (i := 216) rfl))) hm_J_hold ⟨by decide, by decide⟩ (by rw [hT]; exact fx_clsO (ci := 0) (r := ("ChainJudge", fx_T0, 16)) C F rfl (by decide) hk) rfl (n := 4) (by decide +kernel) rfl rfl hd
theorem iv_J_nameSize (C : fx_CX D y cc nL kf kw ret hh h0 p R s m meth c) (F : fx_F D h0 h H locs cells slots) (hw1 : Cond.methodLink y.cls idx y_J_nameSize ∈ tables_1 ∨ ∃ host, Cond.methodLinkNest y.cls idx y_J_nameSize host ∈ tables_1) (hk : hp_k h b = 1) (hd : decode cc pc = .ok (.invokevirtual idx, 3)) : fx_IV p l e R s m args below meth c H locs cells slots (F0 m pc ls (.ref b :: rest)) rest y_J_nameSize [.ref b] 3 := fun T hT X => fx_invV (As := []) (Cn := "ChainJudge") C X hw1 (fx_m3 (List.mem_of_getElem? (i := 92) rfl)) (fx_selP C ⟨by decide, by decide⟩ (fx_m1 (List.mem_of_getElem? (i := 33) rfl)) (fx_m3 (List.mem_of_getElem? (i := 91) rfl)) (fx_m3 (List.mem_of_getElem? (i := 92) rfl))) hm_J_nameSize ⟨by decide, by decide⟩ (by rw [hT]; exact fx_clsO (ci := 0) (r := ("ChainJudge", fx_T0, 16)) C F rfl (by decide) hk) rfl (n := 0) (by decide +kernel) rfl rfl hd
theorem iv_J_reads {r1 : Nat} (C : fx_CX D y cc nL kf kw ret hh h0 p R s m meth c) (F : fx_F D h0 h H locs cells slots) (hw1 : Cond.methodLink y.cls idx y_J_reads ∈ tables_1 ∨ ∃ host, Cond.methodLinkNest y.cls idx y_J_reads host ∈ tables_1) (hk : hp_k h b = 1) (hd : decode cc pc = .ok (.invokevirtual idx, 3)) : fx_IV p l e R s m args below meth c H locs cells slots (F0 m pc ls (.ref r1 :: .ref b :: rest)) rest y_J_reads [.ref b, .ref r1] 3 := fun T hT X => fx_invV (As := [.ref r1]) (Cn := "ChainJudge") C X hw1 (fx_m3 (List.mem_of_getElem? (i := 111) rfl)) (fx_selP C ⟨by decide, by decide⟩ (fx_m1 (List.mem_of_getElem? (i := 33) rfl)) (fx_m3 (List.mem_of_getElem? (i := 110) rfl)) (fx_m3 (List.mem_of_getElem? (i := 111) rfl))) hm_J_reads ⟨by decide, by decide⟩ (by rw [hT]; exact fx_clsO (ci := 0) (r := ("ChainJudge", fx_T0, 16)) C F rfl (by decide) hk) rfl (n := 1) (by decide +kernel) rfl rfl hd
theorem iv_Iss_extensions {x1 : Int32} {r2 : Nat} {x3 : Int32} {x4 : Int32} (C : fx_CX D y cc nL kf kw ret hh h0 p R s m meth c) (F : fx_F D h0 h H locs cells slots) (hw1 : Cond.methodLink y.cls idx y_Iss_extensions ∈ tables_1 ∨ ∃ host, Cond.methodLinkNest y.cls idx y_Iss_extensions host ∈ tables_1) (hk : hp_k h b = 10) (hd : decode cc pc = .ok (.invokevirtual idx, 3)) : fx_IV p l e R s m args below meth c H locs cells slots (F0 m pc ls (.int x4 :: .int x3 :: .ref r2 :: .int x1 :: .ref b :: rest)) rest y_Iss_extensions [.ref b, .int x1, .ref r2, .int x3, .int x4] 3 := fun T hT X => fx_invV (As := [.int x1, .ref r2, .int x3, .int x4]) (Cn := "ChainJudge$Issuer") C X hw1 (fx_m4 (List.mem_of_getElem? (i := 51) rfl)) (fx_selP C ⟨by decide, by decide⟩ (fx_m2 (List.mem_of_getElem? (i := 85) rfl)) (fx_m4 (List.mem_of_getElem? (i := 50) rfl)) (fx_m4 (List.mem_of_getElem? (i := 51) rfl))) hm_Iss_extensions ⟨by decide, by decide⟩ (by rw [hT]; exact fx_clsO (ci := 9) (r := ("ChainJudge$Issuer", fx_T9, 2)) C F rfl (by decide) hk) rfl (n := 4) (by decide +kernel) rfl rfl hd
theorem iv_Iss_head {x1 : Int32} (C : fx_CX D y cc nL kf kw ret hh h0 p R s m meth c) (F : fx_F D h0 h H locs cells slots) (hw1 : Cond.methodLink y.cls idx y_Iss_head ∈ tables_1 ∨ ∃ host, Cond.methodLinkNest y.cls idx y_Iss_head host ∈ tables_1) (hk : hp_k h b = 10) (hd : decode cc pc = .ok (.invokevirtual idx, 3)) : fx_IV p l e R s m args below meth c H locs cells slots (F0 m pc ls (.int x1 :: .ref b :: rest)) rest y_Iss_head [.ref b, .int x1] 3 := fun T hT X => fx_invV (As := [.int x1]) (Cn := "ChainJudge$Issuer") C X hw1 (fx_m4 (List.mem_of_getElem? (i := 133) rfl)) (fx_selW C (fx_m4 (List.mem_of_getElem? (i := 134) rfl))) hm_Iss_head ⟨by decide, by decide⟩ (by rw [hT]; exact fx_clsO (ci := 9) (r := ("ChainJudge$Issuer", fx_T9, 2)) C F rfl (by decide) hk) rfl (n := 1) (by decide +kernel) rfl rfl hd
theorem iv_Iss_name {r1 : Nat} {x2 : Int32} (C : fx_CX D y cc nL kf kw ret hh h0 p R s m meth c) (F : fx_F D h0 h H locs cells slots) (hw1 : Cond.methodLink y.cls idx y_Iss_name ∈ tables_1 ∨ ∃ host, Cond.methodLinkNest y.cls idx y_Iss_name host ∈ tables_1) (hk : hp_k h b = 10) (hd : decode cc pc = .ok (.invokevirtual idx, 3)) : fx_IV p l e R s m args below meth c H locs cells slots (F0 m pc ls (.int x2 :: .ref r1 :: .ref b :: rest)) rest y_Iss_name [.ref b, .ref r1, .int x2] 3 := fun T hT X => fx_invV (As := [.ref r1, .int x2]) (Cn := "ChainJudge$Issuer") C X hw1 (fx_m4 (List.mem_of_getElem? (i := 112) rfl)) (fx_selW C (fx_m4 (List.mem_of_getElem? (i := 113) rfl))) hm_Iss_name ⟨by decide, by decide⟩ (by rw [hT]; exact fx_clsO (ci := 9) (r := ("ChainJudge$Issuer", fx_T9, 2)) C F rfl (by decide) hk) rfl (n := 2) (by decide +kernel) rfl rfl hd
theorem iv_Iss_times {w1 : Int64} {w3 : Int64} (C : fx_CX D y cc nL kf kw ret hh h0 p R s m meth c) (F : fx_F D h0 h H locs cells slots) (hw1 : Cond.methodLink y.cls idx y_Iss_times ∈ tables_1 ∨ ∃ host, Cond.methodLinkNest y.cls idx y_Iss_times host ∈ tables_1) (hk : hp_k h b = 10) (hd : decode cc pc = .ok (.invokevirtual idx, 3)) : fx_IV p l e R s m args below meth c H locs cells slots (F0 m pc ls (.long w3 :: .long w1 :: .ref b :: rest)) rest y_Iss_times [.ref b, .long w1, .long w3] 3 := fun T hT X => fx_invV (As := [.long w1, .long w3]) (Cn := "ChainJudge$Issuer") C X hw1 (fx_m4 (List.mem_of_getElem? (i := 118) rfl)) (fx_selW C (fx_m4 (List.mem_of_getElem? (i := 119) rfl))) hm_Iss_times ⟨by decide, by decide⟩ (by rw [hT]; exact fx_clsO (ci := 9) (r := ("ChainJudge$Issuer", fx_T9, 2)) C F rfl (by decide) hk) rfl (n := 2) (by decide +kernel) rfl rfl hd
theorem iv_KM_mark {r1 : Nat} {x2 : Int32} {r3 : Nat} {x4 : Int32} {x5 : Int32} (C : fx_CX D y cc nL kf kw ret hh h0 p R s m meth c) (F : fx_F D h0 h H locs cells slots) (hw1 : Cond.methodLink y.cls idx y_KM_mark ∈ tables_1 ∨ ∃ host, Cond.methodLinkNest y.cls idx y_KM_mark host ∈ tables_1) (hk : hp_k h b = 4) (hd : decode cc pc = .ok (.invokevirtual idx, 3)) : fx_IV p l e R s m args below meth c H locs cells slots (F0 m pc ls (.int x5 :: .int x4 :: .ref r3 :: .int x2 :: .ref r1 :: .ref b :: rest)) rest y_KM_mark [.ref b, .ref r1, .int x2, .ref r3, .int x4, .int x5] 3 := fun T hT X => fx_invV (As := [.ref r1, .int x2, .ref r3, .int x4, .int x5]) (Cn := "ChainJudge$KeyedMarks") C X hw1 (fx_m4 (List.mem_of_getElem? (i := 137) rfl)) (fx_selW C (fx_m4 (List.mem_of_getElem? (i := 138) rfl))) hm_KM_mark ⟨by decide, by decide⟩ (by rw [hT]; exact fx_clsO (ci := 3) (r := ("ChainJudge$KeyedMarks", fx_T3, 2)) C F rfl (by decide) hk) rfl (n := 5) (by decide +kernel) rfl rfl hd
theorem iv_Wr_begin (C : fx_CX D y cc nL kf kw ret hh h0 p R s m meth c) (F : fx_F D h0 h H locs cells slots) (hw1 : Cond.methodLink y.cls idx y_Wr_begin ∈ tables_1 ∨ ∃ host, Cond.methodLinkNest y.cls idx y_Wr_begin host ∈ tables_1) (hk : hp_k h b = 11) (hd : decode cc pc = .ok (.invokevirtual idx, 3)) : fx_IV p l e R s m args below meth c H locs cells slots (F0 m pc ls (.ref b :: rest)) rest y_Wr_begin [.ref b] 3 := fun T hT X => fx_invV (As := []) (Cn := "ChainJudge$Writer") C X hw1 (fx_m4 (List.mem_of_getElem? (i := 46) rfl)) (fx_selW C (fx_m4 (List.mem_of_getElem? (i := 47) rfl))) hm_Wr_begin ⟨by decide, by decide⟩ (by rw [hT]; exact fx_clsO (ci := 10) (r := ("ChainJudge$Writer", fx_T10, 2)) C F rfl (by decide) hk) rfl (n := 0) (by decide +kernel) rfl rfl hd
theorem iv_AL_get {x1 : Int32} (C : fx_CX D y cc nL kf kw ret hh h0 p R s m meth c) (F : fx_F D h0 h H locs cells slots) (hw1 : Cond.methodLink y.cls idx y_AL_get ∈ tables_1 ∨ ∃ host, Cond.methodLinkNest y.cls idx y_AL_get host ∈ tables_1) (hk : hp_k h b = 12) (hd : decode cc pc = .ok (.invokevirtual idx, 3)) : fx_IV p l e R s m args below meth c H locs cells slots (F0 m pc ls (.int x1 :: .ref b :: rest)) rest y_AL_get [.ref b, .int x1] 3 := fun T hT X => fx_invV (As := [.int x1]) (Cn := "java/util/ArrayList") C X hw1 (fx_m3 (List.mem_of_getElem? (i := 95) rfl)) (fx_selW C (fx_m3 (List.mem_of_getElem? (i := 96) rfl))) hm_AL_get ⟨by decide, by decide⟩ (by rw [hT]; exact fx_clsO (ci := 11) (r := ("java/util/ArrayList", fx_T11, 3)) C F rfl (by decide) hk) rfl (n := 1) (by decide +kernel) rfl rfl hd
end
def dl_J_issue : List (Nat × Instr × Nat) := [(0, .iload_n 1, 1), (1, .ifCond .lt 27, 3), (4, .iload_n 1, 1), (5, .aload_n 0, 1), (6, .getfield 29, 3), (9, .if_icmp .ge 19, 3), (12, .iload_n 2, 1), (13, .iconst (-1), 1), (14, .if_icmp .lt 14, 3), (17, .iload_n 2, 1), (18, .aload_n 0, 1), (19, .getfield 36, 3), (22, .invokevirtual 125, 3), (25, .if_icmp .lt 11, 3), (28, .new 128, 3), (31, .dup, 1), (32, .invokespecial 130, 3), (35, .athrow, 1), (36, .aload_n 0, 1), (37, .iload_n 3, 1), (38, .iload 4, 2), (40, .iload 5, 2), (42, .invokevirtual 155, 3), (45, .aload_n 0, 1), (46, .invokevirtual 159, 3), (49, .istore 6, 2), (51, .iload_n 2, 1), (52, .ifCond .lt 29, 3), (55, .aload_n 0, 1), (56, .aload_n 0, 1), (57, .getfield 36, 3), (60, .iload_n 2, 1), (61, .invokevirtual 131, 3), (64, .checkcast 135, 3), (67, .invokevirtual 162, 3), (70, .ifCond .ne 11, 3), (73, .new 166, 3), (76, .dup, 1), (77, .invokespecial 168, 3), (80, .athrow, 1), (81, .aload_n 0, 1), (82, .getfield 66, 3), (85, .getfield 169, 3), (88, .astore 7, 2), (90, .aload 7, 2), (92, .invokevirtual 172, 3), (95, .aload_n 0, 1), (96, .getfield 66, 3), (99, .iload_n 3, 1), (100, .aload_n 0, 1), (101, .getfield 14, 3), (104, .getfield 110, 3), (107, .iload 6, 2), (109, .aload_n 0, 1), (110, .getfield 14, 3), (113, .getfield 96, 3), (116, .invokevirtual 175, 3), (119, .aload 7, 2), (121, .invokevirtual 143, 3), (124, .istore 8, 2), (126, .aload 7, 2), (128, .aload_n 0, 1), (129, .getfield 25, 3), (132, .iload_n 1, 1), (133, .aaload, 1), (134, .iconst 0, 1), (135, .bipush 32, 2), (137, .invokevirtual 178, 3), (140, .aload 7, 2), (142, .iconst 0, 1), (143, .invokevirtual 182, 3), (146, .aload 7, 2), (148, .iconst 3, 1), (149, .iload 8, 2), (151, .invokevirtual 151, 3), (154, .aload_n 0, 1), (155, .aload 7, 2), (157, .invokevirtual 185, 3), (160, .aload 7, 2), (162, .bipush 48, 2), (164, .iload 8, 2), (166, .invokevirtual 151, 3), (169, .aload_n 0, 1), (170, .getfield 66, 3), (173, .aload_n 0, 1), (174, .getfield 14, 3), (177, .getfield 110, 3), (180, .iload 6, 2), (182, .invokevirtual 189, 3), (185, .aload_n 0, 1), (186, .getfield 66, 3), (189, .iload 4, 2), (191, .i2l, 1), (192, .iload 5, 2), (194, .i2l, 1), (195, .invokevirtual 193, 3), (198, .iload_n 2, 1), (199, .ifCond .ge 22, 3), (202, .aload_n 0, 1), (203, .getfield 66, 3), (206, .aload_n 0, 1), (207, .getfield 14, 3), (210, .getfield 110, 3), (213, .iload 6, 2), (215, .invokevirtual 189, 3), (218, .goto 37, 3), (221, .aload 7, 2), (223, .aload_n 0, 1), (224, .getfield 59, 3), (227, .getfield 197, 3), (230, .aload_n 0, 1), (231, .getfield 59, 3), (234, .getfield 198, 3), (237, .aload_n 0, 1), (238, .getfield 59, 3), (241, .getfield 200, 3), (244, .aload_n 0, 1), (245, .getfield 59, 3), (248, .getfield 198, 3), (251, .isub, 1), (252, .invokevirtual 178, 3), (255, .aload_n 0, 1), (256, .aload 7, 2), (258, .invokevirtual 185, 3), (261, .aload_n 0, 1), (262, .getfield 66, 3), (265, .aload_n 0, 1), (266, .getfield 36, 3), (269, .invokevirtual 125, 3), (272, .iconst 1, 1), (273, .iadd, 1), (274, .invokevirtual 203, 3), (277, .aload 7, 2), (279, .bipush 48, 2), (281, .iconst 0, 1), (282, .invokevirtual 151, 3), (285, .aload_n 0, 1), (286, .getfield 43, 3), (289, .aload_n 0, 1), (290, .getfield 25, 3), (293, .iload_n 2, 1), (294, .ifCond .ge 7, 3), (297, .iload_n 1, 1), (298, .goto 17, 3), (301, .aload_n 0, 1), (302, .getfield 36, 3), (305, .iload_n 2, 1), (306, .invokevirtual 131, 3), (309, .checkcast 135, 3), (312, .getfield 206, 3), (315, .aaload, 1), (316, .iconst 0, 1), (317, .aload 7, 2), (319, .getfield 209, 3), (322, .aload 7, 2), (324, .getfield 210, 3), (327, .aload 7, 2), (329, .invokevirtual 143, 3), (332, .invokevirtual 213, 3), (335, .astore 9, 2), (337, .aload_n 0, 1), (338, .getfield 73, 3), (341, .invokevirtual 172, 3), (344, .aload_n 0, 1), (345, .getfield 73, 3), (348, .aload 9, 2), (350, .iconst 0, 1), (351, .bipush 32, 2), (353, .invokevirtual 178, 3), (356, .aload_n 0, 1), (357, .getfield 73, 3), (360, .iconst 0, 1), (361, .invokevirtual 182, 3), (364, .aload_n 0, 1), (365, .getfield 73, 3), (368, .iconst 3, 1), (369, .iconst 0, 1), (370, .invokevirtual 151, 3), (373, .aload_n 0, 1), (374, .aload_n 0, 1), (375, .getfield 73, 3), (378, .invokevirtual 185, 3), (381, .aload_n 0, 1), (382, .getfield 73, 3), (385, .aload 7, 2), (387, .getfield 209, 3), (390, .aload 7, 2), (392, .getfield 210, 3), (395, .aload 7, 2), (397, .invokevirtual 143, 3), (400, .invokevirtual 178, 3), (403, .aload_n 0, 1), (404, .getfield 73, 3), (407, .bipush 48, 2), (409, .iconst 0, 1), (410, .invokevirtual 151, 3), (413, .aload_n 0, 1), (414, .aload_n 0, 1), (415, .getfield 73, 3), (418, .getfield 209, 3), (421, .aload_n 0, 1), (422, .getfield 73, 3), (425, .getfield 210, 3), (428, .aload_n 0, 1), (429, .getfield 73, 3), (432, .invokevirtual 143, 3), (435, .iload_n 1, 1), (436, .invokevirtual 217, 3), (439, .ireturn, 1)]
theorem dk_J_issue : fx_dec prog_1_method_14_code dl_J_issue = true := by decide +kernel
theorem d_J_issue_0 : decode prog_1_method_14_code 0 = .ok (.iload_n 1, 1) := fx_dat dk_J_issue 0 rfl
theorem d_J_issue_1 : decode prog_1_method_14_code 1 = .ok (.ifCond .lt 27, 3) := fx_dat dk_J_issue 1 rfl
theorem d_J_issue_4 : decode prog_1_method_14_code 4 = .ok (.iload_n 1, 1) := fx_dat dk_J_issue 2 rfl
theorem d_J_issue_5 : decode prog_1_method_14_code 5 = .ok (.aload_n 0, 1) := fx_dat dk_J_issue 3 rfl
theorem d_J_issue_6 : decode prog_1_method_14_code 6 = .ok (.getfield 29, 3) := fx_dat dk_J_issue 4 rfl
theorem d_J_issue_9 : decode prog_1_method_14_code 9 = .ok (.if_icmp .ge 19, 3) := fx_dat dk_J_issue 5 rfl
theorem d_J_issue_12 : decode prog_1_method_14_code 12 = .ok (.iload_n 2, 1) := fx_dat dk_J_issue 6 rfl
theorem d_J_issue_13 : decode prog_1_method_14_code 13 = .ok (.iconst (-1), 1) := fx_dat dk_J_issue 7 rfl
theorem d_J_issue_14 : decode prog_1_method_14_code 14 = .ok (.if_icmp .lt 14, 3) := fx_dat dk_J_issue 8 rfl
theorem d_J_issue_17 : decode prog_1_method_14_code 17 = .ok (.iload_n 2, 1) := fx_dat dk_J_issue 9 rfl
theorem d_J_issue_18 : decode prog_1_method_14_code 18 = .ok (.aload_n 0, 1) := fx_dat dk_J_issue 10 rfl
theorem d_J_issue_19 : decode prog_1_method_14_code 19 = .ok (.getfield 36, 3) := fx_dat dk_J_issue 11 rfl
theorem d_J_issue_22 : decode prog_1_method_14_code 22 = .ok (.invokevirtual 125, 3) := fx_dat dk_J_issue 12 rfl
theorem d_J_issue_25 : decode prog_1_method_14_code 25 = .ok (.if_icmp .lt 11, 3) := fx_dat dk_J_issue 13 rfl
theorem d_J_issue_28 : decode prog_1_method_14_code 28 = .ok (.new 128, 3) := fx_dat dk_J_issue 14 rfl
theorem d_J_issue_31 : decode prog_1_method_14_code 31 = .ok (.dup, 1) := fx_dat dk_J_issue 15 rfl
theorem d_J_issue_32 : decode prog_1_method_14_code 32 = .ok (.invokespecial 130, 3) := fx_dat dk_J_issue 16 rfl
theorem d_J_issue_35 : decode prog_1_method_14_code 35 = .ok (.athrow, 1) := fx_dat dk_J_issue 17 rfl
theorem d_J_issue_36 : decode prog_1_method_14_code 36 = .ok (.aload_n 0, 1) := fx_dat dk_J_issue 18 rfl
theorem d_J_issue_37 : decode prog_1_method_14_code 37 = .ok (.iload_n 3, 1) := fx_dat dk_J_issue 19 rfl
theorem d_J_issue_38 : decode prog_1_method_14_code 38 = .ok (.iload 4, 2) := fx_dat dk_J_issue 20 rfl
theorem d_J_issue_40 : decode prog_1_method_14_code 40 = .ok (.iload 5, 2) := fx_dat dk_J_issue 21 rfl
theorem d_J_issue_42 : decode prog_1_method_14_code 42 = .ok (.invokevirtual 155, 3) := fx_dat dk_J_issue 22 rfl
theorem d_J_issue_45 : decode prog_1_method_14_code 45 = .ok (.aload_n 0, 1) := fx_dat dk_J_issue 23 rfl
theorem d_J_issue_46 : decode prog_1_method_14_code 46 = .ok (.invokevirtual 159, 3) := fx_dat dk_J_issue 24 rfl
theorem d_J_issue_49 : decode prog_1_method_14_code 49 = .ok (.istore 6, 2) := fx_dat dk_J_issue 25 rfl
theorem d_J_issue_51 : decode prog_1_method_14_code 51 = .ok (.iload_n 2, 1) := fx_dat dk_J_issue 26 rfl
theorem d_J_issue_52 : decode prog_1_method_14_code 52 = .ok (.ifCond .lt 29, 3) := fx_dat dk_J_issue 27 rfl
theorem d_J_issue_55 : decode prog_1_method_14_code 55 = .ok (.aload_n 0, 1) := fx_dat dk_J_issue 28 rfl
theorem d_J_issue_56 : decode prog_1_method_14_code 56 = .ok (.aload_n 0, 1) := fx_dat dk_J_issue 29 rfl
theorem d_J_issue_57 : decode prog_1_method_14_code 57 = .ok (.getfield 36, 3) := fx_dat dk_J_issue 30 rfl
theorem d_J_issue_60 : decode prog_1_method_14_code 60 = .ok (.iload_n 2, 1) := fx_dat dk_J_issue 31 rfl
theorem d_J_issue_61 : decode prog_1_method_14_code 61 = .ok (.invokevirtual 131, 3) := fx_dat dk_J_issue 32 rfl
theorem d_J_issue_64 : decode prog_1_method_14_code 64 = .ok (.checkcast 135, 3) := fx_dat dk_J_issue 33 rfl
theorem d_J_issue_67 : decode prog_1_method_14_code 67 = .ok (.invokevirtual 162, 3) := fx_dat dk_J_issue 34 rfl
theorem d_J_issue_70 : decode prog_1_method_14_code 70 = .ok (.ifCond .ne 11, 3) := fx_dat dk_J_issue 35 rfl
theorem d_J_issue_73 : decode prog_1_method_14_code 73 = .ok (.new 166, 3) := fx_dat dk_J_issue 36 rfl
theorem d_J_issue_76 : decode prog_1_method_14_code 76 = .ok (.dup, 1) := fx_dat dk_J_issue 37 rfl
theorem d_J_issue_77 : decode prog_1_method_14_code 77 = .ok (.invokespecial 168, 3) := fx_dat dk_J_issue 38 rfl
theorem d_J_issue_80 : decode prog_1_method_14_code 80 = .ok (.athrow, 1) := fx_dat dk_J_issue 39 rfl
theorem d_J_issue_81 : decode prog_1_method_14_code 81 = .ok (.aload_n 0, 1) := fx_dat dk_J_issue 40 rfl
theorem d_J_issue_82 : decode prog_1_method_14_code 82 = .ok (.getfield 66, 3) := fx_dat dk_J_issue 41 rfl
theorem d_J_issue_85 : decode prog_1_method_14_code 85 = .ok (.getfield 169, 3) := fx_dat dk_J_issue 42 rfl
theorem d_J_issue_88 : decode prog_1_method_14_code 88 = .ok (.astore 7, 2) := fx_dat dk_J_issue 43 rfl
theorem d_J_issue_90 : decode prog_1_method_14_code 90 = .ok (.aload 7, 2) := fx_dat dk_J_issue 44 rfl
theorem d_J_issue_92 : decode prog_1_method_14_code 92 = .ok (.invokevirtual 172, 3) := fx_dat dk_J_issue 45 rfl
theorem d_J_issue_95 : decode prog_1_method_14_code 95 = .ok (.aload_n 0, 1) := fx_dat dk_J_issue 46 rfl
theorem d_J_issue_96 : decode prog_1_method_14_code 96 = .ok (.getfield 66, 3) := fx_dat dk_J_issue 47 rfl
theorem d_J_issue_99 : decode prog_1_method_14_code 99 = .ok (.iload_n 3, 1) := fx_dat dk_J_issue 48 rfl
theorem d_J_issue_100 : decode prog_1_method_14_code 100 = .ok (.aload_n 0, 1) := fx_dat dk_J_issue 49 rfl
theorem d_J_issue_101 : decode prog_1_method_14_code 101 = .ok (.getfield 14, 3) := fx_dat dk_J_issue 50 rfl
theorem d_J_issue_104 : decode prog_1_method_14_code 104 = .ok (.getfield 110, 3) := fx_dat dk_J_issue 51 rfl
theorem d_J_issue_107 : decode prog_1_method_14_code 107 = .ok (.iload 6, 2) := fx_dat dk_J_issue 52 rfl
theorem d_J_issue_109 : decode prog_1_method_14_code 109 = .ok (.aload_n 0, 1) := fx_dat dk_J_issue 53 rfl
theorem d_J_issue_110 : decode prog_1_method_14_code 110 = .ok (.getfield 14, 3) := fx_dat dk_J_issue 54 rfl
theorem d_J_issue_113 : decode prog_1_method_14_code 113 = .ok (.getfield 96, 3) := fx_dat dk_J_issue 55 rfl
theorem d_J_issue_116 : decode prog_1_method_14_code 116 = .ok (.invokevirtual 175, 3) := fx_dat dk_J_issue 56 rfl
theorem d_J_issue_119 : decode prog_1_method_14_code 119 = .ok (.aload 7, 2) := fx_dat dk_J_issue 57 rfl
theorem d_J_issue_121 : decode prog_1_method_14_code 121 = .ok (.invokevirtual 143, 3) := fx_dat dk_J_issue 58 rfl
theorem d_J_issue_124 : decode prog_1_method_14_code 124 = .ok (.istore 8, 2) := fx_dat dk_J_issue 59 rfl
theorem d_J_issue_126 : decode prog_1_method_14_code 126 = .ok (.aload 7, 2) := fx_dat dk_J_issue 60 rfl
theorem d_J_issue_128 : decode prog_1_method_14_code 128 = .ok (.aload_n 0, 1) := fx_dat dk_J_issue 61 rfl
theorem d_J_issue_129 : decode prog_1_method_14_code 129 = .ok (.getfield 25, 3) := fx_dat dk_J_issue 62 rfl
theorem d_J_issue_132 : decode prog_1_method_14_code 132 = .ok (.iload_n 1, 1) := fx_dat dk_J_issue 63 rfl
theorem d_J_issue_133 : decode prog_1_method_14_code 133 = .ok (.aaload, 1) := fx_dat dk_J_issue 64 rfl
theorem d_J_issue_134 : decode prog_1_method_14_code 134 = .ok (.iconst 0, 1) := fx_dat dk_J_issue 65 rfl
theorem d_J_issue_135 : decode prog_1_method_14_code 135 = .ok (.bipush 32, 2) := fx_dat dk_J_issue 66 rfl
theorem d_J_issue_137 : decode prog_1_method_14_code 137 = .ok (.invokevirtual 178, 3) := fx_dat dk_J_issue 67 rfl
theorem d_J_issue_140 : decode prog_1_method_14_code 140 = .ok (.aload 7, 2) := fx_dat dk_J_issue 68 rfl
theorem d_J_issue_142 : decode prog_1_method_14_code 142 = .ok (.iconst 0, 1) := fx_dat dk_J_issue 69 rfl
theorem d_J_issue_143 : decode prog_1_method_14_code 143 = .ok (.invokevirtual 182, 3) := fx_dat dk_J_issue 70 rfl
theorem d_J_issue_146 : decode prog_1_method_14_code 146 = .ok (.aload 7, 2) := fx_dat dk_J_issue 71 rfl
theorem d_J_issue_148 : decode prog_1_method_14_code 148 = .ok (.iconst 3, 1) := fx_dat dk_J_issue 72 rfl
theorem d_J_issue_149 : decode prog_1_method_14_code 149 = .ok (.iload 8, 2) := fx_dat dk_J_issue 73 rfl
theorem d_J_issue_151 : decode prog_1_method_14_code 151 = .ok (.invokevirtual 151, 3) := fx_dat dk_J_issue 74 rfl
theorem d_J_issue_154 : decode prog_1_method_14_code 154 = .ok (.aload_n 0, 1) := fx_dat dk_J_issue 75 rfl
theorem d_J_issue_155 : decode prog_1_method_14_code 155 = .ok (.aload 7, 2) := fx_dat dk_J_issue 76 rfl
theorem d_J_issue_157 : decode prog_1_method_14_code 157 = .ok (.invokevirtual 185, 3) := fx_dat dk_J_issue 77 rfl
theorem d_J_issue_160 : decode prog_1_method_14_code 160 = .ok (.aload 7, 2) := fx_dat dk_J_issue 78 rfl
theorem d_J_issue_162 : decode prog_1_method_14_code 162 = .ok (.bipush 48, 2) := fx_dat dk_J_issue 79 rfl
theorem d_J_issue_164 : decode prog_1_method_14_code 164 = .ok (.iload 8, 2) := fx_dat dk_J_issue 80 rfl
theorem d_J_issue_166 : decode prog_1_method_14_code 166 = .ok (.invokevirtual 151, 3) := fx_dat dk_J_issue 81 rfl
theorem d_J_issue_169 : decode prog_1_method_14_code 169 = .ok (.aload_n 0, 1) := fx_dat dk_J_issue 82 rfl
theorem d_J_issue_170 : decode prog_1_method_14_code 170 = .ok (.getfield 66, 3) := fx_dat dk_J_issue 83 rfl
theorem d_J_issue_173 : decode prog_1_method_14_code 173 = .ok (.aload_n 0, 1) := fx_dat dk_J_issue 84 rfl
theorem d_J_issue_174 : decode prog_1_method_14_code 174 = .ok (.getfield 14, 3) := fx_dat dk_J_issue 85 rfl
theorem d_J_issue_177 : decode prog_1_method_14_code 177 = .ok (.getfield 110, 3) := fx_dat dk_J_issue 86 rfl
theorem d_J_issue_180 : decode prog_1_method_14_code 180 = .ok (.iload 6, 2) := fx_dat dk_J_issue 87 rfl
theorem d_J_issue_182 : decode prog_1_method_14_code 182 = .ok (.invokevirtual 189, 3) := fx_dat dk_J_issue 88 rfl
theorem d_J_issue_185 : decode prog_1_method_14_code 185 = .ok (.aload_n 0, 1) := fx_dat dk_J_issue 89 rfl
theorem d_J_issue_186 : decode prog_1_method_14_code 186 = .ok (.getfield 66, 3) := fx_dat dk_J_issue 90 rfl
theorem d_J_issue_189 : decode prog_1_method_14_code 189 = .ok (.iload 4, 2) := fx_dat dk_J_issue 91 rfl
theorem d_J_issue_191 : decode prog_1_method_14_code 191 = .ok (.i2l, 1) := fx_dat dk_J_issue 92 rfl
theorem d_J_issue_192 : decode prog_1_method_14_code 192 = .ok (.iload 5, 2) := fx_dat dk_J_issue 93 rfl
theorem d_J_issue_194 : decode prog_1_method_14_code 194 = .ok (.i2l, 1) := fx_dat dk_J_issue 94 rfl
theorem d_J_issue_195 : decode prog_1_method_14_code 195 = .ok (.invokevirtual 193, 3) := fx_dat dk_J_issue 95 rfl
theorem d_J_issue_198 : decode prog_1_method_14_code 198 = .ok (.iload_n 2, 1) := fx_dat dk_J_issue 96 rfl
theorem d_J_issue_199 : decode prog_1_method_14_code 199 = .ok (.ifCond .ge 22, 3) := fx_dat dk_J_issue 97 rfl
theorem d_J_issue_202 : decode prog_1_method_14_code 202 = .ok (.aload_n 0, 1) := fx_dat dk_J_issue 98 rfl
theorem d_J_issue_203 : decode prog_1_method_14_code 203 = .ok (.getfield 66, 3) := fx_dat dk_J_issue 99 rfl
theorem d_J_issue_206 : decode prog_1_method_14_code 206 = .ok (.aload_n 0, 1) := fx_dat dk_J_issue 100 rfl
theorem d_J_issue_207 : decode prog_1_method_14_code 207 = .ok (.getfield 14, 3) := fx_dat dk_J_issue 101 rfl
theorem d_J_issue_210 : decode prog_1_method_14_code 210 = .ok (.getfield 110, 3) := fx_dat dk_J_issue 102 rfl
theorem d_J_issue_213 : decode prog_1_method_14_code 213 = .ok (.iload 6, 2) := fx_dat dk_J_issue 103 rfl
theorem d_J_issue_215 : decode prog_1_method_14_code 215 = .ok (.invokevirtual 189, 3) := fx_dat dk_J_issue 104 rfl
theorem d_J_issue_218 : decode prog_1_method_14_code 218 = .ok (.goto 37, 3) := fx_dat dk_J_issue 105 rfl
theorem d_J_issue_221 : decode prog_1_method_14_code 221 = .ok (.aload 7, 2) := fx_dat dk_J_issue 106 rfl
theorem d_J_issue_223 : decode prog_1_method_14_code 223 = .ok (.aload_n 0, 1) := fx_dat dk_J_issue 107 rfl
theorem d_J_issue_224 : decode prog_1_method_14_code 224 = .ok (.getfield 59, 3) := fx_dat dk_J_issue 108 rfl
theorem d_J_issue_227 : decode prog_1_method_14_code 227 = .ok (.getfield 197, 3) := fx_dat dk_J_issue 109 rfl
theorem d_J_issue_230 : decode prog_1_method_14_code 230 = .ok (.aload_n 0, 1) := fx_dat dk_J_issue 110 rfl
theorem d_J_issue_231 : decode prog_1_method_14_code 231 = .ok (.getfield 59, 3) := fx_dat dk_J_issue 111 rfl
theorem d_J_issue_234 : decode prog_1_method_14_code 234 = .ok (.getfield 198, 3) := fx_dat dk_J_issue 112 rfl
theorem d_J_issue_237 : decode prog_1_method_14_code 237 = .ok (.aload_n 0, 1) := fx_dat dk_J_issue 113 rfl
theorem d_J_issue_238 : decode prog_1_method_14_code 238 = .ok (.getfield 59, 3) := fx_dat dk_J_issue 114 rfl
theorem d_J_issue_241 : decode prog_1_method_14_code 241 = .ok (.getfield 200, 3) := fx_dat dk_J_issue 115 rfl
theorem d_J_issue_244 : decode prog_1_method_14_code 244 = .ok (.aload_n 0, 1) := fx_dat dk_J_issue 116 rfl
theorem d_J_issue_245 : decode prog_1_method_14_code 245 = .ok (.getfield 59, 3) := fx_dat dk_J_issue 117 rfl
theorem d_J_issue_248 : decode prog_1_method_14_code 248 = .ok (.getfield 198, 3) := fx_dat dk_J_issue 118 rfl
theorem d_J_issue_251 : decode prog_1_method_14_code 251 = .ok (.isub, 1) := fx_dat dk_J_issue 119 rfl
theorem d_J_issue_252 : decode prog_1_method_14_code 252 = .ok (.invokevirtual 178, 3) := fx_dat dk_J_issue 120 rfl
theorem d_J_issue_255 : decode prog_1_method_14_code 255 = .ok (.aload_n 0, 1) := fx_dat dk_J_issue 121 rfl
theorem d_J_issue_256 : decode prog_1_method_14_code 256 = .ok (.aload 7, 2) := fx_dat dk_J_issue 122 rfl
theorem d_J_issue_258 : decode prog_1_method_14_code 258 = .ok (.invokevirtual 185, 3) := fx_dat dk_J_issue 123 rfl
theorem d_J_issue_261 : decode prog_1_method_14_code 261 = .ok (.aload_n 0, 1) := fx_dat dk_J_issue 124 rfl
theorem d_J_issue_262 : decode prog_1_method_14_code 262 = .ok (.getfield 66, 3) := fx_dat dk_J_issue 125 rfl
theorem d_J_issue_265 : decode prog_1_method_14_code 265 = .ok (.aload_n 0, 1) := fx_dat dk_J_issue 126 rfl
theorem d_J_issue_266 : decode prog_1_method_14_code 266 = .ok (.getfield 36, 3) := fx_dat dk_J_issue 127 rfl
theorem d_J_issue_269 : decode prog_1_method_14_code 269 = .ok (.invokevirtual 125, 3) := fx_dat dk_J_issue 128 rfl
theorem d_J_issue_272 : decode prog_1_method_14_code 272 = .ok (.iconst 1, 1) := fx_dat dk_J_issue 129 rfl
theorem d_J_issue_273 : decode prog_1_method_14_code 273 = .ok (.iadd, 1) := fx_dat dk_J_issue 130 rfl
theorem d_J_issue_274 : decode prog_1_method_14_code 274 = .ok (.invokevirtual 203, 3) := fx_dat dk_J_issue 131 rfl
theorem d_J_issue_277 : decode prog_1_method_14_code 277 = .ok (.aload 7, 2) := fx_dat dk_J_issue 132 rfl
theorem d_J_issue_279 : decode prog_1_method_14_code 279 = .ok (.bipush 48, 2) := fx_dat dk_J_issue 133 rfl
theorem d_J_issue_281 : decode prog_1_method_14_code 281 = .ok (.iconst 0, 1) := fx_dat dk_J_issue 134 rfl
theorem d_J_issue_282 : decode prog_1_method_14_code 282 = .ok (.invokevirtual 151, 3) := fx_dat dk_J_issue 135 rfl
theorem d_J_issue_285 : decode prog_1_method_14_code 285 = .ok (.aload_n 0, 1) := fx_dat dk_J_issue 136 rfl
theorem d_J_issue_286 : decode prog_1_method_14_code 286 = .ok (.getfield 43, 3) := fx_dat dk_J_issue 137 rfl
theorem d_J_issue_289 : decode prog_1_method_14_code 289 = .ok (.aload_n 0, 1) := fx_dat dk_J_issue 138 rfl
theorem d_J_issue_290 : decode prog_1_method_14_code 290 = .ok (.getfield 25, 3) := fx_dat dk_J_issue 139 rfl
theorem d_J_issue_293 : decode prog_1_method_14_code 293 = .ok (.iload_n 2, 1) := fx_dat dk_J_issue 140 rfl
theorem d_J_issue_294 : decode prog_1_method_14_code 294 = .ok (.ifCond .ge 7, 3) := fx_dat dk_J_issue 141 rfl
theorem d_J_issue_297 : decode prog_1_method_14_code 297 = .ok (.iload_n 1, 1) := fx_dat dk_J_issue 142 rfl
theorem d_J_issue_298 : decode prog_1_method_14_code 298 = .ok (.goto 17, 3) := fx_dat dk_J_issue 143 rfl
theorem d_J_issue_301 : decode prog_1_method_14_code 301 = .ok (.aload_n 0, 1) := fx_dat dk_J_issue 144 rfl
theorem d_J_issue_302 : decode prog_1_method_14_code 302 = .ok (.getfield 36, 3) := fx_dat dk_J_issue 145 rfl
theorem d_J_issue_305 : decode prog_1_method_14_code 305 = .ok (.iload_n 2, 1) := fx_dat dk_J_issue 146 rfl
theorem d_J_issue_306 : decode prog_1_method_14_code 306 = .ok (.invokevirtual 131, 3) := fx_dat dk_J_issue 147 rfl
theorem d_J_issue_309 : decode prog_1_method_14_code 309 = .ok (.checkcast 135, 3) := fx_dat dk_J_issue 148 rfl
theorem d_J_issue_312 : decode prog_1_method_14_code 312 = .ok (.getfield 206, 3) := fx_dat dk_J_issue 149 rfl
theorem d_J_issue_315 : decode prog_1_method_14_code 315 = .ok (.aaload, 1) := fx_dat dk_J_issue 150 rfl
theorem d_J_issue_316 : decode prog_1_method_14_code 316 = .ok (.iconst 0, 1) := fx_dat dk_J_issue 151 rfl
theorem d_J_issue_317 : decode prog_1_method_14_code 317 = .ok (.aload 7, 2) := fx_dat dk_J_issue 152 rfl
theorem d_J_issue_319 : decode prog_1_method_14_code 319 = .ok (.getfield 209, 3) := fx_dat dk_J_issue 153 rfl
theorem d_J_issue_322 : decode prog_1_method_14_code 322 = .ok (.aload 7, 2) := fx_dat dk_J_issue 154 rfl
theorem d_J_issue_324 : decode prog_1_method_14_code 324 = .ok (.getfield 210, 3) := fx_dat dk_J_issue 155 rfl
theorem d_J_issue_327 : decode prog_1_method_14_code 327 = .ok (.aload 7, 2) := fx_dat dk_J_issue 156 rfl
theorem d_J_issue_329 : decode prog_1_method_14_code 329 = .ok (.invokevirtual 143, 3) := fx_dat dk_J_issue 157 rfl
theorem d_J_issue_332 : decode prog_1_method_14_code 332 = .ok (.invokevirtual 213, 3) := fx_dat dk_J_issue 158 rfl
theorem d_J_issue_335 : decode prog_1_method_14_code 335 = .ok (.astore 9, 2) := fx_dat dk_J_issue 159 rfl
theorem d_J_issue_337 : decode prog_1_method_14_code 337 = .ok (.aload_n 0, 1) := fx_dat dk_J_issue 160 rfl
theorem d_J_issue_338 : decode prog_1_method_14_code 338 = .ok (.getfield 73, 3) := fx_dat dk_J_issue 161 rfl
theorem d_J_issue_341 : decode prog_1_method_14_code 341 = .ok (.invokevirtual 172, 3) := fx_dat dk_J_issue 162 rfl
theorem d_J_issue_344 : decode prog_1_method_14_code 344 = .ok (.aload_n 0, 1) := fx_dat dk_J_issue 163 rfl
theorem d_J_issue_345 : decode prog_1_method_14_code 345 = .ok (.getfield 73, 3) := fx_dat dk_J_issue 164 rfl
theorem d_J_issue_348 : decode prog_1_method_14_code 348 = .ok (.aload 9, 2) := fx_dat dk_J_issue 165 rfl
theorem d_J_issue_350 : decode prog_1_method_14_code 350 = .ok (.iconst 0, 1) := fx_dat dk_J_issue 166 rfl
theorem d_J_issue_351 : decode prog_1_method_14_code 351 = .ok (.bipush 32, 2) := fx_dat dk_J_issue 167 rfl
theorem d_J_issue_353 : decode prog_1_method_14_code 353 = .ok (.invokevirtual 178, 3) := fx_dat dk_J_issue 168 rfl
theorem d_J_issue_356 : decode prog_1_method_14_code 356 = .ok (.aload_n 0, 1) := fx_dat dk_J_issue 169 rfl
theorem d_J_issue_357 : decode prog_1_method_14_code 357 = .ok (.getfield 73, 3) := fx_dat dk_J_issue 170 rfl
theorem d_J_issue_360 : decode prog_1_method_14_code 360 = .ok (.iconst 0, 1) := fx_dat dk_J_issue 171 rfl
theorem d_J_issue_361 : decode prog_1_method_14_code 361 = .ok (.invokevirtual 182, 3) := fx_dat dk_J_issue 172 rfl
theorem d_J_issue_364 : decode prog_1_method_14_code 364 = .ok (.aload_n 0, 1) := fx_dat dk_J_issue 173 rfl
theorem d_J_issue_365 : decode prog_1_method_14_code 365 = .ok (.getfield 73, 3) := fx_dat dk_J_issue 174 rfl
theorem d_J_issue_368 : decode prog_1_method_14_code 368 = .ok (.iconst 3, 1) := fx_dat dk_J_issue 175 rfl
theorem d_J_issue_369 : decode prog_1_method_14_code 369 = .ok (.iconst 0, 1) := fx_dat dk_J_issue 176 rfl
theorem d_J_issue_370 : decode prog_1_method_14_code 370 = .ok (.invokevirtual 151, 3) := fx_dat dk_J_issue 177 rfl
theorem d_J_issue_373 : decode prog_1_method_14_code 373 = .ok (.aload_n 0, 1) := fx_dat dk_J_issue 178 rfl
theorem d_J_issue_374 : decode prog_1_method_14_code 374 = .ok (.aload_n 0, 1) := fx_dat dk_J_issue 179 rfl
theorem d_J_issue_375 : decode prog_1_method_14_code 375 = .ok (.getfield 73, 3) := fx_dat dk_J_issue 180 rfl
theorem d_J_issue_378 : decode prog_1_method_14_code 378 = .ok (.invokevirtual 185, 3) := fx_dat dk_J_issue 181 rfl
theorem d_J_issue_381 : decode prog_1_method_14_code 381 = .ok (.aload_n 0, 1) := fx_dat dk_J_issue 182 rfl
theorem d_J_issue_382 : decode prog_1_method_14_code 382 = .ok (.getfield 73, 3) := fx_dat dk_J_issue 183 rfl
theorem d_J_issue_385 : decode prog_1_method_14_code 385 = .ok (.aload 7, 2) := fx_dat dk_J_issue 184 rfl
theorem d_J_issue_387 : decode prog_1_method_14_code 387 = .ok (.getfield 209, 3) := fx_dat dk_J_issue 185 rfl
theorem d_J_issue_390 : decode prog_1_method_14_code 390 = .ok (.aload 7, 2) := fx_dat dk_J_issue 186 rfl
theorem d_J_issue_392 : decode prog_1_method_14_code 392 = .ok (.getfield 210, 3) := fx_dat dk_J_issue 187 rfl
theorem d_J_issue_395 : decode prog_1_method_14_code 395 = .ok (.aload 7, 2) := fx_dat dk_J_issue 188 rfl
theorem d_J_issue_397 : decode prog_1_method_14_code 397 = .ok (.invokevirtual 143, 3) := fx_dat dk_J_issue 189 rfl
theorem d_J_issue_400 : decode prog_1_method_14_code 400 = .ok (.invokevirtual 178, 3) := fx_dat dk_J_issue 190 rfl
theorem d_J_issue_403 : decode prog_1_method_14_code 403 = .ok (.aload_n 0, 1) := fx_dat dk_J_issue 191 rfl
theorem d_J_issue_404 : decode prog_1_method_14_code 404 = .ok (.getfield 73, 3) := fx_dat dk_J_issue 192 rfl
theorem d_J_issue_407 : decode prog_1_method_14_code 407 = .ok (.bipush 48, 2) := fx_dat dk_J_issue 193 rfl
theorem d_J_issue_409 : decode prog_1_method_14_code 409 = .ok (.iconst 0, 1) := fx_dat dk_J_issue 194 rfl
theorem d_J_issue_410 : decode prog_1_method_14_code 410 = .ok (.invokevirtual 151, 3) := fx_dat dk_J_issue 195 rfl
theorem d_J_issue_413 : decode prog_1_method_14_code 413 = .ok (.aload_n 0, 1) := fx_dat dk_J_issue 196 rfl
theorem d_J_issue_414 : decode prog_1_method_14_code 414 = .ok (.aload_n 0, 1) := fx_dat dk_J_issue 197 rfl
theorem d_J_issue_415 : decode prog_1_method_14_code 415 = .ok (.getfield 73, 3) := fx_dat dk_J_issue 198 rfl
theorem d_J_issue_418 : decode prog_1_method_14_code 418 = .ok (.getfield 209, 3) := fx_dat dk_J_issue 199 rfl
theorem d_J_issue_421 : decode prog_1_method_14_code 421 = .ok (.aload_n 0, 1) := fx_dat dk_J_issue 200 rfl
theorem d_J_issue_422 : decode prog_1_method_14_code 422 = .ok (.getfield 73, 3) := fx_dat dk_J_issue 201 rfl
theorem d_J_issue_425 : decode prog_1_method_14_code 425 = .ok (.getfield 210, 3) := fx_dat dk_J_issue 202 rfl
theorem d_J_issue_428 : decode prog_1_method_14_code 428 = .ok (.aload_n 0, 1) := fx_dat dk_J_issue 203 rfl
theorem d_J_issue_429 : decode prog_1_method_14_code 429 = .ok (.getfield 73, 3) := fx_dat dk_J_issue 204 rfl
theorem d_J_issue_432 : decode prog_1_method_14_code 432 = .ok (.invokevirtual 143, 3) := fx_dat dk_J_issue 205 rfl
theorem d_J_issue_435 : decode prog_1_method_14_code 435 = .ok (.iload_n 1, 1) := fx_dat dk_J_issue 206 rfl
theorem d_J_issue_436 : decode prog_1_method_14_code 436 = .ok (.invokevirtual 217, 3) := fx_dat dk_J_issue 207 rfl
theorem d_J_issue_439 : decode prog_1_method_14_code 439 = .ok (.ireturn, 1) := fx_dat dk_J_issue 208 rfl
def m_J_issue_28 (Q : Int32 → AH → Prop) (E : Nat → AH → Prop) (h : AH) : Prop := fx_has h 6 ∧ ∀ (_ : fx_wf h) (q1 : Nat), q1 = hp_z h → ∀ h1 : AH, h1 = up_N h 16 0 6 → E q1 h1
def m_J_issue_315 (Q : Int32 → AH → Prop) (E : Nat → AH → Prop) (r0 : Nat) (x1 : Int32) (r7 : Nat) (sr0 : Nat) (sr1 : Nat) (sx2 : Int32) (h : AH) : Prop := hp_k h sr1 = 105 ∧ vp_in sx2 (hp_n h sr1) ∧ ∃ b1, hp_R h sr1 sx2.toNatClampNeg = some b1 ∧ hp_k h r7 = 11 ∧ ∃ b2, hp_R h r7 0 = some b2 ∧ m_Wr_size (fun v1 h1 => fx_ext h h1 → hp_k h1 sr0 = 4 ∧ m_KM_mark (fun q1 h2 => fx_ext h1 h2 → hp_k h2 r0 = 1 ∧ ∃ b3, hp_R h2 r0 9 = some b3 ∧ hp_k h2 b3 = 11 ∧ m_Wr_begin (fun h3 => fx_ext h2 h3 → ∃ b4, hp_R h3 r0 9 = some b4 ∧ hp_k h3 b4 = 11 ∧ m_Wr_all (fun h4 => fx_ext h3 h4 → ∃ b5, hp_R h4 r0 9 = some b5 ∧ hp_k h4 b5 = 11 ∧ m_Wr_one (fun h5 => fx_ext h4 h5 → ∃ b6, hp_R h5 r0 9 = some b6 ∧ hp_k h5 b6 = 11 ∧ m_Wr_wrap (fun h6 => fx_ext h5 h6 → ∃ b7, hp_R h6 r0 9 = some b7 ∧ m_J_algorithm (fun h7 => fx_ext h6 h7 → ∃ b8, hp_R h7 r0 9 = some b8 ∧ ∃ b9, hp_R h7 r7 0 = some b9 ∧ m_Wr_size (fun v2 h8 => fx_ext h7 h8 → hp_k h8 b8 = 11 ∧ m_Wr_all (fun h9 => fx_ext h8 h9 → ∃ b10, hp_R h9 r0 9 = some b10 ∧ hp_k h9 b10 = 11 ∧ m_Wr_wrap (fun h10 => fx_ext h9 h10 → ∃ b11, hp_R h10 r0 9 = some b11 ∧ hp_k h10 b11 = 11 ∧ ∃ b12, hp_R h10 b11 0 = some b12 ∧ m_Wr_size (fun v3 h11 => fx_ext h10 h11 → m_J_hold (fun v4 h12 => fx_ext h11 h12 → Q v4 h12) (fun a ht => fx_ext h11 ht → E a ht) r0 b12 (hp_I h10 b11 1) v3 x1 h11) b11 h10) b10 (48 : Int32) (0 : Int32) h9) b8 b9 (hp_I h7 r7 1) v2 h8) r7 h7) r0 b7 h6) b6 (3 : Int32) (0 : Int32) h5) b5 (0 : Int32) h4) b4 q1 (0 : Int32) (32 : Int32) h3) b3 h2) sr0 b1 (0 : Int32) b2 (hp_I h r7 1) v1 h1) r7 h
def m_J_issue_255 (Q : Int32 → AH → Prop) (E : Nat → AH → Prop) (r0 : Nat) (x1 : Int32) (x2 : Int32) (r7 : Nat) (h : AH) : Prop := hp_k h r0 = 1 ∧ m_J_algorithm (fun h1 => fx_ext h h1 → ∃ b1, hp_R h1 r0 8 = some b1 ∧ ∃ b2, hp_R h1 r0 4 = some b2 ∧ hp_k h1 b2 = 12 ∧ m_AL_size (fun v1 h2 => fx_ext h1 h2 → hp_k h2 b1 = 10 ∧ m_Iss_head (fun h3 => fx_ext h2 h3 → hp_k h3 r7 = 11 ∧ m_Wr_wrap (fun h4 => fx_ext h3 h4 → ∃ b3, hp_R h4 r0 5 = some b3 ∧ ∃ b4, hp_R h4 r0 2 = some b4 ∧ (0 ≤ x2 → ∃ b5, hp_R h4 r0 4 = some b5 ∧ hp_k h4 b5 = 12 ∧ m_AL_get (fun q1 h5 => fx_ext h4 h5 → hp_k h5 q1 = 3 ∧ m_J_issue_315 Q E r0 x1 r7 b3 b4 (hp_I h5 q1 1) h5) b5 x2 h4) ∧ (¬ 0 ≤ x2 → m_J_issue_315 Q E r0 x1 r7 b3 b4 x1 h4)) r7 (48 : Int32) (0 : Int32) h3) b1 (v1 + (1 : Int32)) h2) b2 h1) r0 r7 h
def m_J_issue_81 (Q : Int32 → AH → Prop) (E : Nat → AH → Prop) (r0 : Nat) (x1 : Int32) (x2 : Int32) (x3 : Int32) (x4 : Int32) (x5 : Int32) (x6 : Int32) (h : AH) : Prop := hp_k h r0 = 1 ∧ ∃ b1, hp_R h r0 8 = some b1 ∧ hp_k h b1 = 10 ∧ ∃ b2, hp_R h b1 0 = some b2 ∧ hp_k h b2 = 11 ∧ m_Wr_begin (fun h1 => fx_ext h h1 → ∃ b3, hp_R h1 r0 8 = some b3 ∧ ∃ b4, hp_R h1 r0 0 = some b4 ∧ hp_k h1 b4 = 2 ∧ ∃ b5, hp_R h1 b4 0 = some b5 ∧ hp_k h1 b3 = 10 ∧ m_Iss_extensions (fun h2 => fx_ext h1 h2 → m_Wr_size (fun v1 h3 => fx_ext h2 h3 → ∃ b6, hp_R h3 r0 2 = some b6 ∧ hp_k h3 b6 = 105 ∧ vp_in x1 (hp_n h3 b6) ∧ ∃ b7, hp_R h3 b6 x1.toNatClampNeg = some b7 ∧ m_Wr_all (fun h4 => fx_ext h3 h4 → m_Wr_one (fun h5 => fx_ext h4 h5 → m_Wr_wrap (fun h6 => fx_ext h5 h6 → m_J_algorithm (fun h7 => fx_ext h6 h7 → m_Wr_wrap (fun h8 => fx_ext h7 h8 → ∃ b8, hp_R h8 r0 8 = some b8 ∧ ∃ b9, hp_R h8 r0 0 = some b9 ∧ hp_k h8 b9 = 2 ∧ ∃ b10, hp_R h8 b9 0 = some b10 ∧ hp_k h8 b8 = 10 ∧ m_Iss_name (fun h9 => fx_ext h8 h9 → ∃ b11, hp_R h9 r0 8 = some b11 ∧ hp_k h9 b11 = 10 ∧ m_Iss_times (fun h10 => fx_ext h9 h10 → (0 ≤ x2 → ∃ b12, hp_R h10 r0 7 = some b12 ∧ hp_k h10 b12 = 8 ∧ ∃ b13, hp_R h10 b12 2 = some b13 ∧ m_Wr_all (fun h11 => fx_ext h10 h11 → m_J_issue_255 Q E r0 x1 x2 b2 h11) b2 b13 (hp_I h10 b12 7) ((hp_I h10 b12 8) - (hp_I h10 b12 7)) h10) ∧ (¬ 0 ≤ x2 → ∃ b14, hp_R h10 r0 8 = some b14 ∧ ∃ b15, hp_R h10 r0 0 = some b15 ∧ hp_k h10 b15 = 2 ∧ ∃ b16, hp_R h10 b15 0 = some b16 ∧ hp_k h10 b14 = 10 ∧ m_Iss_name (fun h12 => fx_ext h10 h12 → m_J_issue_255 Q E r0 x1 x2 b2 h12) b14 b16 x6 h10)) b11 ((x4).toInt64) ((x5).toInt64) h9) b8 b10 x6 h8) b2 (48 : Int32) v1 h7) r0 b2 h6) b2 (3 : Int32) v1 h5) b2 (0 : Int32) h4) b2 b7 (0 : Int32) (32 : Int32) h3) b2 h2) b3 x3 b5 x6 (hp_I h1 b4 1) h1) b2 h
def m_J_issue (Q : Int32 → AH → Prop) (E : Nat → AH → Prop) (r0 : Nat) (x1 : Int32) (x2 : Int32) (x3 : Int32) (x4 : Int32) (x5 : Int32) (h : AH) : Prop := (x1 < 0 → m_J_issue_28 Q E h) ∧ (¬ x1 < 0 → hp_k h r0 = 1 ∧ ((hp_I h r0 3) ≤ x1 → m_J_issue_28 Q E h) ∧ (¬ (hp_I h r0 3) ≤ x1 → (x2 < (-1 : Int32) → m_J_issue_28 Q E h) ∧ (¬ x2 < (-1 : Int32) → ∃ b1, hp_R h r0 4 = some b1 ∧ hp_k h b1 = 12 ∧ m_AL_size (fun v1 h1 => fx_ext h h1 → (x2 < v1 → m_J_check (fun h2 => fx_ext h1 h2 → m_J_nameSize (fun v2 h3 => fx_ext h2 h3 → (x2 < 0 → m_J_issue_81 Q E r0 x1 x2 x3 x4 x5 v2 h3) ∧ (¬ x2 < 0 → ∃ b2, hp_R h3 r0 4 = some b2 ∧ hp_k h3 b2 = 12 ∧ m_AL_get (fun q1 h4 => fx_ext h3 h4 → hp_k h4 q1 = 3 ∧ m_J_reads (fun v3 h5 => fx_ext h4 h5 → zb v3 → (¬ v3 = 0 → m_J_issue_81 Q E r0 x1 x2 x3 x4 x5 v2 h5) ∧ (v3 = 0 → fx_has h5 6 ∧ ∀ (_ : fx_wf h5) (q2 : Nat), q2 = hp_z h5 → ∀ h6 : AH, h6 = up_N h5 17 0 6 → E q2 h6)) r0 q1 h4) b2 x2 h3)) (fun a ht => fx_ext h2 ht → E a ht) r0 h2) (fun a ht => fx_ext h1 ht → E a ht) r0 x3 x4 x5 h1) ∧ (¬ x2 < v1 → m_J_issue_28 Q E h1)) b1 h)))
theorem b_J_issue_28 {p : Program} {l : Launch} {e : Env} {R : Room} {s : State} {m : MethodId} {args : Array Value} {below : List Frame} {meth : Method} {c : Code} {D : DD} {h0 : AH} {Q : Int32 → AH → Prop} {E : Nat → AH → Prop} (C : fx_CX D y_J_issue prog_1_method_14_code 10 16 248 (Option.some FieldType.int) [] h0 p R s m meth c) (hl : l.flags = flags0) (h : AH) (hw : m_J_issue_28 Q E h) : ∀ (ls : Array Slot) (H : Heap) (locs : List Loc) (cells slots : Nat), lv_has ls 10 [] → fx_F D h0 h H locs cells slots → W p l e R s m args below meth c H locs cells slots (fx_Z D below s h0 (fx_oI Q E)) (F0 m 28 ls []) := by
  unfold m_J_issue_28 at hw
  intro ls H locs cells slots hv F
  obtain ⟨hs, hw⟩ := hw
  let q1 : Nat := hp_z h
  let h1 : AH := up_N h 16 0 6
  replace hw := hw F.wf q1 rfl h1 rfl
  have hkq1 : hp_k h1 q1 = 16 := fx_nk _ _ _ _
  refine fx_exc (r := ("java/util/NoSuchElementException", fx_T15, 0)) (names := fx_rn) C F rfl rfl (fx_m3 (List.mem_of_getElem? (i := 71) rfl)) (fx_m1 (List.mem_of_getElem? (i := 23) rfl)) (by decide +kernel) (by decide +kernel) ex_J_130 hs hv.1 hl d_J_issue_28 d_J_issue_31 d_J_issue_32 (by decide) (Nat.le_of_ble_eq_true rfl) (fun H locs cells slots (F : fx_F D h0 h1 H locs cells slots) => ?_)
  exact fx_athrow C F (fx_out0 _) d_J_issue_35 (Or.inr ⟨_, rfl, hw⟩)
theorem b_J_issue_315 {p : Program} {l : Launch} {e : Env} {R : Room} {s : State} {m : MethodId} {args : Array Value} {below : List Frame} {meth : Method} {c : Code} {D : DD} {h0 : AH} {Q : Int32 → AH → Prop} {E : Nat → AH → Prop} (C : fx_CX D y_J_issue prog_1_method_14_code 10 16 248 (Option.some FieldType.int) [] h0 p R s m meth c) (hl : l.flags = flags0) (r0 : Nat) (x1 : Int32) (r7 : Nat) (sr0 : Nat) (sr1 : Nat) (sx2 : Int32) (h : AH) (hw : m_J_issue_315 Q E r0 x1 r7 sr0 sr1 sx2 h) : ∀ (ls : Array Slot) (H : Heap) (locs : List Loc) (cells slots : Nat), lv_has ls 10 [(0, .ref r0), (1, .int x1), (7, .ref r7)] → fx_F D h0 h H locs cells slots → W p l e R s m args below meth c H locs cells slots (fx_Z D below s h0 (fx_oI Q E)) (F0 m 315 ls [.int sx2, .ref sr1, .ref sr0]) := by
  unfold m_J_issue_315 at hw
  intro ls H locs cells slots hv F
  obtain ⟨hk1, hw⟩ := hw
  obtain ⟨hi1, hw⟩ := hw
  obtain ⟨b1, hb1, hw⟩ := hw
  refine fx_aald C F (Or.inr hk1) hi1 hb1 d_J_issue_315 ?_
  refine lv_iconst (v := (0 : Int32)) C.ex C.by d_J_issue_316 (by decide) ?_
  refine lv_aload C.ex C.by d_J_issue_317 (lv_at hv 2 rfl) ?_
  obtain ⟨hk2, hw⟩ := hw
  obtain ⟨b2, hb2, hw⟩ := hw
  refine fx_getR C F lf_J_209 hk2 rfl hb2 d_J_issue_319 ?_
  refine lv_aload C.ex C.by d_J_issue_322 (lv_at hv 2 rfl) ?_
  refine fx_getI C F lf_J_210 hk2 rfl d_J_issue_324 ?_
  refine lv_aload C.ex C.by d_J_issue_327 (lv_at hv 2 rfl) ?_
  refine fx_callI C F (c_Wr_size hl hw) hm_Wr_size hi_Wr_size hv.1 (by decide) (Nat.le_of_ble_eq_true rfl) (iv_Wr_size C F lm_J_143 hk2 d_J_issue_329) (fx_out0 _) fx_eno (fun v1 h1 H locs cells slots hw hx1 F => ?_)
  replace hw := hw hx1
  have hk2 := (hx1).k hk2
  have hk1 := (hx1).k hk1
  obtain ⟨hk3, hw⟩ := hw
  refine fx_callR C F (c_KM_mark hl hw) hm_KM_mark hi_KM_mark hv.1 (by decide) (Nat.le_of_ble_eq_true rfl) (iv_KM_mark C F lm_J_213 hk3 d_J_issue_332) (fx_out0 _) fx_eno (fun q1 h2 H locs cells slots hw hx2 F => ?_)
  replace hw := hw hx2
  have hk2 := (hx2).k hk2
  have hk3 := (hx2).k hk3
  have hk1 := (hx2).k hk1
  refine lv_astore (lv' := [(9, .ref q1), (0, .ref r0), (1, .int x1), (7, .ref r7)]) C.ex C.by d_J_issue_335 hv (by decide) rfl (fun ls hv => ?_)
  refine lv_aload_n C.ex C.by d_J_issue_337 rfl (lv_at hv 1 rfl) ?_
  obtain ⟨hk4, hw⟩ := hw
  obtain ⟨b3, hb3, hw⟩ := hw
  refine fx_getR C F lf_J_73 hk4 rfl hb3 d_J_issue_338 ?_
  obtain ⟨hk5, hw⟩ := hw
  refine fx_callV C F (c_Wr_begin hl hw) hm_Wr_begin hi_Wr_begin hv.1 (by decide) (Nat.le_of_ble_eq_true rfl) (iv_Wr_begin C F lm_J_172 hk5 d_J_issue_341) (fx_out0 _) fx_eno (fun h3 H locs cells slots hw hx3 F => ?_)
  replace hw := hw hx3
  have hk5 := (hx3).k hk5
  have hk4 := (hx3).k hk4
  have hk2 := (hx3).k hk2
  have hk3 := (hx3).k hk3
  have hk1 := (hx3).k hk1
  refine lv_aload_n C.ex C.by d_J_issue_344 rfl (lv_at hv 1 rfl) ?_
  obtain ⟨b4, hb4, hw⟩ := hw
  refine fx_getR C F lf_J_73 hk4 rfl hb4 d_J_issue_345 ?_
  refine lv_aload C.ex C.by d_J_issue_348 (lv_at hv 0 rfl) ?_
  refine lv_iconst (v := (0 : Int32)) C.ex C.by d_J_issue_350 (by decide) ?_
  refine lv_bipush (v := (32 : Int32)) C.ex C.by d_J_issue_351 (by decide) ?_
  obtain ⟨hk6, hw⟩ := hw
  refine fx_callV C F (c_Wr_all hl hw) hm_Wr_all hi_Wr_all hv.1 (by decide) (Nat.le_of_ble_eq_true rfl) (iv_Wr_all C F lm_J_178 hk6 d_J_issue_353) (fx_out0 _) fx_eno (fun h4 H locs cells slots hw hx4 F => ?_)
  replace hw := hw hx4
  have hk5 := (hx4).k hk5
  have hk6 := (hx4).k hk6
  have hk4 := (hx4).k hk4
  have hk2 := (hx4).k hk2
  have hk3 := (hx4).k hk3
  have hk1 := (hx4).k hk1
  refine lv_aload_n C.ex C.by d_J_issue_356 rfl (lv_at hv 1 rfl) ?_
  obtain ⟨b5, hb5, hw⟩ := hw
  refine fx_getR C F lf_J_73 hk4 rfl hb5 d_J_issue_357 ?_
  refine lv_iconst (v := (0 : Int32)) C.ex C.by d_J_issue_360 (by decide) ?_
  obtain ⟨hk7, hw⟩ := hw
  refine fx_callV C F (c_Wr_one hl hw) hm_Wr_one hi_Wr_one hv.1 (by decide) (Nat.le_of_ble_eq_true rfl) (iv_Wr_one C F lm_J_182 hk7 d_J_issue_361) (fx_out0 _) fx_eno (fun h5 H locs cells slots hw hx5 F => ?_)
  replace hw := hw hx5
  have hk5 := (hx5).k hk5
  have hk6 := (hx5).k hk6
  have hk7 := (hx5).k hk7
  have hk4 := (hx5).k hk4
  have hk2 := (hx5).k hk2
  have hk3 := (hx5).k hk3
  have hk1 := (hx5).k hk1
  refine lv_aload_n C.ex C.by d_J_issue_364 rfl (lv_at hv 1 rfl) ?_
  obtain ⟨b6, hb6, hw⟩ := hw
  refine fx_getR C F lf_J_73 hk4 rfl hb6 d_J_issue_365 ?_
  refine lv_iconst (v := (3 : Int32)) C.ex C.by d_J_issue_368 (by decide) ?_
  refine lv_iconst (v := (0 : Int32)) C.ex C.by d_J_issue_369 (by decide) ?_
  obtain ⟨hk8, hw⟩ := hw
  refine fx_callV C F (c_Wr_wrap hl hw) hm_Wr_wrap hi_Wr_wrap hv.1 (by decide) (Nat.le_of_ble_eq_true rfl) (iv_Wr_wrap C F lm_J_151 hk8 d_J_issue_370) (fx_out0 _) fx_eno (fun h6 H locs cells slots hw hx6 F => ?_)
  replace hw := hw hx6
  have hk5 := (hx6).k hk5
  have hk6 := (hx6).k hk6
  have hk7 := (hx6).k hk7
  have hk8 := (hx6).k hk8
  have hk4 := (hx6).k hk4
  have hk2 := (hx6).k hk2
  have hk3 := (hx6).k hk3
  have hk1 := (hx6).k hk1
  refine lv_aload_n C.ex C.by d_J_issue_373 rfl (lv_at hv 1 rfl) ?_
  refine lv_aload_n C.ex C.by d_J_issue_374 rfl (lv_at hv 1 rfl) ?_
  obtain ⟨b7, hb7, hw⟩ := hw
  refine fx_getR C F lf_J_73 hk4 rfl hb7 d_J_issue_375 ?_
  refine fx_callV C F (c_J_algorithm hl hw) hm_J_algorithm hi_J_algorithm hv.1 (by decide) (Nat.le_of_ble_eq_true rfl) (iv_J_algorithm C F lm_J_185 hk4 d_J_issue_378) (fx_out0 _) fx_eno (fun h7 H locs cells slots hw hx7 F => ?_)
  replace hw := hw hx7
  have hk5 := (hx7).k hk5
  have hk6 := (hx7).k hk6
  have hk7 := (hx7).k hk7
  have hk8 := (hx7).k hk8
  have hk4 := (hx7).k hk4
  have hk2 := (hx7).k hk2
  have hk3 := (hx7).k hk3
  have hk1 := (hx7).k hk1
  refine lv_aload_n C.ex C.by d_J_issue_381 rfl (lv_at hv 1 rfl) ?_
  obtain ⟨b8, hb8, hw⟩ := hw
  refine fx_getR C F lf_J_73 hk4 rfl hb8 d_J_issue_382 ?_
  refine lv_aload C.ex C.by d_J_issue_385 (lv_at hv 3 rfl) ?_
  obtain ⟨b9, hb9, hw⟩ := hw
  refine fx_getR C F lf_J_209 hk2 rfl hb9 d_J_issue_387 ?_
  refine lv_aload C.ex C.by d_J_issue_390 (lv_at hv 3 rfl) ?_
  refine fx_getI C F lf_J_210 hk2 rfl d_J_issue_392 ?_
  refine lv_aload C.ex C.by d_J_issue_395 (lv_at hv 3 rfl) ?_
  refine fx_callI C F (c_Wr_size hl hw) hm_Wr_size hi_Wr_size hv.1 (by decide) (Nat.le_of_ble_eq_true rfl) (iv_Wr_size C F lm_J_143 hk2 d_J_issue_397) (fx_out0 _) fx_eno (fun v2 h8 H locs cells slots hw hx8 F => ?_)
  replace hw := hw hx8
  have hk5 := (hx8).k hk5
  have hk6 := (hx8).k hk6
  have hk7 := (hx8).k hk7
  have hk8 := (hx8).k hk8
  have hk4 := (hx8).k hk4
  have hk2 := (hx8).k hk2
  have hk3 := (hx8).k hk3
  have hk1 := (hx8).k hk1
  obtain ⟨hk9, hw⟩ := hw
  refine fx_callV C F (c_Wr_all hl hw) hm_Wr_all hi_Wr_all hv.1 (by decide) (Nat.le_of_ble_eq_true rfl) (iv_Wr_all C F lm_J_178 hk9 d_J_issue_400) (fx_out0 _) fx_eno (fun h9 H locs cells slots hw hx9 F => ?_)
  replace hw := hw hx9
  have hk5 := (hx9).k hk5
  have hk6 := (hx9).k hk6
  have hk7 := (hx9).k hk7
  have hk8 := (hx9).k hk8
  have hk9 := (hx9).k hk9
  have hk4 := (hx9).k hk4
  have hk2 := (hx9).k hk2
  have hk3 := (hx9).k hk3
  have hk1 := (hx9).k hk1
  refine lv_aload_n C.ex C.by d_J_issue_403 rfl (lv_at hv 1 rfl) ?_
  obtain ⟨b10, hb10, hw⟩ := hw
  refine fx_getR C F lf_J_73 hk4 rfl hb10 d_J_issue_404 ?_
  refine lv_bipush (v := (48 : Int32)) C.ex C.by d_J_issue_407 (by decide) ?_
  refine lv_iconst (v := (0 : Int32)) C.ex C.by d_J_issue_409 (by decide) ?_
  obtain ⟨hk10, hw⟩ := hw
  refine fx_callV C F (c_Wr_wrap hl hw) hm_Wr_wrap hi_Wr_wrap hv.1 (by decide) (Nat.le_of_ble_eq_true rfl) (iv_Wr_wrap C F lm_J_151 hk10 d_J_issue_410) (fx_out0 _) fx_eno (fun h10 H locs cells slots hw hx10 F => ?_)
  replace hw := hw hx10
  have hk10 := (hx10).k hk10
  have hk5 := (hx10).k hk5
  have hk6 := (hx10).k hk6
  have hk7 := (hx10).k hk7
  have hk8 := (hx10).k hk8
  have hk9 := (hx10).k hk9
  have hk4 := (hx10).k hk4
  have hk2 := (hx10).k hk2
  have hk3 := (hx10).k hk3
  have hk1 := (hx10).k hk1
  refine lv_aload_n C.ex C.by d_J_issue_413 rfl (lv_at hv 1 rfl) ?_
  refine lv_aload_n C.ex C.by d_J_issue_414 rfl (lv_at hv 1 rfl) ?_
  obtain ⟨b11, hb11, hw⟩ := hw
  refine fx_getR C F lf_J_73 hk4 rfl hb11 d_J_issue_415 ?_
  obtain ⟨hk11, hw⟩ := hw
  obtain ⟨b12, hb12, hw⟩ := hw
  refine fx_getR C F lf_J_209 hk11 rfl hb12 d_J_issue_418 ?_
  refine lv_aload_n C.ex C.by d_J_issue_421 rfl (lv_at hv 1 rfl) ?_
  refine fx_getR C F lf_J_73 hk4 rfl hb11 d_J_issue_422 ?_
  refine fx_getI C F lf_J_210 hk11 rfl d_J_issue_425 ?_
  refine lv_aload_n C.ex C.by d_J_issue_428 rfl (lv_at hv 1 rfl) ?_
  refine fx_getR C F lf_J_73 hk4 rfl hb11 d_J_issue_429 ?_
  refine fx_callI C F (c_Wr_size hl hw) hm_Wr_size hi_Wr_size hv.1 (by decide) (Nat.le_of_ble_eq_true rfl) (iv_Wr_size C F lm_J_143 hk11 d_J_issue_432) (fx_out0 _) fx_eno (fun v3 h11 H locs cells slots hw hx11 F => ?_)
  replace hw := hw hx11
  have hk10 := (hx11).k hk10
  have hk11 := (hx11).k hk11
  have hk5 := (hx11).k hk5
  have hk6 := (hx11).k hk6
  have hk7 := (hx11).k hk7
  have hk8 := (hx11).k hk8
  have hk9 := (hx11).k hk9
  have hk4 := (hx11).k hk4
  have hk2 := (hx11).k hk2
  have hk3 := (hx11).k hk3
  have hk1 := (hx11).k hk1
  refine lv_iload_n C.ex C.by d_J_issue_435 rfl (lv_at hv 2 rfl) ?_
  refine fx_callI C F (c_J_hold hl hw) hm_J_hold hi_J_hold hv.1 (by decide) (Nat.le_of_ble_eq_true rfl) (iv_J_hold C F lm_J_217 hk4 d_J_issue_436) (fx_out0 _) (fun _ _ hE hx => Or.inr ⟨_, rfl, hE hx⟩) (fun v4 h12 H locs cells slots hw hx12 F => ?_)
  replace hw := hw hx12
  have hk10 := (hx12).k hk10
  have hk11 := (hx12).k hk11
  have hk5 := (hx12).k hk5
  have hk6 := (hx12).k hk6
  have hk7 := (hx12).k hk7
  have hk8 := (hx12).k hk8
  have hk9 := (hx12).k hk9
  have hk4 := (hx12).k hk4
  have hk2 := (hx12).k hk2
  have hk3 := (hx12).k hk3
  have hk1 := (hx12).k hk1
  exact fx_iret C F d_J_issue_439 (Or.inl ⟨_, rfl, hw⟩)
theorem b_J_issue_255 {p : Program} {l : Launch} {e : Env} {R : Room} {s : State} {m : MethodId} {args : Array Value} {below : List Frame} {meth : Method} {c : Code} {D : DD} {h0 : AH} {Q : Int32 → AH → Prop} {E : Nat → AH → Prop} (C : fx_CX D y_J_issue prog_1_method_14_code 10 16 248 (Option.some FieldType.int) [] h0 p R s m meth c) (hl : l.flags = flags0) (r0 : Nat) (x1 : Int32) (x2 : Int32) (r7 : Nat) (h : AH) (hw : m_J_issue_255 Q E r0 x1 x2 r7 h) : ∀ (ls : Array Slot) (H : Heap) (locs : List Loc) (cells slots : Nat), lv_has ls 10 [(0, .ref r0), (1, .int x1), (2, .int x2), (7, .ref r7)] → fx_F D h0 h H locs cells slots → W p l e R s m args below meth c H locs cells slots (fx_Z D below s h0 (fx_oI Q E)) (F0 m 255 ls []) := by
  unfold m_J_issue_255 at hw
  intro ls H locs cells slots hv F
  refine lv_aload_n C.ex C.by d_J_issue_255 rfl (lv_at hv 0 rfl) ?_
  refine lv_aload C.ex C.by d_J_issue_256 (lv_at hv 3 rfl) ?_
  obtain ⟨hk1, hw⟩ := hw
  refine fx_callV C F (c_J_algorithm hl hw) hm_J_algorithm hi_J_algorithm hv.1 (by decide) (Nat.le_of_ble_eq_true rfl) (iv_J_algorithm C F lm_J_185 hk1 d_J_issue_258) (fx_out0 _) fx_eno (fun h1 H locs cells slots hw hx1 F => ?_)
  replace hw := hw hx1
  have hk1 := (hx1).k hk1
  refine lv_aload_n C.ex C.by d_J_issue_261 rfl (lv_at hv 0 rfl) ?_
  obtain ⟨b1, hb1, hw⟩ := hw
  refine fx_getR C F lf_J_66 hk1 rfl hb1 d_J_issue_262 ?_
  refine lv_aload_n C.ex C.by d_J_issue_265 rfl (lv_at hv 0 rfl) ?_
  obtain ⟨b2, hb2, hw⟩ := hw
  refine fx_getR C F lf_J_36 hk1 rfl hb2 d_J_issue_266 ?_
  obtain ⟨hk2, hw⟩ := hw
  refine fx_callI C F (c_AL_size hl hw) hm_AL_size hi_AL_size hv.1 (by decide) (Nat.le_of_ble_eq_true rfl) (iv_AL_size C F lm_J_125 hk2 d_J_issue_269) (fx_out0 _) fx_eno (fun v1 h2 H locs cells slots hw hx2 F => ?_)
  replace hw := hw hx2
  have hk2 := (hx2).k hk2
  have hk1 := (hx2).k hk1
  refine lv_iconst (v := (1 : Int32)) C.ex C.by d_J_issue_272 (by decide) ?_
  refine lv_iadd C.ex C.by d_J_issue_273 ?_
  obtain ⟨hk3, hw⟩ := hw
  refine fx_callV C F (c_Iss_head hl hw) hm_Iss_head hi_Iss_head hv.1 (by decide) (Nat.le_of_ble_eq_true rfl) (iv_Iss_head C F lm_J_203 hk3 d_J_issue_274) (fx_out0 _) fx_eno (fun h3 H locs cells slots hw hx3 F => ?_)
  replace hw := hw hx3
  have hk3 := (hx3).k hk3
  have hk2 := (hx3).k hk2
  have hk1 := (hx3).k hk1
  refine lv_aload C.ex C.by d_J_issue_277 (lv_at hv 3 rfl) ?_
  refine lv_bipush (v := (48 : Int32)) C.ex C.by d_J_issue_279 (by decide) ?_
  refine lv_iconst (v := (0 : Int32)) C.ex C.by d_J_issue_281 (by decide) ?_
  obtain ⟨hk4, hw⟩ := hw
  refine fx_callV C F (c_Wr_wrap hl hw) hm_Wr_wrap hi_Wr_wrap hv.1 (by decide) (Nat.le_of_ble_eq_true rfl) (iv_Wr_wrap C F lm_J_151 hk4 d_J_issue_282) (fx_out0 _) fx_eno (fun h4 H locs cells slots hw hx4 F => ?_)
  replace hw := hw hx4
  have hk3 := (hx4).k hk3
  have hk2 := (hx4).k hk2
  have hk1 := (hx4).k hk1
  have hk4 := (hx4).k hk4
  refine lv_aload_n C.ex C.by d_J_issue_285 rfl (lv_at hv 0 rfl) ?_
  obtain ⟨b3, hb3, hw⟩ := hw
  refine fx_getR C F lf_J_43 hk1 rfl hb3 d_J_issue_286 ?_
  refine lv_aload_n C.ex C.by d_J_issue_289 rfl (lv_at hv 0 rfl) ?_
  obtain ⟨b4, hb4, hw⟩ := hw
  refine fx_getR C F lf_J_25 hk1 rfl hb4 d_J_issue_290 ?_
  refine lv_iload_n C.ex C.by d_J_issue_293 rfl (lv_at hv 2 rfl) ?_
  refine lv_if_ge C.ex C.by d_J_issue_294 rfl (fun hc => ?_) (fun hc => ?_)
  · replace hw := hw.1 hc
    refine lv_aload_n C.ex C.by d_J_issue_301 rfl (lv_at hv 0 rfl) ?_
    obtain ⟨b5, hb5, hw⟩ := hw
    refine fx_getR C F lf_J_36 hk1 rfl hb5 d_J_issue_302 ?_
    refine lv_iload_n C.ex C.by d_J_issue_305 rfl (lv_at hv 2 rfl) ?_
    obtain ⟨hk5, hw⟩ := hw
    refine fx_callR C F (c_AL_get hl hw) hm_AL_get hi_AL_get hv.1 (by decide) (Nat.le_of_ble_eq_true rfl) (iv_AL_get C F lm_J_131 hk5 d_J_issue_306) (fx_out0 _) fx_eno (fun q1 h5 H locs cells slots hw hx5 F => ?_)
    replace hw := hw hx5
    have hk3 := (hx5).k hk3
    have hk2 := (hx5).k hk2
    have hk5 := (hx5).k hk5
    have hk1 := (hx5).k hk1
    have hk4 := (hx5).k hk4
    obtain ⟨hk6, hw⟩ := hw
    refine fx_cast (ci := 2) (r := ("ChainJudge$Held", fx_T2, 2)) (nm := "ChainJudge$Held") C F rfl (by decide) hk6 (fx_m3 (List.mem_of_getElem? (i := 108) rfl)) (fx_m8 (List.mem_of_getElem? (i := 7) rfl)) d_J_issue_309 ?_
    refine fx_getI C F lf_J_206 hk6 rfl d_J_issue_312 ?_
    exact b_J_issue_315 C hl _ _ _ _ _ _ _ hw _ _ _ _ _ (lv_sub hv [0, 1, 3] rfl) F
  · replace hw := hw.2 hc
    refine lv_iload_n C.ex C.by d_J_issue_297 rfl (lv_at hv 1 rfl) ?_
    refine lv_goto C.ex C.by d_J_issue_298 rfl ?_
    exact b_J_issue_315 C hl _ _ _ _ _ _ _ hw _ _ _ _ _ (lv_sub hv [0, 1, 3] rfl) F
theorem b_J_issue_81 {p : Program} {l : Launch} {e : Env} {R : Room} {s : State} {m : MethodId} {args : Array Value} {below : List Frame} {meth : Method} {c : Code} {D : DD} {h0 : AH} {Q : Int32 → AH → Prop} {E : Nat → AH → Prop} (C : fx_CX D y_J_issue prog_1_method_14_code 10 16 248 (Option.some FieldType.int) [] h0 p R s m meth c) (hl : l.flags = flags0) (r0 : Nat) (x1 : Int32) (x2 : Int32) (x3 : Int32) (x4 : Int32) (x5 : Int32) (x6 : Int32) (h : AH) (hw : m_J_issue_81 Q E r0 x1 x2 x3 x4 x5 x6 h) : ∀ (ls : Array Slot) (H : Heap) (locs : List Loc) (cells slots : Nat), lv_has ls 10 [(0, .ref r0), (1, .int x1), (2, .int x2), (3, .int x3), (4, .int x4), (5, .int x5), (6, .int x6)] → fx_F D h0 h H locs cells slots → W p l e R s m args below meth c H locs cells slots (fx_Z D below s h0 (fx_oI Q E)) (F0 m 81 ls []) := by
  unfold m_J_issue_81 at hw
  intro ls H locs cells slots hv F
  refine lv_aload_n C.ex C.by d_J_issue_81 rfl (lv_at hv 0 rfl) ?_
  obtain ⟨hk1, hw⟩ := hw
  obtain ⟨b1, hb1, hw⟩ := hw
  refine fx_getR C F lf_J_66 hk1 rfl hb1 d_J_issue_82 ?_
  obtain ⟨hk2, hw⟩ := hw
  obtain ⟨b2, hb2, hw⟩ := hw
  refine fx_getR C F lf_J_169 hk2 rfl hb2 d_J_issue_85 ?_
  refine lv_astore (lv' := [(7, .ref b2), (0, .ref r0), (1, .int x1), (2, .int x2), (3, .int x3), (4, .int x4), (5, .int x5), (6, .int x6)]) C.ex C.by d_J_issue_88 hv (by decide) rfl (fun ls hv => ?_)
  refine lv_aload C.ex C.by d_J_issue_90 (lv_at hv 0 rfl) ?_
  obtain ⟨hk3, hw⟩ := hw
  refine fx_callV C F (c_Wr_begin hl hw) hm_Wr_begin hi_Wr_begin hv.1 (by decide) (Nat.le_of_ble_eq_true rfl) (iv_Wr_begin C F lm_J_172 hk3 d_J_issue_92) (fx_out0 _) fx_eno (fun h1 H locs cells slots hw hx1 F => ?_)
  replace hw := hw hx1
  have hk2 := (hx1).k hk2
  have hk3 := (hx1).k hk3
  have hk1 := (hx1).k hk1
  refine lv_aload_n C.ex C.by d_J_issue_95 rfl (lv_at hv 1 rfl) ?_
  obtain ⟨b3, hb3, hw⟩ := hw
  refine fx_getR C F lf_J_66 hk1 rfl hb3 d_J_issue_96 ?_
  refine lv_iload_n C.ex C.by d_J_issue_99 rfl (lv_at hv 4 rfl) ?_
  refine lv_aload_n C.ex C.by d_J_issue_100 rfl (lv_at hv 1 rfl) ?_
  obtain ⟨b4, hb4, hw⟩ := hw
  refine fx_getR C F lf_J_14 hk1 rfl hb4 d_J_issue_101 ?_
  obtain ⟨hk4, hw⟩ := hw
  obtain ⟨b5, hb5, hw⟩ := hw
  refine fx_getR C F lf_J_110 hk4 rfl hb5 d_J_issue_104 ?_
  refine lv_iload C.ex C.by d_J_issue_107 (lv_at hv 7 rfl) ?_
  refine lv_aload_n C.ex C.by d_J_issue_109 rfl (lv_at hv 1 rfl) ?_
  refine fx_getR C F lf_J_14 hk1 rfl hb4 d_J_issue_110 ?_
  refine fx_getI C F lf_J_96 hk4 rfl d_J_issue_113 ?_
  obtain ⟨hk5, hw⟩ := hw
  refine fx_callV C F (c_Iss_extensions hl hw) hm_Iss_extensions hi_Iss_extensions hv.1 (by decide) (Nat.le_of_ble_eq_true rfl) (iv_Iss_extensions C F lm_J_175 hk5 d_J_issue_116) (fx_out0 _) fx_eno (fun h2 H locs cells slots hw hx2 F => ?_)
  replace hw := hw hx2
  have hk2 := (hx2).k hk2
  have hk3 := (hx2).k hk3
  have hk5 := (hx2).k hk5
  have hk4 := (hx2).k hk4
  have hk1 := (hx2).k hk1
  refine lv_aload C.ex C.by d_J_issue_119 (lv_at hv 0 rfl) ?_
  refine fx_callI C F (c_Wr_size hl hw) hm_Wr_size hi_Wr_size hv.1 (by decide) (Nat.le_of_ble_eq_true rfl) (iv_Wr_size C F lm_J_143 hk3 d_J_issue_121) (fx_out0 _) fx_eno (fun v1 h3 H locs cells slots hw hx3 F => ?_)
  replace hw := hw hx3
  have hk2 := (hx3).k hk2
  have hk3 := (hx3).k hk3
  have hk5 := (hx3).k hk5
  have hk4 := (hx3).k hk4
  have hk1 := (hx3).k hk1
  refine lv_istore (lv' := [(8, .int v1), (7, .ref b2), (0, .ref r0), (1, .int x1), (2, .int x2), (3, .int x3), (4, .int x4), (5, .int x5), (6, .int x6)]) C.ex C.by d_J_issue_124 hv (by decide) rfl (fun ls hv => ?_)
  refine lv_aload C.ex C.by d_J_issue_126 (lv_at hv 1 rfl) ?_
  refine lv_aload_n C.ex C.by d_J_issue_128 rfl (lv_at hv 2 rfl) ?_
  obtain ⟨b6, hb6, hw⟩ := hw
  refine fx_getR C F lf_J_25 hk1 rfl hb6 d_J_issue_129 ?_
  refine lv_iload_n C.ex C.by d_J_issue_132 rfl (lv_at hv 3 rfl) ?_
  obtain ⟨hk6, hw⟩ := hw
  obtain ⟨hi1, hw⟩ := hw
  obtain ⟨b7, hb7, hw⟩ := hw
  refine fx_aald C F (Or.inr hk6) hi1 hb7 d_J_issue_133 ?_
  refine lv_iconst (v := (0 : Int32)) C.ex C.by d_J_issue_134 (by decide) ?_
  refine lv_bipush (v := (32 : Int32)) C.ex C.by d_J_issue_135 (by decide) ?_
  refine fx_callV C F (c_Wr_all hl hw) hm_Wr_all hi_Wr_all hv.1 (by decide) (Nat.le_of_ble_eq_true rfl) (iv_Wr_all C F lm_J_178 hk3 d_J_issue_137) (fx_out0 _) fx_eno (fun h4 H locs cells slots hw hx4 F => ?_)
  replace hw := hw hx4
  have hk2 := (hx4).k hk2
  have hk3 := (hx4).k hk3
  have hk5 := (hx4).k hk5
  have hk4 := (hx4).k hk4
  have hk6 := (hx4).k hk6
  have hk1 := (hx4).k hk1
  refine lv_aload C.ex C.by d_J_issue_140 (lv_at hv 1 rfl) ?_
  refine lv_iconst (v := (0 : Int32)) C.ex C.by d_J_issue_142 (by decide) ?_
  refine fx_callV C F (c_Wr_one hl hw) hm_Wr_one hi_Wr_one hv.1 (by decide) (Nat.le_of_ble_eq_true rfl) (iv_Wr_one C F lm_J_182 hk3 d_J_issue_143) (fx_out0 _) fx_eno (fun h5 H locs cells slots hw hx5 F => ?_)
  replace hw := hw hx5
  have hk2 := (hx5).k hk2
  have hk3 := (hx5).k hk3
  have hk5 := (hx5).k hk5
  have hk4 := (hx5).k hk4
  have hk6 := (hx5).k hk6
  have hk1 := (hx5).k hk1
  refine lv_aload C.ex C.by d_J_issue_146 (lv_at hv 1 rfl) ?_
  refine lv_iconst (v := (3 : Int32)) C.ex C.by d_J_issue_148 (by decide) ?_
  refine lv_iload C.ex C.by d_J_issue_149 (lv_at hv 0 rfl) ?_
  refine fx_callV C F (c_Wr_wrap hl hw) hm_Wr_wrap hi_Wr_wrap hv.1 (by decide) (Nat.le_of_ble_eq_true rfl) (iv_Wr_wrap C F lm_J_151 hk3 d_J_issue_151) (fx_out0 _) fx_eno (fun h6 H locs cells slots hw hx6 F => ?_)
  replace hw := hw hx6
  have hk2 := (hx6).k hk2
  have hk3 := (hx6).k hk3
  have hk5 := (hx6).k hk5
  have hk4 := (hx6).k hk4
  have hk6 := (hx6).k hk6
  have hk1 := (hx6).k hk1
  refine lv_aload_n C.ex C.by d_J_issue_154 rfl (lv_at hv 2 rfl) ?_
  refine lv_aload C.ex C.by d_J_issue_155 (lv_at hv 1 rfl) ?_
  refine fx_callV C F (c_J_algorithm hl hw) hm_J_algorithm hi_J_algorithm hv.1 (by decide) (Nat.le_of_ble_eq_true rfl) (iv_J_algorithm C F lm_J_185 hk1 d_J_issue_157) (fx_out0 _) fx_eno (fun h7 H locs cells slots hw hx7 F => ?_)
  replace hw := hw hx7
  have hk2 := (hx7).k hk2
  have hk3 := (hx7).k hk3
  have hk5 := (hx7).k hk5
  have hk4 := (hx7).k hk4
  have hk6 := (hx7).k hk6
  have hk1 := (hx7).k hk1
  refine lv_aload C.ex C.by d_J_issue_160 (lv_at hv 1 rfl) ?_
  refine lv_bipush (v := (48 : Int32)) C.ex C.by d_J_issue_162 (by decide) ?_
  refine lv_iload C.ex C.by d_J_issue_164 (lv_at hv 0 rfl) ?_
  refine fx_callV C F (c_Wr_wrap hl hw) hm_Wr_wrap hi_Wr_wrap hv.1 (by decide) (Nat.le_of_ble_eq_true rfl) (iv_Wr_wrap C F lm_J_151 hk3 d_J_issue_166) (fx_out0 _) fx_eno (fun h8 H locs cells slots hw hx8 F => ?_)
  replace hw := hw hx8
  have hk2 := (hx8).k hk2
  have hk3 := (hx8).k hk3
  have hk5 := (hx8).k hk5
  have hk4 := (hx8).k hk4
  have hk6 := (hx8).k hk6
  have hk1 := (hx8).k hk1
  refine lv_aload_n C.ex C.by d_J_issue_169 rfl (lv_at hv 2 rfl) ?_
  obtain ⟨b8, hb8, hw⟩ := hw
  refine fx_getR C F lf_J_66 hk1 rfl hb8 d_J_issue_170 ?_
  refine lv_aload_n C.ex C.by d_J_issue_173 rfl (lv_at hv 2 rfl) ?_
  obtain ⟨b9, hb9, hw⟩ := hw
  refine fx_getR C F lf_J_14 hk1 rfl hb9 d_J_issue_174 ?_
  obtain ⟨hk7, hw⟩ := hw
  obtain ⟨b10, hb10, hw⟩ := hw
  refine fx_getR C F lf_J_110 hk7 rfl hb10 d_J_issue_177 ?_
  refine lv_iload C.ex C.by d_J_issue_180 (lv_at hv 8 rfl) ?_
  obtain ⟨hk8, hw⟩ := hw
  refine fx_callV C F (c_Iss_name hl hw) hm_Iss_name hi_Iss_name hv.1 (by decide) (Nat.le_of_ble_eq_true rfl) (iv_Iss_name C F lm_J_189 hk8 d_J_issue_182) (fx_out0 _) fx_eno (fun h9 H locs cells slots hw hx9 F => ?_)
  replace hw := hw hx9
  have hk2 := (hx9).k hk2
  have hk3 := (hx9).k hk3
  have hk5 := (hx9).k hk5
  have hk4 := (hx9).k hk4
  have hk6 := (hx9).k hk6
  have hk8 := (hx9).k hk8
  have hk7 := (hx9).k hk7
  have hk1 := (hx9).k hk1
  refine lv_aload_n C.ex C.by d_J_issue_185 rfl (lv_at hv 2 rfl) ?_
  obtain ⟨b11, hb11, hw⟩ := hw
  refine fx_getR C F lf_J_66 hk1 rfl hb11 d_J_issue_186 ?_
  refine lv_iload C.ex C.by d_J_issue_189 (lv_at hv 6 rfl) ?_
  refine lv_i2l (v := ((x4).toInt64)) C.ex C.by d_J_issue_191 rfl ?_
  refine lv_iload C.ex C.by d_J_issue_192 (lv_at hv 7 rfl) ?_
  refine lv_i2l (v := ((x5).toInt64)) C.ex C.by d_J_issue_194 rfl ?_
  obtain ⟨hk9, hw⟩ := hw
  refine fx_callV C F (c_Iss_times hl hw) hm_Iss_times hi_Iss_times hv.1 (by decide) (Nat.le_of_ble_eq_true rfl) (iv_Iss_times C F lm_J_193 hk9 d_J_issue_195) (fx_out0 _) fx_eno (fun h10 H locs cells slots hw hx10 F => ?_)
  replace hw := hw hx10
  have hk2 := (hx10).k hk2
  have hk9 := (hx10).k hk9
  have hk3 := (hx10).k hk3
  have hk5 := (hx10).k hk5
  have hk4 := (hx10).k hk4
  have hk6 := (hx10).k hk6
  have hk8 := (hx10).k hk8
  have hk7 := (hx10).k hk7
  have hk1 := (hx10).k hk1
  refine lv_iload_n C.ex C.by d_J_issue_198 rfl (lv_at hv 4 rfl) ?_
  refine lv_if_ge C.ex C.by d_J_issue_199 rfl (fun hc => ?_) (fun hc => ?_)
  · replace hw := hw.1 hc
    refine lv_aload C.ex C.by d_J_issue_221 (lv_at hv 1 rfl) ?_
    refine lv_aload_n C.ex C.by d_J_issue_223 rfl (lv_at hv 2 rfl) ?_
    obtain ⟨b12, hb12, hw⟩ := hw
    refine fx_getR C F lf_J_59 hk1 rfl hb12 d_J_issue_224 ?_
    obtain ⟨hk10, hw⟩ := hw
    obtain ⟨b13, hb13, hw⟩ := hw
    refine fx_getR C F lf_J_197 hk10 rfl hb13 d_J_issue_227 ?_
    refine lv_aload_n C.ex C.by d_J_issue_230 rfl (lv_at hv 2 rfl) ?_
    refine fx_getR C F lf_J_59 hk1 rfl hb12 d_J_issue_231 ?_
    refine fx_getI C F lf_J_198 hk10 rfl d_J_issue_234 ?_
    refine lv_aload_n C.ex C.by d_J_issue_237 rfl (lv_at hv 2 rfl) ?_
    refine fx_getR C F lf_J_59 hk1 rfl hb12 d_J_issue_238 ?_
    refine fx_getI C F lf_J_200 hk10 rfl d_J_issue_241 ?_
    refine lv_aload_n C.ex C.by d_J_issue_244 rfl (lv_at hv 2 rfl) ?_
    refine fx_getR C F lf_J_59 hk1 rfl hb12 d_J_issue_245 ?_
    refine fx_getI C F lf_J_198 hk10 rfl d_J_issue_248 ?_
    refine lv_isub C.ex C.by d_J_issue_251 ?_
    refine fx_callV C F (c_Wr_all hl hw) hm_Wr_all hi_Wr_all hv.1 (by decide) (Nat.le_of_ble_eq_true rfl) (iv_Wr_all C F lm_J_178 hk3 d_J_issue_252) (fx_out0 _) fx_eno (fun h11 H locs cells slots hw hx11 F => ?_)
    replace hw := hw hx11
    have hk2 := (hx11).k hk2
    have hk9 := (hx11).k hk9
    have hk10 := (hx11).k hk10
    have hk3 := (hx11).k hk3
    have hk5 := (hx11).k hk5
    have hk4 := (hx11).k hk4
    have hk6 := (hx11).k hk6
    have hk8 := (hx11).k hk8
    have hk7 := (hx11).k hk7
    have hk1 := (hx11).k hk1
    exact b_J_issue_255 C hl _ _ _ _ _ hw _ _ _ _ _ (lv_sub hv [2, 3, 4, 1] rfl) F
  · replace hw := hw.2 hc
    refine lv_aload_n C.ex C.by d_J_issue_202 rfl (lv_at hv 2 rfl) ?_
    obtain ⟨b14, hb14, hw⟩ := hw
    refine fx_getR C F lf_J_66 hk1 rfl hb14 d_J_issue_203 ?_
    refine lv_aload_n C.ex C.by d_J_issue_206 rfl (lv_at hv 2 rfl) ?_
    obtain ⟨b15, hb15, hw⟩ := hw
    refine fx_getR C F lf_J_14 hk1 rfl hb15 d_J_issue_207 ?_
    obtain ⟨hk11, hw⟩ := hw
    obtain ⟨b16, hb16, hw⟩ := hw
    refine fx_getR C F lf_J_110 hk11 rfl hb16 d_J_issue_210 ?_
    refine lv_iload C.ex C.by d_J_issue_213 (lv_at hv 8 rfl) ?_
    obtain ⟨hk12, hw⟩ := hw
    refine fx_callV C F (c_Iss_name hl hw) hm_Iss_name hi_Iss_name hv.1 (by decide) (Nat.le_of_ble_eq_true rfl) (iv_Iss_name C F lm_J_189 hk12 d_J_issue_215) (fx_out0 _) fx_eno (fun h12 H locs cells slots hw hx12 F => ?_)
    replace hw := hw hx12
    have hk2 := (hx12).k hk2
    have hk9 := (hx12).k hk9
    have hk12 := (hx12).k hk12
    have hk11 := (hx12).k hk11
    have hk3 := (hx12).k hk3
    have hk5 := (hx12).k hk5
    have hk4 := (hx12).k hk4
    have hk6 := (hx12).k hk6
    have hk8 := (hx12).k hk8
    have hk7 := (hx12).k hk7
    have hk1 := (hx12).k hk1
    refine lv_goto C.ex C.by d_J_issue_218 rfl ?_
    exact b_J_issue_255 C hl _ _ _ _ _ hw _ _ _ _ _ (lv_sub hv [2, 3, 4, 1] rfl) F
theorem b_J_issue_0 {p : Program} {l : Launch} {e : Env} {R : Room} {s : State} {m : MethodId} {args : Array Value} {below : List Frame} {meth : Method} {c : Code} {D : DD} {h0 : AH} {Q : Int32 → AH → Prop} {E : Nat → AH → Prop} (C : fx_CX D y_J_issue prog_1_method_14_code 10 16 248 (Option.some FieldType.int) [] h0 p R s m meth c) (hl : l.flags = flags0) (r0 : Nat) (x1 : Int32) (x2 : Int32) (x3 : Int32) (x4 : Int32) (x5 : Int32) (h : AH) (hw : m_J_issue Q E r0 x1 x2 x3 x4 x5 h) : ∀ (ls : Array Slot) (H : Heap) (locs : List Loc) (cells slots : Nat), lv_has ls 10 [(0, .ref r0), (1, .int x1), (2, .int x2), (3, .int x3), (4, .int x4), (5, .int x5)] → fx_F D h0 h H locs cells slots → W p l e R s m args below meth c H locs cells slots (fx_Z D below s h0 (fx_oI Q E)) (F0 m 0 ls []) := by
  unfold m_J_issue at hw
  intro ls H locs cells slots hv F
  refine lv_iload_n C.ex C.by d_J_issue_0 rfl (lv_at hv 1 rfl) ?_
  refine lv_if_lt C.ex C.by d_J_issue_1 rfl (fun hc => ?_) (fun hc => ?_)
  · replace hw := hw.1 hc
    exact b_J_issue_28 C hl _ hw _ _ _ _ _ (lv_sub hv [] rfl) F
  · replace hw := hw.2 hc
    refine lv_iload_n C.ex C.by d_J_issue_4 rfl (lv_at hv 1 rfl) ?_
    refine lv_aload_n C.ex C.by d_J_issue_5 rfl (lv_at hv 0 rfl) ?_
    obtain ⟨hk1, hw⟩ := hw
    refine fx_getI C F lf_J_29 hk1 rfl d_J_issue_6 ?_
    refine lv_icmp_ge C.ex C.by d_J_issue_9 rfl (fun hc => ?_) (fun hc => ?_)
    · replace hw := hw.1 hc
      exact b_J_issue_28 C hl _ hw _ _ _ _ _ (lv_sub hv [] rfl) F
    · replace hw := hw.2 hc
      refine lv_iload_n C.ex C.by d_J_issue_12 rfl (lv_at hv 2 rfl) ?_
      refine lv_iconst (v := (-1 : Int32)) C.ex C.by d_J_issue_13 (by decide) ?_
      refine lv_icmp_lt C.ex C.by d_J_issue_14 rfl (fun hc => ?_) (fun hc => ?_)
      · replace hw := hw.1 hc
        exact b_J_issue_28 C hl _ hw _ _ _ _ _ (lv_sub hv [] rfl) F
      · replace hw := hw.2 hc
        refine lv_iload_n C.ex C.by d_J_issue_17 rfl (lv_at hv 2 rfl) ?_
        refine lv_aload_n C.ex C.by d_J_issue_18 rfl (lv_at hv 0 rfl) ?_
        obtain ⟨b1, hb1, hw⟩ := hw
        refine fx_getR C F lf_J_36 hk1 rfl hb1 d_J_issue_19 ?_
        obtain ⟨hk2, hw⟩ := hw
        refine fx_callI C F (c_AL_size hl hw) hm_AL_size hi_AL_size hv.1 (by decide) (Nat.le_of_ble_eq_true rfl) (iv_AL_size C F lm_J_125 hk2 d_J_issue_22) (fx_out0 _) fx_eno (fun v1 h1 H locs cells slots hw hx1 F => ?_)
        replace hw := hw hx1
        have hk2 := (hx1).k hk2
        have hk1 := (hx1).k hk1
        refine lv_icmp_lt C.ex C.by d_J_issue_25 rfl (fun hc => ?_) (fun hc => ?_)
        · replace hw := hw.1 hc
          refine lv_aload_n C.ex C.by d_J_issue_36 rfl (lv_at hv 0 rfl) ?_
          refine lv_iload_n C.ex C.by d_J_issue_37 rfl (lv_at hv 3 rfl) ?_
          refine lv_iload C.ex C.by d_J_issue_38 (lv_at hv 4 rfl) ?_
          refine lv_iload C.ex C.by d_J_issue_40 (lv_at hv 5 rfl) ?_
          refine fx_callV C F (c_J_check hl hw) hm_J_check hi_J_check hv.1 (by decide) (Nat.le_of_ble_eq_true rfl) (iv_J_check C F lm_J_155 hk1 d_J_issue_42) (fx_out0 _) (fun _ _ hE hx => Or.inr ⟨_, rfl, hE hx⟩) (fun h2 H locs cells slots hw hx2 F => ?_)
          replace hw := hw hx2
          have hk2 := (hx2).k hk2
          have hk1 := (hx2).k hk1
          refine lv_aload_n C.ex C.by d_J_issue_45 rfl (lv_at hv 0 rfl) ?_
          refine fx_callI C F (c_J_nameSize hl hw) hm_J_nameSize hi_J_nameSize hv.1 (by decide) (Nat.le_of_ble_eq_true rfl) (iv_J_nameSize C F lm_J_159 hk1 d_J_issue_46) (fx_out0 _) (fun _ _ hE hx => Or.inr ⟨_, rfl, hE hx⟩) (fun v2 h3 H locs cells slots hw hx3 F => ?_)
          replace hw := hw hx3
          have hk2 := (hx3).k hk2
          have hk1 := (hx3).k hk1
          refine lv_istore (lv' := [(6, .int v2), (0, .ref r0), (1, .int x1), (2, .int x2), (3, .int x3), (4, .int x4), (5, .int x5)]) C.ex C.by d_J_issue_49 hv (by decide) rfl (fun ls hv => ?_)
          refine lv_iload_n C.ex C.by d_J_issue_51 rfl (lv_at hv 3 rfl) ?_
          refine lv_if_lt C.ex C.by d_J_issue_52 rfl (fun hc => ?_) (fun hc => ?_)
          · replace hw := hw.1 hc
            exact b_J_issue_81 C hl _ _ _ _ _ _ _ _ hw _ _ _ _ _ (lv_sub hv [1, 2, 3, 4, 5, 6, 0] rfl) F
          · replace hw := hw.2 hc
            refine lv_aload_n C.ex C.by d_J_issue_55 rfl (lv_at hv 1 rfl) ?_
            refine lv_aload_n C.ex C.by d_J_issue_56 rfl (lv_at hv 1 rfl) ?_
            obtain ⟨b2, hb2, hw⟩ := hw
            refine fx_getR C F lf_J_36 hk1 rfl hb2 d_J_issue_57 ?_
            refine lv_iload_n C.ex C.by d_J_issue_60 rfl (lv_at hv 3 rfl) ?_
            obtain ⟨hk3, hw⟩ := hw
            refine fx_callR C F (c_AL_get hl hw) hm_AL_get hi_AL_get hv.1 (by decide) (Nat.le_of_ble_eq_true rfl) (iv_AL_get C F lm_J_131 hk3 d_J_issue_61) (fx_out0 _) fx_eno (fun q1 h4 H locs cells slots hw hx4 F => ?_)
            replace hw := hw hx4
            have hk2 := (hx4).k hk2
            have hk3 := (hx4).k hk3
            have hk1 := (hx4).k hk1
            obtain ⟨hk4, hw⟩ := hw
            refine fx_cast (ci := 2) (r := ("ChainJudge$Held", fx_T2, 2)) (nm := "ChainJudge$Held") C F rfl (by decide) hk4 (fx_m3 (List.mem_of_getElem? (i := 108) rfl)) (fx_m8 (List.mem_of_getElem? (i := 7) rfl)) d_J_issue_64 ?_
            refine fx_callZ C F (c_J_reads hl hw) hm_J_reads hi_J_reads hv.1 (by decide) (Nat.le_of_ble_eq_true rfl) (iv_J_reads C F lm_J_162 hk1 d_J_issue_67) (fx_out0 _) fx_eno (fun v3 h5 H locs cells slots hw hx5 hzb F => ?_)
            replace hw := hw hx5 hzb
            have hk2 := (hx5).k hk2
            have hk3 := (hx5).k hk3
            have hk4 := (hx5).k hk4
            have hk1 := (hx5).k hk1
            refine lv_if_ne C.ex C.by d_J_issue_70 rfl (fun hc => ?_) (fun hc => ?_)
            · replace hw := hw.1 hc
              exact b_J_issue_81 C hl _ _ _ _ _ _ _ _ hw _ _ _ _ _ (lv_sub hv [1, 2, 3, 4, 5, 6, 0] rfl) F
            · replace hw := hw.2 hc
              obtain ⟨hs, hw⟩ := hw
              let q2 : Nat := hp_z h5
              let h6 : AH := up_N h5 17 0 6
              replace hw := hw F.wf q2 rfl h6 rfl
              have hk2 := (F.xN (k := 17) (n := 0) (m := 6)).k hk2
              have hk3 := (F.xN (k := 17) (n := 0) (m := 6)).k hk3
              have hk4 := (F.xN (k := 17) (n := 0) (m := 6)).k hk4
              have hk1 := (F.xN (k := 17) (n := 0) (m := 6)).k hk1
              have hkq2 : hp_k h6 q2 = 17 := fx_nk _ _ _ _
              refine fx_exc (r := ("java/lang/UnsupportedOperationException", fx_T16, 0)) (names := fx_rn) C F rfl rfl (fx_m4 (List.mem_of_getElem? (i := 30) rfl)) (fx_m1 (List.mem_of_getElem? (i := 27) rfl)) (by decide +kernel) (by decide +kernel) ex_J_168 hs hv.1 hl d_J_issue_73 d_J_issue_76 d_J_issue_77 (by decide) (Nat.le_of_ble_eq_true rfl) (fun H locs cells slots (F : fx_F D h0 h6 H locs cells slots) => ?_)
              exact fx_athrow C F (fx_out0 _) d_J_issue_80 (Or.inr ⟨_, rfl, hw⟩)
        · replace hw := hw.2 hc
          exact b_J_issue_28 C hl _ hw _ _ _ _ _ (lv_sub hv [] rfl) F
theorem hm_J_issue : fx_hd y_J_issue prog_1_method_14_code 10 (Option.some FieldType.int) [] ∈ tables_1 := (fx_m3 (List.mem_of_getElem? (i := 70) rfl))
theorem hi_J_issue : Cond.initialized y_J_issue.cls ∈ tables_1 := (fx_m1 (List.mem_of_getElem? (i := 1) rfl))
theorem c_J_issue {l : Launch} (hl : l.flags = flags0) {D : DD} {Q : Int32 → AH → Prop} {E : Nat → AH → Prop} {r0 : Nat} {x1 : Int32} {x2 : Int32} {x3 : Int32} {x4 : Int32} {x5 : Int32} {h : AH} (hw : m_J_issue Q E r0 x1 x2 x3 x4 x5 h) : fx_Mt l D y_J_issue (fx_hd y_J_issue prog_1_method_14_code 10 (Option.some FieldType.int) []) 16 248 [.ref r0, .int x1, .int x2, .int x3, .int x4, .int x5] h (fx_oI Q E) := by
  refine fx_ofW (plainFor_of_name (by decide)) (fun p e s m below meth c C F => ?_)
  have hv := lv_entry ([.ref r0, .int x1, .int x2, .int x3, .int x4, .int x5]) (n := 10) (Nat.le_of_ble_eq_true rfl)
  rw [lg_entry_eq]
  generalize (lg_sl ([.ref r0, .int x1, .int x2, .int x3, .int x4, .int x5]) ++ List.replicate (10 - (lg_sl ([.ref r0, .int x1, .int x2, .int x3, .int x4, .int x5])).length) Slot.unset).toArray = ls at hv ⊢
  have hv : lv_has ls 10 [(0, .ref r0), (1, .int x1), (2, .int x2), (3, .int x3), (4, .int x4), (5, .int x5)] := hv
  exact b_J_issue_0 C hl _ _ _ _ _ _ _ hw _ _ _ _ _ hv F
/-! ChainJudgeLaw.issue(LChainJudge;IIIII[J)I: frames 17, words 271 -/
abbrev y_Law_issue : MethodName := ⟨"ChainJudgeLaw", "issue", "(LChainJudge;IIIII[J)I"⟩
theorem lm_Law_25 : Cond.methodLink "ChainJudgeLaw" 25 y_J_issue ∈ tables_1 ∨ ∃ host, Cond.methodLinkNest "ChainJudgeLaw" 25 y_J_issue host ∈ tables_1 := Or.inl (fx_m3 (List.mem_of_getElem? (i := 67) rfl))
section
variable {p : Program} {l : Launch} {e : Env} {R : Room} {s : State} {m : MethodId} {args : Array Value} {below : List Frame} {meth : Method} {c : Code} {H : Heap} {locs : List Loc} {cells slots : Nat}
variable {D : DD} {y : MethodName} {cc : ByteArray} {nL kf kw : Nat} {ret : Option FieldType} {hh : List (Nat × Nat × Nat × Nat)} {h0 h : AH} {pc : Nat} {ls : Array Slot} {rest : List Value} {b idx : Nat}
theorem iv_J_issue {x1 : Int32} {x2 : Int32} {x3 : Int32} {x4 : Int32} {x5 : Int32} (C : fx_CX D y cc nL kf kw ret hh h0 p R s m meth c) (F : fx_F D h0 h H locs cells slots) (hw1 : Cond.methodLink y.cls idx y_J_issue ∈ tables_1 ∨ ∃ host, Cond.methodLinkNest y.cls idx y_J_issue host ∈ tables_1) (hk : hp_k h b = 1) (hd : decode cc pc = .ok (.invokevirtual idx, 3)) : fx_IV p l e R s m args below meth c H locs cells slots (F0 m pc ls (.int x5 :: .int x4 :: .int x3 :: .int x2 :: .int x1 :: .ref b :: rest)) rest y_J_issue [.ref b, .int x1, .int x2, .int x3, .int x4, .int x5] 3 := fun T hT X => fx_invV (As := [.int x1, .int x2, .int x3, .int x4, .int x5]) (Cn := "ChainJudge") C X hw1 (fx_m3 (List.mem_of_getElem? (i := 68) rfl)) (fx_selW C (fx_m3 (List.mem_of_getElem? (i := 69) rfl))) hm_J_issue ⟨by decide, by decide⟩ (by rw [hT]; exact fx_clsO (ci := 0) (r := ("ChainJudge", fx_T0, 16)) C F rfl (by decide) hk) rfl (n := 5) (by decide +kernel) rfl rfl hd
end
def dl_Law_issue : List (Nat × Instr × Nat) := [(0, .aload 6, 2), (2, .iconst 0, 1), (3, .aload_n 0, 1), (4, .iload_n 1, 1), (5, .iload_n 2, 1), (6, .iload_n 3, 1), (7, .iload 4, 2), (9, .iload 5, 2), (11, .invokevirtual 25, 3), (14, .i2l, 1), (15, .lastore, 1), (16, .goto 19, 3), (19, .astore 7, 2), (21, .iconst 1, 1), (22, .ireturn, 1), (23, .astore 7, 2), (25, .iconst 2, 1), (26, .ireturn, 1), (27, .astore 7, 2), (29, .iconst 3, 1), (30, .ireturn, 1), (31, .astore 7, 2), (33, .iconst 4, 1), (34, .ireturn, 1), (35, .iconst 0, 1), (36, .ireturn, 1)]
theorem dk_Law_issue : fx_dec method_6_code dl_Law_issue = true := by decide +kernel
theorem d_Law_issue_0 : decode method_6_code 0 = .ok (.aload 6, 2) := fx_dat dk_Law_issue 0 rfl
theorem d_Law_issue_2 : decode method_6_code 2 = .ok (.iconst 0, 1) := fx_dat dk_Law_issue 1 rfl
theorem d_Law_issue_3 : decode method_6_code 3 = .ok (.aload_n 0, 1) := fx_dat dk_Law_issue 2 rfl
theorem d_Law_issue_4 : decode method_6_code 4 = .ok (.iload_n 1, 1) := fx_dat dk_Law_issue 3 rfl
theorem d_Law_issue_5 : decode method_6_code 5 = .ok (.iload_n 2, 1) := fx_dat dk_Law_issue 4 rfl
theorem d_Law_issue_6 : decode method_6_code 6 = .ok (.iload_n 3, 1) := fx_dat dk_Law_issue 5 rfl
theorem d_Law_issue_7 : decode method_6_code 7 = .ok (.iload 4, 2) := fx_dat dk_Law_issue 6 rfl
theorem d_Law_issue_9 : decode method_6_code 9 = .ok (.iload 5, 2) := fx_dat dk_Law_issue 7 rfl
theorem d_Law_issue_11 : decode method_6_code 11 = .ok (.invokevirtual 25, 3) := fx_dat dk_Law_issue 8 rfl
theorem d_Law_issue_14 : decode method_6_code 14 = .ok (.i2l, 1) := fx_dat dk_Law_issue 9 rfl
theorem d_Law_issue_15 : decode method_6_code 15 = .ok (.lastore, 1) := fx_dat dk_Law_issue 10 rfl
theorem d_Law_issue_16 : decode method_6_code 16 = .ok (.goto 19, 3) := fx_dat dk_Law_issue 11 rfl
theorem d_Law_issue_19 : decode method_6_code 19 = .ok (.astore 7, 2) := fx_dat dk_Law_issue 12 rfl
theorem d_Law_issue_21 : decode method_6_code 21 = .ok (.iconst 1, 1) := fx_dat dk_Law_issue 13 rfl
theorem d_Law_issue_22 : decode method_6_code 22 = .ok (.ireturn, 1) := fx_dat dk_Law_issue 14 rfl
theorem d_Law_issue_23 : decode method_6_code 23 = .ok (.astore 7, 2) := fx_dat dk_Law_issue 15 rfl
theorem d_Law_issue_25 : decode method_6_code 25 = .ok (.iconst 2, 1) := fx_dat dk_Law_issue 16 rfl
theorem d_Law_issue_26 : decode method_6_code 26 = .ok (.ireturn, 1) := fx_dat dk_Law_issue 17 rfl
theorem d_Law_issue_27 : decode method_6_code 27 = .ok (.astore 7, 2) := fx_dat dk_Law_issue 18 rfl
theorem d_Law_issue_29 : decode method_6_code 29 = .ok (.iconst 3, 1) := fx_dat dk_Law_issue 19 rfl
theorem d_Law_issue_30 : decode method_6_code 30 = .ok (.ireturn, 1) := fx_dat dk_Law_issue 20 rfl
theorem d_Law_issue_31 : decode method_6_code 31 = .ok (.astore 7, 2) := fx_dat dk_Law_issue 21 rfl
theorem d_Law_issue_33 : decode method_6_code 33 = .ok (.iconst 4, 1) := fx_dat dk_Law_issue 22 rfl
theorem d_Law_issue_34 : decode method_6_code 34 = .ok (.ireturn, 1) := fx_dat dk_Law_issue 23 rfl
theorem d_Law_issue_35 : decode method_6_code 35 = .ok (.iconst 0, 1) := fx_dat dk_Law_issue 24 rfl
theorem d_Law_issue_36 : decode method_6_code 36 = .ok (.ireturn, 1) := fx_dat dk_Law_issue 25 rfl
def m_Law_issue (Q : Int32 → AH → Prop) (r0 : Nat) (x1 : Int32) (x2 : Int32) (x3 : Int32) (x4 : Int32) (x5 : Int32) (r6 : Nat) (h : AH) : Prop := hp_k h r0 = 1 ∧ m_J_issue (fun v1 h1 => fx_ext h h1 → hp_k h1 r6 = 103 ∧ vp_in (0 : Int32) (hp_n h1 r6) ∧ ∀ h2 : AH, h2 = up_L h1 r6 ((0 : Int32)).toNatClampNeg ((v1).toInt64) → Q (0 : Int32) h2) (fun q1 h3 => fx_ext h h3 → (hp_k h3 q1 = 16 ∧ Q (1 : Int32) h3) ∨ (hp_k h3 q1 = 14 ∧ Q (2 : Int32) h3) ∨ (hp_k h3 q1 = 17 ∧ Q (3 : Int32) h3) ∨ (hp_k h3 q1 = 15 ∧ Q (4 : Int32) h3)) r0 x1 x2 x3 x4 x5 h
theorem b_Law_issue_0 {p : Program} {l : Launch} {e : Env} {R : Room} {s : State} {m : MethodId} {args : Array Value} {below : List Frame} {meth : Method} {c : Code} {D : DD} {h0 : AH} {Q : Int32 → AH → Prop} (C : fx_CX D y_Law_issue method_6_code 8 17 271 (Option.some FieldType.int) [(0, 16, 19, 28), (0, 16, 23, 19), (0, 16, 27, 30), (0, 16, 31, 13)] h0 p R s m meth c) (hl : l.flags = flags0) (r0 : Nat) (x1 : Int32) (x2 : Int32) (x3 : Int32) (x4 : Int32) (x5 : Int32) (r6 : Nat) (h : AH) (hw : m_Law_issue Q r0 x1 x2 x3 x4 x5 r6 h) : ∀ (ls : Array Slot) (H : Heap) (locs : List Loc) (cells slots : Nat), lv_has ls 8 [(0, .ref r0), (1, .int x1), (2, .int x2), (3, .int x3), (4, .int x4), (5, .int x5), (6, .ref r6)] → fx_F D h0 h H locs cells slots → W p l e R s m args below meth c H locs cells slots (fx_Z D below s h0 (fx_oI Q fx_no)) (F0 m 0 ls []) := by
  unfold m_Law_issue at hw
  intro ls H locs cells slots hv F
  refine lv_aload C.ex C.by d_Law_issue_0 (lv_at hv 6 rfl) ?_
  refine lv_iconst (v := (0 : Int32)) C.ex C.by d_Law_issue_2 (by decide) ?_
  refine lv_aload_n C.ex C.by d_Law_issue_3 rfl (lv_at hv 0 rfl) ?_
  refine lv_iload_n C.ex C.by d_Law_issue_4 rfl (lv_at hv 1 rfl) ?_
  refine lv_iload_n C.ex C.by d_Law_issue_5 rfl (lv_at hv 2 rfl) ?_
  refine lv_iload_n C.ex C.by d_Law_issue_6 rfl (lv_at hv 3 rfl) ?_
  refine lv_iload C.ex C.by d_Law_issue_7 (lv_at hv 4 rfl) ?_
  refine lv_iload C.ex C.by d_Law_issue_9 (lv_at hv 5 rfl) ?_
  obtain ⟨hk1, hw⟩ := hw
  refine fx_callIc C F (c_J_issue hl hw) hm_J_issue hi_J_issue hv.1 (by decide) (Nat.le_of_ble_eq_true rfl) (iv_J_issue C F lm_Law_25 hk1 d_Law_issue_11) (fun v1 h1 H locs cells slots hw hx1 F => ?_) (fun q1 h3 T locs cells slots hw hx1 F X => ?_)
  · replace hw := hw hx1
    have hk1 := (hx1).k hk1
    refine lv_i2l (v := ((v1).toInt64)) C.ex C.by d_Law_issue_14 rfl ?_
    obtain ⟨hk2, hw⟩ := hw
    obtain ⟨hi1, hw⟩ := hw
    let h2 : AH := up_L h1 r6 ((0 : Int32)).toNatClampNeg ((v1).toInt64)
    replace hw := hw h2 rfl
    refine fx_last C F hk2 hi1 d_Law_issue_15 (fun H locs (F : fx_F D h0 h2 H locs _ _) => ?_)
    refine lv_goto C.ex C.by d_Law_issue_16 rfl ?_
    refine lv_iconst (v := (0 : Int32)) C.ex C.by d_Law_issue_35 (by decide) ?_
    exact fx_iret C F d_Law_issue_36 (Or.inl ⟨_, rfl, hw⟩)
  · replace hw := hw hx1
    rcases hw with ⟨hk9, hw⟩ | ⟨hk9, hw⟩ | ⟨hk9, hw⟩ | ⟨hk9, hw⟩
    · have hp0 : ∀ q ∈ ([] : List ((Nat × Nat × Nat × Nat) × String)), fx_passes "ChainJudgeLaw" "java/util/NoSuchElementException" 11 q := by
        intro q hq
        cases hq
      refine fx_caught (ci := 15) (r := ("java/util/NoSuchElementException", fx_T15, 0)) C F X rfl (by decide) hk9 [] (0, 16, 19, 28) [(0, 16, 23, 19), (0, 16, 27, 30), (0, 16, 31, 13)] "java/util/NoSuchElementException" rfl hp0 rfl (by decide) (fx_m3 (List.mem_of_getElem? (i := 65) rfl)) (fx_m3 (List.mem_of_getElem? (i := 73) rfl)) (fun H locs cells slots F => ?_)
      have hk1 := (hx1).k hk1
      refine lv_astore (lv' := [(7, .ref q1), (0, .ref r0), (1, .int x1), (2, .int x2), (3, .int x3), (4, .int x4), (5, .int x5), (6, .ref r6)]) C.ex C.by d_Law_issue_19 hv (by decide) rfl (fun ls hv => ?_)
      refine lv_iconst (v := (1 : Int32)) C.ex C.by d_Law_issue_21 (by decide) ?_
      exact fx_iret C F d_Law_issue_22 (Or.inl ⟨_, rfl, hw⟩)
    · have hp1 : ∀ q ∈ ([((0, 16, 19, 28), "java/util/NoSuchElementException")] : List ((Nat × Nat × Nat × Nat) × String)), fx_passes "ChainJudgeLaw" "java/lang/IllegalArgumentException" 11 q := by
        intro q hq
        rcases List.mem_cons.mp hq with rfl | hq
        · exact ⟨rfl, by decide, (fx_m3 (List.mem_of_getElem? (i := 65) rfl)), List.mem_of_getElem? (i := 0) rfl⟩
        cases hq
      refine fx_caught (ci := 13) (r := ("java/lang/IllegalArgumentException", fx_T13, 0)) C F X rfl (by decide) hk9 [((0, 16, 19, 28), "java/util/NoSuchElementException")] (0, 16, 23, 19) [(0, 16, 27, 30), (0, 16, 31, 13)] "java/lang/IllegalArgumentException" rfl hp1 rfl (by decide) (fx_m3 (List.mem_of_getElem? (i := 31) rfl)) (fx_m3 (List.mem_of_getElem? (i := 38) rfl)) (fun H locs cells slots F => ?_)
      have hk1 := (hx1).k hk1
      refine lv_astore (lv' := [(7, .ref q1), (0, .ref r0), (1, .int x1), (2, .int x2), (3, .int x3), (4, .int x4), (5, .int x5), (6, .ref r6)]) C.ex C.by d_Law_issue_23 hv (by decide) rfl (fun ls hv => ?_)
      refine lv_iconst (v := (2 : Int32)) C.ex C.by d_Law_issue_25 (by decide) ?_
      exact fx_iret C F d_Law_issue_26 (Or.inl ⟨_, rfl, hw⟩)
    · have hp2 : ∀ q ∈ ([((0, 16, 19, 28), "java/util/NoSuchElementException"), ((0, 16, 23, 19), "java/lang/IllegalArgumentException")] : List ((Nat × Nat × Nat × Nat) × String)), fx_passes "ChainJudgeLaw" "java/lang/UnsupportedOperationException" 11 q := by
        intro q hq
        rcases List.mem_cons.mp hq with rfl | hq
        · exact ⟨rfl, by decide, (fx_m3 (List.mem_of_getElem? (i := 65) rfl)), List.mem_of_getElem? (i := 1) rfl⟩
        rcases List.mem_cons.mp hq with rfl | hq
        · exact ⟨rfl, by decide, (fx_m3 (List.mem_of_getElem? (i := 31) rfl)), List.mem_of_getElem? (i := 2) rfl⟩
        cases hq
      refine fx_caught (ci := 16) (r := ("java/lang/UnsupportedOperationException", fx_T16, 0)) C F X rfl (by decide) hk9 [((0, 16, 19, 28), "java/util/NoSuchElementException"), ((0, 16, 23, 19), "java/lang/IllegalArgumentException")] (0, 16, 27, 30) [(0, 16, 31, 13)] "java/lang/UnsupportedOperationException" rfl hp2 rfl (by decide) (fx_m3 (List.mem_of_getElem? (i := 66) rfl)) (fx_m4 (List.mem_of_getElem? (i := 32) rfl)) (fun H locs cells slots F => ?_)
      have hk1 := (hx1).k hk1
      refine lv_astore (lv' := [(7, .ref q1), (0, .ref r0), (1, .int x1), (2, .int x2), (3, .int x3), (4, .int x4), (5, .int x5), (6, .ref r6)]) C.ex C.by d_Law_issue_27 hv (by decide) rfl (fun ls hv => ?_)
      refine lv_iconst (v := (3 : Int32)) C.ex C.by d_Law_issue_29 (by decide) ?_
      exact fx_iret C F d_Law_issue_30 (Or.inl ⟨_, rfl, hw⟩)
    · have hp3 : ∀ q ∈ ([((0, 16, 19, 28), "java/util/NoSuchElementException"), ((0, 16, 23, 19), "java/lang/IllegalArgumentException"), ((0, 16, 27, 30), "java/lang/UnsupportedOperationException")] : List ((Nat × Nat × Nat × Nat) × String)), fx_passes "ChainJudgeLaw" "java/lang/IllegalStateException" 11 q := by
        intro q hq
        rcases List.mem_cons.mp hq with rfl | hq
        · exact ⟨rfl, by decide, (fx_m3 (List.mem_of_getElem? (i := 65) rfl)), List.mem_of_getElem? (i := 3) rfl⟩
        rcases List.mem_cons.mp hq with rfl | hq
        · exact ⟨rfl, by decide, (fx_m3 (List.mem_of_getElem? (i := 31) rfl)), List.mem_of_getElem? (i := 4) rfl⟩
        rcases List.mem_cons.mp hq with rfl | hq
        · exact ⟨rfl, by decide, (fx_m3 (List.mem_of_getElem? (i := 66) rfl)), List.mem_of_getElem? (i := 5) rfl⟩
        cases hq
      refine fx_caught (ci := 14) (r := ("java/lang/IllegalStateException", fx_T14, 0)) C F X rfl (by decide) hk9 [((0, 16, 19, 28), "java/util/NoSuchElementException"), ((0, 16, 23, 19), "java/lang/IllegalArgumentException"), ((0, 16, 27, 30), "java/lang/UnsupportedOperationException")] (0, 16, 31, 13) [] "java/lang/IllegalStateException" rfl hp3 rfl (by decide) (fx_m2 (List.mem_of_getElem? (i := 179) rfl)) (fx_m2 (List.mem_of_getElem? (i := 187) rfl)) (fun H locs cells slots F => ?_)
      have hk1 := (hx1).k hk1
      refine lv_astore (lv' := [(7, .ref q1), (0, .ref r0), (1, .int x1), (2, .int x2), (3, .int x3), (4, .int x4), (5, .int x5), (6, .ref r6)]) C.ex C.by d_Law_issue_31 hv (by decide) rfl (fun ls hv => ?_)
      refine lv_iconst (v := (4 : Int32)) C.ex C.by d_Law_issue_33 (by decide) ?_
      exact fx_iret C F d_Law_issue_34 (Or.inl ⟨_, rfl, hw⟩)
theorem hm_Law_issue : fx_hd y_Law_issue method_6_code 8 (Option.some FieldType.int) [(0, 16, 19, 28), (0, 16, 23, 19), (0, 16, 27, 30), (0, 16, 31, 13)] ∈ tables_1 := (fx_m3 (List.mem_of_getElem? (i := 64) rfl))
theorem hi_Law_issue : Cond.initialized y_Law_issue.cls ∈ tables_1 := (fx_m1 (List.mem_of_getElem? (i := 0) rfl))
theorem c_Law_issue {l : Launch} (hl : l.flags = flags0) {D : DD} {Q : Int32 → AH → Prop} {r0 : Nat} {x1 : Int32} {x2 : Int32} {x3 : Int32} {x4 : Int32} {x5 : Int32} {r6 : Nat} {h : AH} (hw : m_Law_issue Q r0 x1 x2 x3 x4 x5 r6 h) : fx_Mt l D y_Law_issue (fx_hd y_Law_issue method_6_code 8 (Option.some FieldType.int) [(0, 16, 19, 28), (0, 16, 23, 19), (0, 16, 27, 30), (0, 16, 31, 13)]) 17 271 [.ref r0, .int x1, .int x2, .int x3, .int x4, .int x5, .ref r6] h (fx_oI Q fx_no) := by
  refine fx_ofW (plainFor_of_name (by decide)) (fun p e s m below meth c C F => ?_)
  have hv := lv_entry ([.ref r0, .int x1, .int x2, .int x3, .int x4, .int x5, .ref r6]) (n := 8) (Nat.le_of_ble_eq_true rfl)
  rw [lg_entry_eq]
  generalize (lg_sl ([.ref r0, .int x1, .int x2, .int x3, .int x4, .int x5, .ref r6]) ++ List.replicate (8 - (lg_sl ([.ref r0, .int x1, .int x2, .int x3, .int x4, .int x5, .ref r6])).length) Slot.unset).toArray = ls at hv ⊢
  have hv : lv_has ls 8 [(0, .ref r0), (1, .int x1), (2, .int x2), (3, .int x3), (4, .int x4), (5, .int x5), (6, .ref r6)] := hv
  exact b_Law_issue_0 C hl _ _ _ _ _ _ _ _ hw _ _ _ _ _ hv F
/-! ChainJudge.take(I)I: frames 8, words 118, throws -/
abbrev y_J_take : MethodName := ⟨"ChainJudge", "take", "(I)I"⟩
def dl_J_take : List (Nat × Instr × Nat) := [(0, .iload_n 1, 1), (1, .ifCond .lt 11, 3), (4, .iload_n 1, 1), (5, .aload_n 0, 1), (6, .getfield 29, 3), (9, .if_icmp .lt 11, 3), (12, .new 128, 3), (15, .dup, 1), (16, .invokespecial 130, 3), (19, .athrow, 1), (20, .aload_n 0, 1), (21, .aload_n 0, 1), (22, .getfield 14, 3), (25, .getfield 110, 3), (28, .iconst 0, 1), (29, .aload_n 0, 1), (30, .getfield 14, 3), (33, .getfield 96, 3), (36, .iload_n 1, 1), (37, .invokevirtual 217, 3), (40, .ireturn, 1)]
theorem dk_J_take : fx_dec prog_1_method_16_code dl_J_take = true := by decide +kernel
theorem d_J_take_0 : decode prog_1_method_16_code 0 = .ok (.iload_n 1, 1) := fx_dat dk_J_take 0 rfl
theorem d_J_take_1 : decode prog_1_method_16_code 1 = .ok (.ifCond .lt 11, 3) := fx_dat dk_J_take 1 rfl
theorem d_J_take_4 : decode prog_1_method_16_code 4 = .ok (.iload_n 1, 1) := fx_dat dk_J_take 2 rfl
theorem d_J_take_5 : decode prog_1_method_16_code 5 = .ok (.aload_n 0, 1) := fx_dat dk_J_take 3 rfl
theorem d_J_take_6 : decode prog_1_method_16_code 6 = .ok (.getfield 29, 3) := fx_dat dk_J_take 4 rfl
theorem d_J_take_9 : decode prog_1_method_16_code 9 = .ok (.if_icmp .lt 11, 3) := fx_dat dk_J_take 5 rfl
theorem d_J_take_12 : decode prog_1_method_16_code 12 = .ok (.new 128, 3) := fx_dat dk_J_take 6 rfl
theorem d_J_take_15 : decode prog_1_method_16_code 15 = .ok (.dup, 1) := fx_dat dk_J_take 7 rfl
theorem d_J_take_16 : decode prog_1_method_16_code 16 = .ok (.invokespecial 130, 3) := fx_dat dk_J_take 8 rfl
theorem d_J_take_19 : decode prog_1_method_16_code 19 = .ok (.athrow, 1) := fx_dat dk_J_take 9 rfl
theorem d_J_take_20 : decode prog_1_method_16_code 20 = .ok (.aload_n 0, 1) := fx_dat dk_J_take 10 rfl
theorem d_J_take_21 : decode prog_1_method_16_code 21 = .ok (.aload_n 0, 1) := fx_dat dk_J_take 11 rfl
theorem d_J_take_22 : decode prog_1_method_16_code 22 = .ok (.getfield 14, 3) := fx_dat dk_J_take 12 rfl
theorem d_J_take_25 : decode prog_1_method_16_code 25 = .ok (.getfield 110, 3) := fx_dat dk_J_take 13 rfl
theorem d_J_take_28 : decode prog_1_method_16_code 28 = .ok (.iconst 0, 1) := fx_dat dk_J_take 14 rfl
theorem d_J_take_29 : decode prog_1_method_16_code 29 = .ok (.aload_n 0, 1) := fx_dat dk_J_take 15 rfl
theorem d_J_take_30 : decode prog_1_method_16_code 30 = .ok (.getfield 14, 3) := fx_dat dk_J_take 16 rfl
theorem d_J_take_33 : decode prog_1_method_16_code 33 = .ok (.getfield 96, 3) := fx_dat dk_J_take 17 rfl
theorem d_J_take_36 : decode prog_1_method_16_code 36 = .ok (.iload_n 1, 1) := fx_dat dk_J_take 18 rfl
theorem d_J_take_37 : decode prog_1_method_16_code 37 = .ok (.invokevirtual 217, 3) := fx_dat dk_J_take 19 rfl
theorem d_J_take_40 : decode prog_1_method_16_code 40 = .ok (.ireturn, 1) := fx_dat dk_J_take 20 rfl
def m_J_take_12 (Q : Int32 → AH → Prop) (E : Nat → AH → Prop) (h : AH) : Prop := fx_has h 6 ∧ ∀ (_ : fx_wf h) (q1 : Nat), q1 = hp_z h → ∀ h1 : AH, h1 = up_N h 16 0 6 → E q1 h1
def m_J_take (Q : Int32 → AH → Prop) (E : Nat → AH → Prop) (r0 : Nat) (x1 : Int32) (h : AH) : Prop := (x1 < 0 → m_J_take_12 Q E h) ∧ (¬ x1 < 0 → hp_k h r0 = 1 ∧ (x1 < (hp_I h r0 3) → ∃ b1, hp_R h r0 0 = some b1 ∧ hp_k h b1 = 2 ∧ ∃ b2, hp_R h b1 0 = some b2 ∧ m_J_hold (fun v1 h1 => fx_ext h h1 → Q v1 h1) (fun a ht => fx_ext h ht → E a ht) r0 b2 (0 : Int32) (hp_I h b1 1) x1 h) ∧ (¬ x1 < (hp_I h r0 3) → m_J_take_12 Q E h))
theorem b_J_take_12 {p : Program} {l : Launch} {e : Env} {R : Room} {s : State} {m : MethodId} {args : Array Value} {below : List Frame} {meth : Method} {c : Code} {D : DD} {h0 : AH} {Q : Int32 → AH → Prop} {E : Nat → AH → Prop} (C : fx_CX D y_J_take prog_1_method_16_code 2 8 118 (Option.some FieldType.int) [] h0 p R s m meth c) (hl : l.flags = flags0) (h : AH) (hw : m_J_take_12 Q E h) : ∀ (ls : Array Slot) (H : Heap) (locs : List Loc) (cells slots : Nat), lv_has ls 2 [] → fx_F D h0 h H locs cells slots → W p l e R s m args below meth c H locs cells slots (fx_Z D below s h0 (fx_oI Q E)) (F0 m 12 ls []) := by
  unfold m_J_take_12 at hw
  intro ls H locs cells slots hv F
  obtain ⟨hs, hw⟩ := hw
  let q1 : Nat := hp_z h
  let h1 : AH := up_N h 16 0 6
  replace hw := hw F.wf q1 rfl h1 rfl
  have hkq1 : hp_k h1 q1 = 16 := fx_nk _ _ _ _
  refine fx_exc (r := ("java/util/NoSuchElementException", fx_T15, 0)) (names := fx_rn) C F rfl rfl (fx_m3 (List.mem_of_getElem? (i := 71) rfl)) (fx_m1 (List.mem_of_getElem? (i := 23) rfl)) (by decide +kernel) (by decide +kernel) ex_J_130 hs hv.1 hl d_J_take_12 d_J_take_15 d_J_take_16 (by decide) (Nat.le_of_ble_eq_true rfl) (fun H locs cells slots (F : fx_F D h0 h1 H locs cells slots) => ?_)
  exact fx_athrow C F (fx_out0 _) d_J_take_19 (Or.inr ⟨_, rfl, hw⟩)
theorem b_J_take_0 {p : Program} {l : Launch} {e : Env} {R : Room} {s : State} {m : MethodId} {args : Array Value} {below : List Frame} {meth : Method} {c : Code} {D : DD} {h0 : AH} {Q : Int32 → AH → Prop} {E : Nat → AH → Prop} (C : fx_CX D y_J_take prog_1_method_16_code 2 8 118 (Option.some FieldType.int) [] h0 p R s m meth c) (hl : l.flags = flags0) (r0 : Nat) (x1 : Int32) (h : AH) (hw : m_J_take Q E r0 x1 h) : ∀ (ls : Array Slot) (H : Heap) (locs : List Loc) (cells slots : Nat), lv_has ls 2 [(0, .ref r0), (1, .int x1)] → fx_F D h0 h H locs cells slots → W p l e R s m args below meth c H locs cells slots (fx_Z D below s h0 (fx_oI Q E)) (F0 m 0 ls []) := by
  unfold m_J_take at hw
  intro ls H locs cells slots hv F
  refine lv_iload_n C.ex C.by d_J_take_0 rfl (lv_at hv 1 rfl) ?_
  refine lv_if_lt C.ex C.by d_J_take_1 rfl (fun hc => ?_) (fun hc => ?_)
  · replace hw := hw.1 hc
    exact b_J_take_12 C hl _ hw _ _ _ _ _ (lv_sub hv [] rfl) F
  · replace hw := hw.2 hc
    refine lv_iload_n C.ex C.by d_J_take_4 rfl (lv_at hv 1 rfl) ?_
    refine lv_aload_n C.ex C.by d_J_take_5 rfl (lv_at hv 0 rfl) ?_
    obtain ⟨hk1, hw⟩ := hw
    refine fx_getI C F lf_J_29 hk1 rfl d_J_take_6 ?_
    refine lv_icmp_lt C.ex C.by d_J_take_9 rfl (fun hc => ?_) (fun hc => ?_)
    · replace hw := hw.1 hc
      refine lv_aload_n C.ex C.by d_J_take_20 rfl (lv_at hv 0 rfl) ?_
      refine lv_aload_n C.ex C.by d_J_take_21 rfl (lv_at hv 0 rfl) ?_
      obtain ⟨b1, hb1, hw⟩ := hw
      refine fx_getR C F lf_J_14 hk1 rfl hb1 d_J_take_22 ?_
      obtain ⟨hk2, hw⟩ := hw
      obtain ⟨b2, hb2, hw⟩ := hw
      refine fx_getR C F lf_J_110 hk2 rfl hb2 d_J_take_25 ?_
      refine lv_iconst (v := (0 : Int32)) C.ex C.by d_J_take_28 (by decide) ?_
      refine lv_aload_n C.ex C.by d_J_take_29 rfl (lv_at hv 0 rfl) ?_
      refine fx_getR C F lf_J_14 hk1 rfl hb1 d_J_take_30 ?_
      refine fx_getI C F lf_J_96 hk2 rfl d_J_take_33 ?_
      refine lv_iload_n C.ex C.by d_J_take_36 rfl (lv_at hv 1 rfl) ?_
      refine fx_callI C F (c_J_hold hl hw) hm_J_hold hi_J_hold hv.1 (by decide) (Nat.le_of_ble_eq_true rfl) (iv_J_hold C F lm_J_217 hk1 d_J_take_37) (fx_out0 _) (fun _ _ hE hx => Or.inr ⟨_, rfl, hE hx⟩) (fun v1 h1 H locs cells slots hw hx1 F => ?_)
      replace hw := hw hx1
      have hk2 := (hx1).k hk2
      have hk1 := (hx1).k hk1
      exact fx_iret C F d_J_take_40 (Or.inl ⟨_, rfl, hw⟩)
    · replace hw := hw.2 hc
      exact b_J_take_12 C hl _ hw _ _ _ _ _ (lv_sub hv [] rfl) F
theorem hm_J_take : fx_hd y_J_take prog_1_method_16_code 2 (Option.some FieldType.int) [] ∈ tables_1 := (fx_m5 (List.mem_of_getElem? (i := 63) rfl))
theorem hi_J_take : Cond.initialized y_J_take.cls ∈ tables_1 := (fx_m1 (List.mem_of_getElem? (i := 1) rfl))
theorem c_J_take {l : Launch} (hl : l.flags = flags0) {D : DD} {Q : Int32 → AH → Prop} {E : Nat → AH → Prop} {r0 : Nat} {x1 : Int32} {h : AH} (hw : m_J_take Q E r0 x1 h) : fx_Mt l D y_J_take (fx_hd y_J_take prog_1_method_16_code 2 (Option.some FieldType.int) []) 8 118 [.ref r0, .int x1] h (fx_oI Q E) := by
  refine fx_ofW (plainFor_of_name (by decide)) (fun p e s m below meth c C F => ?_)
  have hv := lv_entry ([.ref r0, .int x1]) (n := 2) (Nat.le_of_ble_eq_true rfl)
  rw [lg_entry_eq]
  generalize (lg_sl ([.ref r0, .int x1]) ++ List.replicate (2 - (lg_sl ([.ref r0, .int x1])).length) Slot.unset).toArray = ls at hv ⊢
  have hv : lv_has ls 2 [(0, .ref r0), (1, .int x1)] := hv
  exact b_J_take_0 C hl _ _ _ hw _ _ _ _ _ hv F
/-! ChainJudgeLaw.take(LChainJudge;I[J)I: frames 9, words 133 -/
abbrev y_Law_take : MethodName := ⟨"ChainJudgeLaw", "take", "(LChainJudge;I[J)I"⟩
theorem lm_Law_32 : Cond.methodLink "ChainJudgeLaw" 32 y_J_take ∈ tables_1 ∨ ∃ host, Cond.methodLinkNest "ChainJudgeLaw" 32 y_J_take host ∈ tables_1 := Or.inl (fx_m5 (List.mem_of_getElem? (i := 60) rfl))
section
variable {p : Program} {l : Launch} {e : Env} {R : Room} {s : State} {m : MethodId} {args : Array Value} {below : List Frame} {meth : Method} {c : Code} {H : Heap} {locs : List Loc} {cells slots : Nat}
variable {D : DD} {y : MethodName} {cc : ByteArray} {nL kf kw : Nat} {ret : Option FieldType} {hh : List (Nat × Nat × Nat × Nat)} {h0 h : AH} {pc : Nat} {ls : Array Slot} {rest : List Value} {b idx : Nat}
theorem iv_J_take {x1 : Int32} (C : fx_CX D y cc nL kf kw ret hh h0 p R s m meth c) (F : fx_F D h0 h H locs cells slots) (hw1 : Cond.methodLink y.cls idx y_J_take ∈ tables_1 ∨ ∃ host, Cond.methodLinkNest y.cls idx y_J_take host ∈ tables_1) (hk : hp_k h b = 1) (hd : decode cc pc = .ok (.invokevirtual idx, 3)) : fx_IV p l e R s m args below meth c H locs cells slots (F0 m pc ls (.int x1 :: .ref b :: rest)) rest y_J_take [.ref b, .int x1] 3 := fun T hT X => fx_invV (As := [.int x1]) (Cn := "ChainJudge") C X hw1 (fx_m5 (List.mem_of_getElem? (i := 61) rfl)) (fx_selW C (fx_m5 (List.mem_of_getElem? (i := 62) rfl))) hm_J_take ⟨by decide, by decide⟩ (by rw [hT]; exact fx_clsO (ci := 0) (r := ("ChainJudge", fx_T0, 16)) C F rfl (by decide) hk) rfl (n := 1) (by decide +kernel) rfl rfl hd
end
def dl_Law_take : List (Nat × Instr × Nat) := [(0, .aload_n 2, 1), (1, .iconst 0, 1), (2, .aload_n 0, 1), (3, .iload_n 1, 1), (4, .invokevirtual 32, 3), (7, .i2l, 1), (8, .lastore, 1), (9, .goto 9, 3), (12, .astore_n 3, 1), (13, .iconst 1, 1), (14, .ireturn, 1), (15, .astore_n 3, 1), (16, .iconst 2, 1), (17, .ireturn, 1), (18, .iconst 0, 1), (19, .ireturn, 1)]
theorem dk_Law_take : fx_dec method_7_code dl_Law_take = true := by decide +kernel
theorem d_Law_take_0 : decode method_7_code 0 = .ok (.aload_n 2, 1) := fx_dat dk_Law_take 0 rfl
theorem d_Law_take_1 : decode method_7_code 1 = .ok (.iconst 0, 1) := fx_dat dk_Law_take 1 rfl
theorem d_Law_take_2 : decode method_7_code 2 = .ok (.aload_n 0, 1) := fx_dat dk_Law_take 2 rfl
theorem d_Law_take_3 : decode method_7_code 3 = .ok (.iload_n 1, 1) := fx_dat dk_Law_take 3 rfl
theorem d_Law_take_4 : decode method_7_code 4 = .ok (.invokevirtual 32, 3) := fx_dat dk_Law_take 4 rfl
theorem d_Law_take_7 : decode method_7_code 7 = .ok (.i2l, 1) := fx_dat dk_Law_take 5 rfl
theorem d_Law_take_8 : decode method_7_code 8 = .ok (.lastore, 1) := fx_dat dk_Law_take 6 rfl
theorem d_Law_take_9 : decode method_7_code 9 = .ok (.goto 9, 3) := fx_dat dk_Law_take 7 rfl
theorem d_Law_take_12 : decode method_7_code 12 = .ok (.astore_n 3, 1) := fx_dat dk_Law_take 8 rfl
theorem d_Law_take_13 : decode method_7_code 13 = .ok (.iconst 1, 1) := fx_dat dk_Law_take 9 rfl
theorem d_Law_take_14 : decode method_7_code 14 = .ok (.ireturn, 1) := fx_dat dk_Law_take 10 rfl
theorem d_Law_take_15 : decode method_7_code 15 = .ok (.astore_n 3, 1) := fx_dat dk_Law_take 11 rfl
theorem d_Law_take_16 : decode method_7_code 16 = .ok (.iconst 2, 1) := fx_dat dk_Law_take 12 rfl
theorem d_Law_take_17 : decode method_7_code 17 = .ok (.ireturn, 1) := fx_dat dk_Law_take 13 rfl
theorem d_Law_take_18 : decode method_7_code 18 = .ok (.iconst 0, 1) := fx_dat dk_Law_take 14 rfl
theorem d_Law_take_19 : decode method_7_code 19 = .ok (.ireturn, 1) := fx_dat dk_Law_take 15 rfl
def m_Law_take (Q : Int32 → AH → Prop) (r0 : Nat) (x1 : Int32) (r2 : Nat) (h : AH) : Prop := hp_k h r0 = 1 ∧ m_J_take (fun v1 h1 => fx_ext h h1 → hp_k h1 r2 = 103 ∧ vp_in (0 : Int32) (hp_n h1 r2) ∧ ∀ h2 : AH, h2 = up_L h1 r2 ((0 : Int32)).toNatClampNeg ((v1).toInt64) → Q (0 : Int32) h2) (fun q1 h3 => fx_ext h h3 → (hp_k h3 q1 = 16 ∧ Q (1 : Int32) h3) ∨ (hp_k h3 q1 = 15 ∧ Q (2 : Int32) h3)) r0 x1 h
theorem b_Law_take_0 {p : Program} {l : Launch} {e : Env} {R : Room} {s : State} {m : MethodId} {args : Array Value} {below : List Frame} {meth : Method} {c : Code} {D : DD} {h0 : AH} {Q : Int32 → AH → Prop} (C : fx_CX D y_Law_take method_7_code 4 9 133 (Option.some FieldType.int) [(0, 9, 12, 28), (0, 9, 15, 13)] h0 p R s m meth c) (hl : l.flags = flags0) (r0 : Nat) (x1 : Int32) (r2 : Nat) (h : AH) (hw : m_Law_take Q r0 x1 r2 h) : ∀ (ls : Array Slot) (H : Heap) (locs : List Loc) (cells slots : Nat), lv_has ls 4 [(0, .ref r0), (1, .int x1), (2, .ref r2)] → fx_F D h0 h H locs cells slots → W p l e R s m args below meth c H locs cells slots (fx_Z D below s h0 (fx_oI Q fx_no)) (F0 m 0 ls []) := by
  unfold m_Law_take at hw
  intro ls H locs cells slots hv F
  refine lv_aload_n C.ex C.by d_Law_take_0 rfl (lv_at hv 2 rfl) ?_
  refine lv_iconst (v := (0 : Int32)) C.ex C.by d_Law_take_1 (by decide) ?_
  refine lv_aload_n C.ex C.by d_Law_take_2 rfl (lv_at hv 0 rfl) ?_
  refine lv_iload_n C.ex C.by d_Law_take_3 rfl (lv_at hv 1 rfl) ?_
  obtain ⟨hk1, hw⟩ := hw
  refine fx_callIc C F (c_J_take hl hw) hm_J_take hi_J_take hv.1 (by decide) (Nat.le_of_ble_eq_true rfl) (iv_J_take C F lm_Law_32 hk1 d_Law_take_4) (fun v1 h1 H locs cells slots hw hx1 F => ?_) (fun q1 h3 T locs cells slots hw hx1 F X => ?_)
  · replace hw := hw hx1
    have hk1 := (hx1).k hk1
    refine lv_i2l (v := ((v1).toInt64)) C.ex C.by d_Law_take_7 rfl ?_
    obtain ⟨hk2, hw⟩ := hw
    obtain ⟨hi1, hw⟩ := hw
    let h2 : AH := up_L h1 r2 ((0 : Int32)).toNatClampNeg ((v1).toInt64)
    replace hw := hw h2 rfl
    refine fx_last C F hk2 hi1 d_Law_take_8 (fun H locs (F : fx_F D h0 h2 H locs _ _) => ?_)
    refine lv_goto C.ex C.by d_Law_take_9 rfl ?_
    refine lv_iconst (v := (0 : Int32)) C.ex C.by d_Law_take_18 (by decide) ?_
    exact fx_iret C F d_Law_take_19 (Or.inl ⟨_, rfl, hw⟩)
  · replace hw := hw hx1
    rcases hw with ⟨hk9, hw⟩ | ⟨hk9, hw⟩
    · have hp0 : ∀ q ∈ ([] : List ((Nat × Nat × Nat × Nat) × String)), fx_passes "ChainJudgeLaw" "java/util/NoSuchElementException" 4 q := by
        intro q hq
        cases hq
      refine fx_caught (ci := 15) (r := ("java/util/NoSuchElementException", fx_T15, 0)) C F X rfl (by decide) hk9 [] (0, 9, 12, 28) [(0, 9, 15, 13)] "java/util/NoSuchElementException" rfl hp0 rfl (by decide) (fx_m3 (List.mem_of_getElem? (i := 65) rfl)) (fx_m3 (List.mem_of_getElem? (i := 73) rfl)) (fun H locs cells slots F => ?_)
      have hk1 := (hx1).k hk1
      refine lv_astore_n (lv' := [(3, .ref q1), (0, .ref r0), (1, .int x1), (2, .ref r2)]) C.ex C.by d_Law_take_12 rfl hv (by decide) rfl (fun ls hv => ?_)
      refine lv_iconst (v := (1 : Int32)) C.ex C.by d_Law_take_13 (by decide) ?_
      exact fx_iret C F d_Law_take_14 (Or.inl ⟨_, rfl, hw⟩)
    · have hp1 : ∀ q ∈ ([((0, 9, 12, 28), "java/util/NoSuchElementException")] : List ((Nat × Nat × Nat × Nat) × String)), fx_passes "ChainJudgeLaw" "java/lang/IllegalStateException" 4 q := by
        intro q hq
        rcases List.mem_cons.mp hq with rfl | hq
        · exact ⟨rfl, by decide, (fx_m3 (List.mem_of_getElem? (i := 65) rfl)), List.mem_of_getElem? (i := 3) rfl⟩
        cases hq
      refine fx_caught (ci := 14) (r := ("java/lang/IllegalStateException", fx_T14, 0)) C F X rfl (by decide) hk9 [((0, 9, 12, 28), "java/util/NoSuchElementException")] (0, 9, 15, 13) [] "java/lang/IllegalStateException" rfl hp1 rfl (by decide) (fx_m2 (List.mem_of_getElem? (i := 179) rfl)) (fx_m2 (List.mem_of_getElem? (i := 187) rfl)) (fun H locs cells slots F => ?_)
      have hk1 := (hx1).k hk1
      refine lv_astore_n (lv' := [(3, .ref q1), (0, .ref r0), (1, .int x1), (2, .ref r2)]) C.ex C.by d_Law_take_15 rfl hv (by decide) rfl (fun ls hv => ?_)
      refine lv_iconst (v := (2 : Int32)) C.ex C.by d_Law_take_16 (by decide) ?_
      exact fx_iret C F d_Law_take_17 (Or.inl ⟨_, rfl, hw⟩)
theorem hm_Law_take : fx_hd y_Law_take method_7_code 4 (Option.some FieldType.int) [(0, 9, 12, 28), (0, 9, 15, 13)] ∈ tables_1 := (fx_m5 (List.mem_of_getElem? (i := 59) rfl))
theorem hi_Law_take : Cond.initialized y_Law_take.cls ∈ tables_1 := (fx_m1 (List.mem_of_getElem? (i := 0) rfl))
theorem c_Law_take {l : Launch} (hl : l.flags = flags0) {D : DD} {Q : Int32 → AH → Prop} {r0 : Nat} {x1 : Int32} {r2 : Nat} {h : AH} (hw : m_Law_take Q r0 x1 r2 h) : fx_Mt l D y_Law_take (fx_hd y_Law_take method_7_code 4 (Option.some FieldType.int) [(0, 9, 12, 28), (0, 9, 15, 13)]) 9 133 [.ref r0, .int x1, .ref r2] h (fx_oI Q fx_no) := by
  refine fx_ofW (plainFor_of_name (by decide)) (fun p e s m below meth c C F => ?_)
  have hv := lv_entry ([.ref r0, .int x1, .ref r2]) (n := 4) (Nat.le_of_ble_eq_true rfl)
  rw [lg_entry_eq]
  generalize (lg_sl ([.ref r0, .int x1, .ref r2]) ++ List.replicate (4 - (lg_sl ([.ref r0, .int x1, .ref r2])).length) Slot.unset).toArray = ls at hv ⊢
  have hv : lv_has ls 4 [(0, .ref r0), (1, .int x1), (2, .ref r2)] := hv
  exact b_Law_take_0 C hl _ _ _ _ hw _ _ _ _ _ hv F
