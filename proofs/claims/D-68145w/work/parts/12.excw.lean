set_option maxRecDepth 100000
abbrev fx_rn : List String := ["java/lang/RuntimeException", "java/lang/Exception"]
theorem fx_eA : ∀ a ∈ Bundle.throwableAtoms, a ∈ fx_hw ∨ (a ∈ tables_1 ∧ fx_good a = true ∧ a.onTables = true) := by
  unfold Bundle.throwableAtoms
  refine List.forall_mem_cons.mpr ⟨Or.inr ⟨(fx_m1 (List.mem_of_getElem? (i := 16) rfl)), rfl, rfl⟩, ?_⟩
  refine List.forall_mem_cons.mpr ⟨Or.inr ⟨(fx_m2 (List.mem_of_getElem? (i := 207) rfl)), rfl, rfl⟩, ?_⟩
  refine List.forall_mem_cons.mpr ⟨Or.inr ⟨(fx_m2 (List.mem_of_getElem? (i := 216) rfl)), rfl, rfl⟩, ?_⟩
  refine List.forall_mem_cons.mpr ⟨Or.inr ⟨(fx_m2 (List.mem_of_getElem? (i := 222) rfl)), rfl, rfl⟩, ?_⟩
  refine List.forall_mem_cons.mpr ⟨Or.inr ⟨(fx_m2 (List.mem_of_getElem? (i := 225) rfl)), rfl, rfl⟩, ?_⟩
  refine List.forall_mem_cons.mpr ⟨Or.inr ⟨(fx_m2 (List.mem_of_getElem? (i := 227) rfl)), rfl, rfl⟩, ?_⟩
  refine List.forall_mem_cons.mpr ⟨Or.inr ⟨(fx_m2 (List.mem_of_getElem? (i := 208) rfl)), rfl, rfl⟩, ?_⟩
  refine List.forall_mem_cons.mpr ⟨Or.inr ⟨(fx_m2 (List.mem_of_getElem? (i := 209) rfl)), rfl, rfl⟩, ?_⟩
  refine List.forall_mem_cons.mpr ⟨Or.inr ⟨(fx_m1 (List.mem_of_getElem? (i := 38) rfl)), rfl, rfl⟩, ?_⟩
  refine List.forall_mem_cons.mpr ⟨Or.inr ⟨(fx_m1 (List.mem_of_getElem? (i := 39) rfl)), rfl, rfl⟩, ?_⟩
  refine List.forall_mem_cons.mpr ⟨Or.inr ⟨(fx_m2 (List.mem_of_getElem? (i := 210) rfl)), rfl, rfl⟩, ?_⟩
  refine List.forall_mem_cons.mpr ⟨Or.inr ⟨(fx_m2 (List.mem_of_getElem? (i := 215) rfl)), rfl, rfl⟩, ?_⟩
  refine List.forall_mem_cons.mpr ⟨Or.inr ⟨(fx_m2 (List.mem_of_getElem? (i := 223) rfl)), rfl, rfl⟩, ?_⟩
  refine List.forall_mem_cons.mpr ⟨Or.inr ⟨(fx_m2 (List.mem_of_getElem? (i := 239) rfl)), rfl, rfl⟩, ?_⟩
  refine List.forall_mem_cons.mpr ⟨Or.inr ⟨(fx_m2 (List.mem_of_getElem? (i := 197) rfl)), rfl, rfl⟩, ?_⟩
  refine List.forall_mem_cons.mpr ⟨Or.inr ⟨(fx_m3 (List.mem_of_getElem? (i := 0) rfl)), rfl, rfl⟩, ?_⟩
  refine List.forall_mem_cons.mpr ⟨Or.inr ⟨(fx_m2 (List.mem_of_getElem? (i := 199) rfl)), rfl, rfl⟩, ?_⟩
  refine List.forall_mem_cons.mpr ⟨Or.inr ⟨(fx_m3 (List.mem_of_getElem? (i := 1) rfl)), rfl, rfl⟩, ?_⟩
  refine List.forall_mem_cons.mpr ⟨Or.inr ⟨(fx_m2 (List.mem_of_getElem? (i := 201) rfl)), rfl, rfl⟩, ?_⟩
  refine List.forall_mem_cons.mpr ⟨Or.inr ⟨(fx_m2 (List.mem_of_getElem? (i := 211) rfl)), rfl, rfl⟩, ?_⟩
  refine List.forall_mem_cons.mpr ⟨Or.inl (List.mem_of_getElem? (i := 0) rfl), ?_⟩
  refine List.forall_mem_cons.mpr ⟨Or.inr ⟨(fx_m2 (List.mem_of_getElem? (i := 213) rfl)), rfl, rfl⟩, ?_⟩
  refine List.forall_mem_cons.mpr ⟨Or.inl (List.mem_of_getElem? (i := 1) rfl), ?_⟩
  refine List.forall_mem_cons.mpr ⟨Or.inr ⟨(fx_m2 (List.mem_of_getElem? (i := 203) rfl)), rfl, rfl⟩, ?_⟩
  exact fun _ h => absurd h List.not_mem_nil
theorem fx_eB : ∀ a ∈ Bundle.passAtoms "java/lang/RuntimeException" "java/lang/Exception" 1 Bundle.five, a ∈ fx_hw ∨ (a ∈ tables_1 ∧ fx_good a = true ∧ a.onTables = true) := by
  unfold Bundle.passAtoms
  refine List.forall_mem_cons.mpr ⟨Or.inr ⟨(fx_m2 (List.mem_of_getElem? (i := 232) rfl)), rfl, rfl⟩, ?_⟩
  refine List.forall_mem_cons.mpr ⟨Or.inr ⟨(fx_m2 (List.mem_of_getElem? (i := 233) rfl)), rfl, rfl⟩, ?_⟩
  refine List.forall_mem_cons.mpr ⟨Or.inr ⟨(fx_m2 (List.mem_of_getElem? (i := 234) rfl)), rfl, rfl⟩, ?_⟩
  refine List.forall_mem_cons.mpr ⟨Or.inr ⟨(fx_m2 (List.mem_of_getElem? (i := 235) rfl)), rfl, rfl⟩, ?_⟩
  refine List.forall_mem_cons.mpr ⟨Or.inr ⟨(fx_m2 (List.mem_of_getElem? (i := 190) rfl)), rfl, rfl⟩, ?_⟩
  exact fun _ h => absurd h List.not_mem_nil
theorem fx_eC : ∀ a ∈ Bundle.passAtoms "java/lang/Exception" Bundle.tN 1 Bundle.five, a ∈ fx_hw ∨ (a ∈ tables_1 ∧ fx_good a = true ∧ a.onTables = true) := by
  unfold Bundle.passAtoms
  refine List.forall_mem_cons.mpr ⟨Or.inr ⟨(fx_m2 (List.mem_of_getElem? (i := 235) rfl)), rfl, rfl⟩, ?_⟩
  refine List.forall_mem_cons.mpr ⟨Or.inr ⟨(fx_m2 (List.mem_of_getElem? (i := 236) rfl)), rfl, rfl⟩, ?_⟩
  refine List.forall_mem_cons.mpr ⟨Or.inr ⟨(fx_m2 (List.mem_of_getElem? (i := 237) rfl)), rfl, rfl⟩, ?_⟩
  refine List.forall_mem_cons.mpr ⟨Or.inr ⟨(fx_m2 (List.mem_of_getElem? (i := 208) rfl)), rfl, rfl⟩, ?_⟩
  refine List.forall_mem_cons.mpr ⟨Or.inr ⟨(fx_m2 (List.mem_of_getElem? (i := 192) rfl)), rfl, rfl⟩, ?_⟩
  exact fun _ h => absurd h List.not_mem_nil
theorem fx_eWmk {own X : String} {ic : Nat} (h1 : Cond.instanceMethod (Bundle.init0 X) ∈ tables_1) (h2 : Cond.code (Bundle.init0 X) Bundle.five 1 none ∈ tables_1) (h3 : Cond.methodLink X 1 (Bundle.init0 "java/lang/RuntimeException") ∈ tables_1) (h4 : Cond.methodLink own ic (Bundle.init0 X) ∈ tables_1) (h5 : Cond.instantiable X 6 ∈ tables_1) (h6 : Cond.castable X X ∈ tables_1) (h7 : Cond.selects X Bundle.tFill0 Bundle.tFill0 ∈ tables_1) (h8 : Cond.selects X Bundle.tFill Bundle.tFill ∈ tables_1)
    (h9 : Cond.lays X Bundle.tN "cause" "Ljava/lang/Throwable;" ∈ tables_1) (h10 : Cond.lays X Bundle.tN "stackTrace" Bundle.steD ∈ tables_1) (h11 : Cond.lays X Bundle.tN "suppressedExceptions" Bundle.listD ∈ tables_1) (h12 : Cond.lays X Bundle.tN "detailMessage" "Ljava/lang/String;" ∈ tables_1) (h13 : Cond.lays X Bundle.tN "backtrace" "Ljava/lang/Object;" ∈ tables_1) : fx_eW own ic X fx_rn := by
  unfold fx_eW
  refine List.forall_mem_append.mpr ⟨List.forall_mem_append.mpr ⟨fx_eA, ?_⟩, ?_⟩
  · show ∀ a ∈ Bundle.passAtoms X "java/lang/RuntimeException" 1 Bundle.five ++ (Bundle.passAtoms "java/lang/RuntimeException" "java/lang/Exception" 1 Bundle.five ++ Bundle.passAtoms "java/lang/Exception" Bundle.tN 1 Bundle.five), _
    refine List.forall_mem_append.mpr ⟨?_, List.forall_mem_append.mpr ⟨fx_eB, fx_eC⟩⟩
    unfold Bundle.passAtoms
    refine List.forall_mem_cons.mpr ⟨Or.inr ⟨h1, rfl, rfl⟩, ?_⟩
    refine List.forall_mem_cons.mpr ⟨Or.inr ⟨h2, rfl, rfl⟩, ?_⟩
    refine List.forall_mem_cons.mpr ⟨Or.inr ⟨h3, rfl, rfl⟩, ?_⟩
    refine List.forall_mem_cons.mpr ⟨Or.inr ⟨(fx_m2 (List.mem_of_getElem? (i := 232) rfl)), rfl, rfl⟩, ?_⟩
    refine List.forall_mem_cons.mpr ⟨Or.inr ⟨(fx_m2 (List.mem_of_getElem? (i := 188) rfl)), rfl, rfl⟩, ?_⟩
    exact fun _ h => absurd h List.not_mem_nil
  · refine List.forall_mem_cons.mpr ⟨Or.inr ⟨h4, rfl, rfl⟩, ?_⟩
    refine List.forall_mem_cons.mpr ⟨Or.inr ⟨h5, rfl, rfl⟩, ?_⟩
    refine List.forall_mem_cons.mpr ⟨Or.inr ⟨h6, rfl, rfl⟩, ?_⟩
    refine List.forall_mem_cons.mpr ⟨Or.inr ⟨h7, rfl, rfl⟩, ?_⟩
    refine List.forall_mem_cons.mpr ⟨Or.inr ⟨h8, rfl, rfl⟩, ?_⟩
    refine List.forall_mem_cons.mpr ⟨Or.inr ⟨h9, rfl, rfl⟩, ?_⟩
    refine List.forall_mem_cons.mpr ⟨Or.inr ⟨h10, rfl, rfl⟩, ?_⟩
    refine List.forall_mem_cons.mpr ⟨Or.inr ⟨h11, rfl, rfl⟩, ?_⟩
    refine List.forall_mem_cons.mpr ⟨Or.inr ⟨h12, rfl, rfl⟩, ?_⟩
    refine List.forall_mem_cons.mpr ⟨Or.inl (List.mem_of_getElem? (i := 2) rfl), ?_⟩
    refine List.forall_mem_cons.mpr ⟨Or.inl (List.mem_of_getElem? (i := 3) rfl), ?_⟩
    refine List.forall_mem_cons.mpr ⟨Or.inr ⟨(fx_m2 (List.mem_of_getElem? (i := 206) rfl)), rfl, rfl⟩, ?_⟩
    refine List.forall_mem_cons.mpr ⟨Or.inr ⟨(fx_m2 (List.mem_of_getElem? (i := 205) rfl)), rfl, rfl⟩, ?_⟩
    refine List.forall_mem_cons.mpr ⟨Or.inr ⟨h13, rfl, rfl⟩, ?_⟩
    exact fun _ h => absurd h List.not_mem_nil
section CALLC
variable {p : Program} {l : Launch} {e : Env} {R : Room} {s : State} {m : MethodId} {args : Array Value} {below : List Frame} {meth : Method} {c : Code} {H : Heap} {locs : List Loc} {cells slots : Nat} {Z : State → Prop}
variable {D : DD} {y y' : MethodName} {cc cc' : ByteArray} {nL kf kw nL' kf' kw' len : Nat} {ret ret' : Option FieldType} {hh hh' : List (Nat × Nat × Nat × Nat)} {h0 h : AH} {E : Nat → AH → Prop}
variable {pc : Nat} {ls : Array Slot} {rest st av : List Value}
theorem fx_callIc {Q : Int32 → AH → Prop} (C : fx_CX D y cc nL kf kw ret hh h0 p R s m meth c) (F : fx_F D h0 h H locs cells slots) (hM : fx_Mt l D y' (fx_hd y' cc' nL' ret' hh') kf' kw' av h (fx_oI Q E)) (hm1 : fx_hd y' cc' nL' ret' hh' ∈ tables_1) (hm2 : Cond.initialized y'.cls ∈ tables_1) (hls : ls.size = nL) (hfr : kf' + 1 ≤ kf) (hlo : (rest.map fun v => v.category).sum + (nL' + 11) + kw' ≤ kw)
    (I : fx_IV p l e R s m args below meth c H locs cells slots (F0 m pc ls st) rest y' av len)
    (kr : ∀ (v : Int32) (h' : AH) (H : Heap) (locs : List Loc) (cells slots : Nat), Q v h' → fx_ext h h' → fx_F D h0 h' H locs cells slots → W p l e R s m args below meth c H locs cells slots Z (F0 m (pc + len) ls (.int v :: rest)))
    (kt : ∀ (a : Nat) (h' : AH) (T : State) (locs : List Loc) (cells slots : Nat), E a h' → fx_ext h h' → fx_F D h0 h' T.heap locs cells slots → Stand p l e R s m args below meth c T locs cells slots → ∃ t, Steps p.tables e below ((T.setTop (F0 m pc ls rest)).pushFrame (.throwing a)) t ∧ Z t) : W p l e R s m args below meth c H locs cells slots Z (F0 m pc ls st) := by
  refine fx_call C F hM hm1 hm2 hls hfr hlo I (fun v h' H locs cells slots hQ hx hF => ?_) (fun a h' T locs cells slots hQ hx hF hS => ?_)
  · rcases hQ with ⟨w, hw, hQ⟩ | ⟨a, ha, -⟩
    · cases hw; exact kr w h' H locs cells slots hQ hx hF
    · cases ha
  · rcases hQ with ⟨w, hw, hQ⟩ | ⟨a, ha, hE⟩
    · cases hw
    · cases ha; exact kt _ _ _ _ _ _ hE hx hF hS
theorem fx_callLc {Q : Int64 → AH → Prop} (C : fx_CX D y cc nL kf kw ret hh h0 p R s m meth c) (F : fx_F D h0 h H locs cells slots) (hM : fx_Mt l D y' (fx_hd y' cc' nL' ret' hh') kf' kw' av h (fx_oL Q E)) (hm1 : fx_hd y' cc' nL' ret' hh' ∈ tables_1) (hm2 : Cond.initialized y'.cls ∈ tables_1) (hls : ls.size = nL) (hfr : kf' + 1 ≤ kf) (hlo : (rest.map fun v => v.category).sum + (nL' + 11) + kw' ≤ kw)
    (I : fx_IV p l e R s m args below meth c H locs cells slots (F0 m pc ls st) rest y' av len)
    (kr : ∀ (v : Int64) (h' : AH) (H : Heap) (locs : List Loc) (cells slots : Nat), Q v h' → fx_ext h h' → fx_F D h0 h' H locs cells slots → W p l e R s m args below meth c H locs cells slots Z (F0 m (pc + len) ls (.long v :: rest)))
    (kt : ∀ (a : Nat) (h' : AH) (T : State) (locs : List Loc) (cells slots : Nat), E a h' → fx_ext h h' → fx_F D h0 h' T.heap locs cells slots → Stand p l e R s m args below meth c T locs cells slots → ∃ t, Steps p.tables e below ((T.setTop (F0 m pc ls rest)).pushFrame (.throwing a)) t ∧ Z t) : W p l e R s m args below meth c H locs cells slots Z (F0 m pc ls st) := by
  refine fx_call C F hM hm1 hm2 hls hfr hlo I (fun v h' H locs cells slots hQ hx hF => ?_) (fun a h' T locs cells slots hQ hx hF hS => ?_)
  · rcases hQ with ⟨w, hw, hQ⟩ | ⟨a, ha, -⟩
    · cases hw; exact kr w h' H locs cells slots hQ hx hF
    · cases ha
  · rcases hQ with ⟨w, hw, hQ⟩ | ⟨a, ha, hE⟩
    · cases hw
    · cases ha; exact kt _ _ _ _ _ _ hE hx hF hS
theorem fx_callVc {Q : AH → Prop} (C : fx_CX D y cc nL kf kw ret hh h0 p R s m meth c) (F : fx_F D h0 h H locs cells slots) (hM : fx_Mt l D y' (fx_hd y' cc' nL' ret' hh') kf' kw' av h (fx_oV Q E)) (hm1 : fx_hd y' cc' nL' ret' hh' ∈ tables_1) (hm2 : Cond.initialized y'.cls ∈ tables_1) (hls : ls.size = nL) (hfr : kf' + 1 ≤ kf) (hlo : (rest.map fun v => v.category).sum + (nL' + 11) + kw' ≤ kw)
    (I : fx_IV p l e R s m args below meth c H locs cells slots (F0 m pc ls st) rest y' av len)
    (kr : ∀ (h' : AH) (H : Heap) (locs : List Loc) (cells slots : Nat), Q h' → fx_ext h h' → fx_F D h0 h' H locs cells slots → W p l e R s m args below meth c H locs cells slots Z (F0 m (pc + len) ls (rest)))
    (kt : ∀ (a : Nat) (h' : AH) (T : State) (locs : List Loc) (cells slots : Nat), E a h' → fx_ext h h' → fx_F D h0 h' T.heap locs cells slots → Stand p l e R s m args below meth c T locs cells slots → ∃ t, Steps p.tables e below ((T.setTop (F0 m pc ls rest)).pushFrame (.throwing a)) t ∧ Z t) : W p l e R s m args below meth c H locs cells slots Z (F0 m pc ls st) := by
  refine fx_call C F hM hm1 hm2 hls hfr hlo I (fun v h' H locs cells slots hQ hx hF => ?_) (fun a h' T locs cells slots hQ hx hF hS => ?_)
  · rcases hQ with ⟨hw, hQ⟩ | ⟨a, ha, -⟩
    · cases hw; exact kr h' H locs cells slots hQ hx hF
    · cases ha
  · rcases hQ with ⟨hw, hQ⟩ | ⟨a, ha, hE⟩
    · cases hw
    · cases ha; exact kt _ _ _ _ _ _ hE hx hF hS
end CALLC
