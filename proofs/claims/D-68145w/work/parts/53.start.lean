set_option maxRecDepth 100000
/-! THE START, and the hook to the machine -/
def k_roots : List Int64 := [4794697086780616226, 8158064640168781261, -5349999486874862801, -1606136188198331460, 4131703408338449720, 6480981068601479193, -7908458776815382629, -6116909921290321640, -2880145864133508542, 1334009975649890238, 2608012711638119052, 6128411473006802146, 8268148722764581231, -9160688886553864527, -7215885187991268811, -4495734319001033068, -1973867731355612462, -1171420211273849373, 1135362057144423861, 2597628984639134821, 3308224258029322869, 5365058923640841347, 6679025012923562964, 8573033837759648693, -7476448914759557205, -6327057829258317296, -5763719355590565569, -4658551843659510044, -4116276920077217854, -3051310485924567259, 489312712824947311, 1452737877330783856, 2861767655752347644, 3322285676063803686, 5560940570517711597, 5996557281743188959, 7280758554555802590, 8532644243296465576, -9096487096722542874, -7894198246740708037, -6719396339535248540, -6333637450476146687, -4446306890439682159, -4076793802049405392, -3345356375505022440, -2983346525034927856, -860691631967231958, 1182934255886127544, 1847814050463011016, 2177327727835720531, 2830643537854262169, 3796741975233480872, 4115178125766777443, 5681478168544905931, 6601373596472566643, 7507060721942968483, 8399075790359081724, 8693463985226723168, -8878714635349349518, -8302665154208450068, -8016688836872298968, -6606660893046293015, -4685533653050689259, -4147400797238176981, -3880063495543823972, -3348786107499101689, -1523767162380948706, -757361751448694408, 500013540394364858, 748580250866718886, 1242879168328830382, 1977374033974150939, 2944078676154940804, 3659926193048069267, 4368137639120453308, 4836135668995329356, 5532061633213252278, 6448918945643986474, 6902733635092675308, 7801388544844847127]
def k_first : List Int64 := [7640891576956012808, -4942790177534073029, 4354685564936845355, -6534734903238641935, 5840696475078001361, -7276294671716946913, 2270897969802886507, 6620516959819538809]
def k_bytes : List (List Int32) := [[85, 4, 3], [85, 29, 19], [85, 29, 15], [85, 29, 17], [85, 29, 37], [43, 6, 1, 5, 5, 7, 3, 1], [43, 6, 1, 5, 5, 7, 3, 2], [43, 6, 1, 4, 1, -122, -115, 31, 1], [42, -122, 72, -122, -9, 13, 2, 9]]
/-- what is known of the flat heap at the law's start -/
def st_ok (b : Nat) (h : AH) : Prop := hp_k h b = 112 ∧ hp_n h b ≤ 3072 ∧ (hp_k h (hp_c h 0) = 113 ∧ hp_n h (hp_c h 0) = 80 ∧ ∀ j, j < 80 → hp_L h (hp_c h 0) j = k_roots.getD j 0) ∧
  (hp_k h (hp_c h 1) = 113 ∧ hp_n h (hp_c h 1) = 8 ∧ ∀ j, j < 8 → hp_L h (hp_c h 1) j = k_first.getD j 0) ∧
  (∀ i, i < 9 → hp_k h (hp_c h (i + 2)) = 111 ∧ hp_n h (hp_c h (i + 2)) = (k_bytes.getD i []).length ∧ ∀ j, j < (k_bytes.getD i []).length → hp_I h (hp_c h (i + 2)) j = (k_bytes.getD i []).getD j 0) ∧
  hp_k h (hp_c h 11) = 106 ∧ hp_n h (hp_c h 11) = 0 ∧ hp_t h = hp_z h + 601024 ∧ hp_s h = 0
def hk_I (s : State) (a j : Nat) : Int32 := match s.heap[a]? with
  | some ce => match ce.slots[j]? with
    | some (.int v) => v
    | _ => 0
  | none => 0
def hk_L (s : State) (a j : Nat) : Int64 := match s.heap[a]? with
  | some ce => match ce.slots[j]? with
    | some (.long v) => v
    | _ => 0
  | none => 0
def hk_n (s : State) (a : Nat) : Nat := match s.heap[a]? with
  | some ce => ce.slots.size % 4294967296
  | none => 0
def hk_k (b : Nat) (c : Nat → Nat) (a : Nat) : Nat := if a = b then 112 else if a = c 0 ∨ a = c 1 then 113 else if a = c 11 then 106 else if a = c 2 ∨ a = c 3 ∨ a = c 4 ∨ a = c 5 ∨ a = c 6 ∨ a = c 7 ∨ a = c 8 ∨ a = c 9 ∨ a = c 10 then 111 else 0
def hk_h (s : State) (b : Nat) (c : Nat → Nat) : AH := (hk_I s, hk_L s, fun _ _ => none, hk_k b c, hk_n s, s.heap.size, 0, s.heap.size + 601024, c)
def hk_A (s : State) : Nat → Prop := fun a => s.heap.size ≤ a
theorem hk_mod {z N : Nat} (hN : N < 2 ^ 31) (h : z.toInt32 = Int32.ofNat N) : z % 4294967296 = N := by
  have h1 : (Int32.ofNat z).toUInt32.toNat = (Int32.ofNat N).toUInt32.toNat := by rw [show Int32.ofNat z = z.toInt32 from rfl, h]
  have h2 : ∀ n : Nat, (Int32.ofNat n).toUInt32.toNat = n % 4294967296 := fun n => by
    show (BitVec.ofNat 32 n).toNat = n % 4294967296
    rw [BitVec.toNat_ofNat]
  rw [h2, h2] at h1
  omega
theorem hk_one {s : State} {c c' : Cell} {a : Nat} {t t' : FieldType} (h : s.heap[a]? = some c) (h' : s.heap[a]? = some c') (x : s.isArrayOf c t) (x' : s.isArrayOf c' t') : t = t' := by
  cases h.symm.trans h'
  obtain ⟨-, k, h1, e, h2⟩ := x
  obtain ⟨-, k', h3, e', h4⟩ := x'
  cases h1.symm.trans h3
  rw [h2] at h4
  cases h4
  rfl
theorem hk_ty {s : State} {A B : Nat → Prop} {a N M : Nat} {t t' : FieldType} {f g : Nat → Value} (h : va_T t a N f A s s.heap) (h' : va_T t' a M g B s s.heap) : t = t' := by
  obtain ⟨c, h1, h2, -⟩ := h
  obtain ⟨c', h3, h4, -⟩ := h'
  exact hk_one h1 h3 h2 h4
theorem hk_nT {s : State} {A : Nat → Prop} {a N : Nat} {t : FieldType} {f : Nat → Value} (hN : N < 2 ^ 31) (h : va_T t a N f A s s.heap) : hk_n s a = N := by
  obtain ⟨c, h1, -, -, -, h5, -⟩ := h
  unfold hk_n
  rw [h1]
  exact hk_mod hN h5
theorem hk_IT {s : State} {A : Nat → Prop} {a N : Nat} {t : FieldType} {f : Nat → Int32} (h : va_T t a N (fun j => .int (f j)) A s s.heap) {j : Nat} (hj : j < N) : hk_I s a j = f j := by
  obtain ⟨c, h1, -, -, -, -, h6, -⟩ := h
  unfold hk_I
  rw [h1]
  simp only [h6 j hj]
theorem hk_LT {s : State} {A : Nat → Prop} {a N : Nat} {t : FieldType} {f : Nat → Int64} (h : va_T t a N (fun j => .long (f j)) A s s.heap) {j : Nat} (hj : j < N) : hk_L s a j = f j := by
  obtain ⟨c, h1, -, -, -, -, h6, -⟩ := h
  unfold hk_L
  rw [h1]
  simp only [h6 j hj]

theorem hk_s0 {args : Array Value} {s : State} (hs : ∀ c ∈ flatC (Jvm.Cond.and given_1 narrow_1), c.before args s = true) : ∃ t : Nat, (Term.static "ChainJudge" "ROOTS" "[J").eval args s none [] s = some (.ref t) ∧ va_T .long t 80 (fun j => Value.long (k_roots.getD j 0)) (hk_A s) s s.heap :=
  va_Tof (f := fun j => .long (k_roots.getD j 0)) (by decide) (hs (.arrayOf (.static "ChainJudge" "ROOTS" "[J") .long) (by decide +kernel)) (va_eqt (hs (.eq (.length (.static "ChainJudge" "ROOTS" "[J")) (.int 80)) (by decide +kernel))) (fun j hj => va_eqtl (hs (.eq (.elem (.static "ChainJudge" "ROOTS" "[J") (.int (Int32.ofNat j))) (.long (k_roots.getD j 0))) ((by decide +kernel : ∀ j, j < 80 → Cond.eq (.elem (.static "ChainJudge" "ROOTS" "[J") (.int (Int32.ofNat j))) (.long (k_roots.getD j 0)) ∈ flatC (Jvm.Cond.and given_1 narrow_1)) j hj))) (fun a ha hA => absurd ha (Nat.not_lt.mpr hA))
theorem hk_s1 {args : Array Value} {s : State} (hs : ∀ c ∈ flatC (Jvm.Cond.and given_1 narrow_1), c.before args s = true) : ∃ t : Nat, (Term.static "ChainJudge" "FIRST" "[J").eval args s none [] s = some (.ref t) ∧ va_T .long t 8 (fun j => Value.long (k_first.getD j 0)) (hk_A s) s s.heap :=
  va_Tof (f := fun j => .long (k_first.getD j 0)) (by decide) (hs (.arrayOf (.static "ChainJudge" "FIRST" "[J") .long) (by decide +kernel)) (va_eqt (hs (.eq (.length (.static "ChainJudge" "FIRST" "[J")) (.int 8)) (by decide +kernel))) (fun j hj => va_eqtl (hs (.eq (.elem (.static "ChainJudge" "FIRST" "[J") (.int (Int32.ofNat j))) (.long (k_first.getD j 0))) ((by decide +kernel : ∀ j, j < 8 → Cond.eq (.elem (.static "ChainJudge" "FIRST" "[J") (.int (Int32.ofNat j))) (.long (k_first.getD j 0)) ∈ flatC (Jvm.Cond.and given_1 narrow_1)) j hj))) (fun a ha hA => absurd ha (Nat.not_lt.mpr hA))
theorem hk_s2 {args : Array Value} {s : State} (hs : ∀ c ∈ flatC (Jvm.Cond.and given_1 narrow_1), c.before args s = true) : ∃ t : Nat, (Term.static "ChainJudge" "AT_NAME" "[B").eval args s none [] s = some (.ref t) ∧ va_T .byte t 3 (fun j => Value.int ((k_bytes.getD 0 []).getD j 0)) (hk_A s) s s.heap :=
  va_Tof (f := fun j => .int ((k_bytes.getD 0 []).getD j 0)) (by decide) (hs (.arrayOf (.static "ChainJudge" "AT_NAME" "[B") .byte) (by decide +kernel)) (va_eqt (hs (.eq (.length (.static "ChainJudge" "AT_NAME" "[B")) (.int 3)) (by decide +kernel))) (fun j hj => va_eqt (hs (.eq (.elem (.static "ChainJudge" "AT_NAME" "[B") (.int (Int32.ofNat j))) (.int ((k_bytes.getD 0 []).getD j 0))) ((by decide +kernel : ∀ j, j < 3 → Cond.eq (.elem (.static "ChainJudge" "AT_NAME" "[B") (.int (Int32.ofNat j))) (.int ((k_bytes.getD 0 []).getD j 0)) ∈ flatC (Jvm.Cond.and given_1 narrow_1)) j hj))) (fun a ha hA => absurd ha (Nat.not_lt.mpr hA))
theorem hk_s3 {args : Array Value} {s : State} (hs : ∀ c ∈ flatC (Jvm.Cond.and given_1 narrow_1), c.before args s = true) : ∃ t : Nat, (Term.static "ChainJudge" "CONSTRAINTS" "[B").eval args s none [] s = some (.ref t) ∧ va_T .byte t 3 (fun j => Value.int ((k_bytes.getD 1 []).getD j 0)) (hk_A s) s s.heap :=
  va_Tof (f := fun j => .int ((k_bytes.getD 1 []).getD j 0)) (by decide) (hs (.arrayOf (.static "ChainJudge" "CONSTRAINTS" "[B") .byte) (by decide +kernel)) (va_eqt (hs (.eq (.length (.static "ChainJudge" "CONSTRAINTS" "[B")) (.int 3)) (by decide +kernel))) (fun j hj => va_eqt (hs (.eq (.elem (.static "ChainJudge" "CONSTRAINTS" "[B") (.int (Int32.ofNat j))) (.int ((k_bytes.getD 1 []).getD j 0))) ((by decide +kernel : ∀ j, j < 3 → Cond.eq (.elem (.static "ChainJudge" "CONSTRAINTS" "[B") (.int (Int32.ofNat j))) (.int ((k_bytes.getD 1 []).getD j 0)) ∈ flatC (Jvm.Cond.and given_1 narrow_1)) j hj))) (fun a ha hA => absurd ha (Nat.not_lt.mpr hA))
theorem hk_s4 {args : Array Value} {s : State} (hs : ∀ c ∈ flatC (Jvm.Cond.and given_1 narrow_1), c.before args s = true) : ∃ t : Nat, (Term.static "ChainJudge" "USAGE" "[B").eval args s none [] s = some (.ref t) ∧ va_T .byte t 3 (fun j => Value.int ((k_bytes.getD 2 []).getD j 0)) (hk_A s) s s.heap :=
  va_Tof (f := fun j => .int ((k_bytes.getD 2 []).getD j 0)) (by decide) (hs (.arrayOf (.static "ChainJudge" "USAGE" "[B") .byte) (by decide +kernel)) (va_eqt (hs (.eq (.length (.static "ChainJudge" "USAGE" "[B")) (.int 3)) (by decide +kernel))) (fun j hj => va_eqt (hs (.eq (.elem (.static "ChainJudge" "USAGE" "[B") (.int (Int32.ofNat j))) (.int ((k_bytes.getD 2 []).getD j 0))) ((by decide +kernel : ∀ j, j < 3 → Cond.eq (.elem (.static "ChainJudge" "USAGE" "[B") (.int (Int32.ofNat j))) (.int ((k_bytes.getD 2 []).getD j 0)) ∈ flatC (Jvm.Cond.and given_1 narrow_1)) j hj))) (fun a ha hA => absurd ha (Nat.not_lt.mpr hA))
theorem hk_s5 {args : Array Value} {s : State} (hs : ∀ c ∈ flatC (Jvm.Cond.and given_1 narrow_1), c.before args s = true) : ∃ t : Nat, (Term.static "ChainJudge" "HOSTS" "[B").eval args s none [] s = some (.ref t) ∧ va_T .byte t 3 (fun j => Value.int ((k_bytes.getD 3 []).getD j 0)) (hk_A s) s s.heap :=
  va_Tof (f := fun j => .int ((k_bytes.getD 3 []).getD j 0)) (by decide) (hs (.arrayOf (.static "ChainJudge" "HOSTS" "[B") .byte) (by decide +kernel)) (va_eqt (hs (.eq (.length (.static "ChainJudge" "HOSTS" "[B")) (.int 3)) (by decide +kernel))) (fun j hj => va_eqt (hs (.eq (.elem (.static "ChainJudge" "HOSTS" "[B") (.int (Int32.ofNat j))) (.int ((k_bytes.getD 3 []).getD j 0))) ((by decide +kernel : ∀ j, j < 3 → Cond.eq (.elem (.static "ChainJudge" "HOSTS" "[B") (.int (Int32.ofNat j))) (.int ((k_bytes.getD 3 []).getD j 0)) ∈ flatC (Jvm.Cond.and given_1 narrow_1)) j hj))) (fun a ha hA => absurd ha (Nat.not_lt.mpr hA))
theorem hk_s6 {args : Array Value} {s : State} (hs : ∀ c ∈ flatC (Jvm.Cond.and given_1 narrow_1), c.before args s = true) : ∃ t : Nat, (Term.static "ChainJudge" "PURPOSES" "[B").eval args s none [] s = some (.ref t) ∧ va_T .byte t 3 (fun j => Value.int ((k_bytes.getD 4 []).getD j 0)) (hk_A s) s s.heap :=
  va_Tof (f := fun j => .int ((k_bytes.getD 4 []).getD j 0)) (by decide) (hs (.arrayOf (.static "ChainJudge" "PURPOSES" "[B") .byte) (by decide +kernel)) (va_eqt (hs (.eq (.length (.static "ChainJudge" "PURPOSES" "[B")) (.int 3)) (by decide +kernel))) (fun j hj => va_eqt (hs (.eq (.elem (.static "ChainJudge" "PURPOSES" "[B") (.int (Int32.ofNat j))) (.int ((k_bytes.getD 4 []).getD j 0))) ((by decide +kernel : ∀ j, j < 3 → Cond.eq (.elem (.static "ChainJudge" "PURPOSES" "[B") (.int (Int32.ofNat j))) (.int ((k_bytes.getD 4 []).getD j 0)) ∈ flatC (Jvm.Cond.and given_1 narrow_1)) j hj))) (fun a ha hA => absurd ha (Nat.not_lt.mpr hA))
theorem hk_s7 {args : Array Value} {s : State} (hs : ∀ c ∈ flatC (Jvm.Cond.and given_1 narrow_1), c.before args s = true) : ∃ t : Nat, (Term.static "ChainJudge" "SERVER" "[B").eval args s none [] s = some (.ref t) ∧ va_T .byte t 8 (fun j => Value.int ((k_bytes.getD 5 []).getD j 0)) (hk_A s) s s.heap :=
  va_Tof (f := fun j => .int ((k_bytes.getD 5 []).getD j 0)) (by decide) (hs (.arrayOf (.static "ChainJudge" "SERVER" "[B") .byte) (by decide +kernel)) (va_eqt (hs (.eq (.length (.static "ChainJudge" "SERVER" "[B")) (.int 8)) (by decide +kernel))) (fun j hj => va_eqt (hs (.eq (.elem (.static "ChainJudge" "SERVER" "[B") (.int (Int32.ofNat j))) (.int ((k_bytes.getD 5 []).getD j 0))) ((by decide +kernel : ∀ j, j < 8 → Cond.eq (.elem (.static "ChainJudge" "SERVER" "[B") (.int (Int32.ofNat j))) (.int ((k_bytes.getD 5 []).getD j 0)) ∈ flatC (Jvm.Cond.and given_1 narrow_1)) j hj))) (fun a ha hA => absurd ha (Nat.not_lt.mpr hA))
theorem hk_s8 {args : Array Value} {s : State} (hs : ∀ c ∈ flatC (Jvm.Cond.and given_1 narrow_1), c.before args s = true) : ∃ t : Nat, (Term.static "ChainJudge" "CLIENT" "[B").eval args s none [] s = some (.ref t) ∧ va_T .byte t 8 (fun j => Value.int ((k_bytes.getD 6 []).getD j 0)) (hk_A s) s s.heap :=
  va_Tof (f := fun j => .int ((k_bytes.getD 6 []).getD j 0)) (by decide) (hs (.arrayOf (.static "ChainJudge" "CLIENT" "[B") .byte) (by decide +kernel)) (va_eqt (hs (.eq (.length (.static "ChainJudge" "CLIENT" "[B")) (.int 8)) (by decide +kernel))) (fun j hj => va_eqt (hs (.eq (.elem (.static "ChainJudge" "CLIENT" "[B") (.int (Int32.ofNat j))) (.int ((k_bytes.getD 6 []).getD j 0))) ((by decide +kernel : ∀ j, j < 8 → Cond.eq (.elem (.static "ChainJudge" "CLIENT" "[B") (.int (Int32.ofNat j))) (.int ((k_bytes.getD 6 []).getD j 0)) ∈ flatC (Jvm.Cond.and given_1 narrow_1)) j hj))) (fun a ha hA => absurd ha (Nat.not_lt.mpr hA))
theorem hk_s9 {args : Array Value} {s : State} (hs : ∀ c ∈ flatC (Jvm.Cond.and given_1 narrow_1), c.before args s = true) : ∃ t : Nat, (Term.static "ChainJudge" "UNKNOWN" "[B").eval args s none [] s = some (.ref t) ∧ va_T .byte t 9 (fun j => Value.int ((k_bytes.getD 7 []).getD j 0)) (hk_A s) s s.heap :=
  va_Tof (f := fun j => .int ((k_bytes.getD 7 []).getD j 0)) (by decide) (hs (.arrayOf (.static "ChainJudge" "UNKNOWN" "[B") .byte) (by decide +kernel)) (va_eqt (hs (.eq (.length (.static "ChainJudge" "UNKNOWN" "[B")) (.int 9)) (by decide +kernel))) (fun j hj => va_eqt (hs (.eq (.elem (.static "ChainJudge" "UNKNOWN" "[B") (.int (Int32.ofNat j))) (.int ((k_bytes.getD 7 []).getD j 0))) ((by decide +kernel : ∀ j, j < 9 → Cond.eq (.elem (.static "ChainJudge" "UNKNOWN" "[B") (.int (Int32.ofNat j))) (.int ((k_bytes.getD 7 []).getD j 0)) ∈ flatC (Jvm.Cond.and given_1 narrow_1)) j hj))) (fun a ha hA => absurd ha (Nat.not_lt.mpr hA))
theorem hk_s10 {args : Array Value} {s : State} (hs : ∀ c ∈ flatC (Jvm.Cond.and given_1 narrow_1), c.before args s = true) : ∃ t : Nat, (Term.static "ChainJudge" "KEYED" "[B").eval args s none [] s = some (.ref t) ∧ va_T .byte t 8 (fun j => Value.int ((k_bytes.getD 8 []).getD j 0)) (hk_A s) s s.heap :=
  va_Tof (f := fun j => .int ((k_bytes.getD 8 []).getD j 0)) (by decide) (hs (.arrayOf (.static "ChainJudge" "KEYED" "[B") .byte) (by decide +kernel)) (va_eqt (hs (.eq (.length (.static "ChainJudge" "KEYED" "[B")) (.int 8)) (by decide +kernel))) (fun j hj => va_eqt (hs (.eq (.elem (.static "ChainJudge" "KEYED" "[B") (.int (Int32.ofNat j))) (.int ((k_bytes.getD 8 []).getD j 0))) ((by decide +kernel : ∀ j, j < 8 → Cond.eq (.elem (.static "ChainJudge" "KEYED" "[B") (.int (Int32.ofNat j))) (.int ((k_bytes.getD 8 []).getD j 0)) ∈ flatC (Jvm.Cond.and given_1 narrow_1)) j hj))) (fun a ha hA => absurd ha (Nat.not_lt.mpr hA))
theorem hk_s11 {args : Array Value} {s : State} (hs : ∀ c ∈ flatC (Jvm.Cond.and given_1 narrow_1), c.before args s = true) : ∃ t : Nat, (Term.static "java/util/ArrayList" "DEFAULTCAPACITY_EMPTY_ELEMENTDATA" "[Ljava/lang/Object;").eval args s none [] s = some (.ref t) ∧ va_T (.object "java/lang/Object") t 0 (fun _ => .null) (hk_A s) s s.heap :=
  va_Tof (f := fun _ => .null) (by decide) (hs (.arrayOf (.static "java/util/ArrayList" "DEFAULTCAPACITY_EMPTY_ELEMENTDATA" "[Ljava/lang/Object;") (.object "java/lang/Object")) (by decide +kernel)) (va_eqt (hs (.eq (.length (.static "java/util/ArrayList" "DEFAULTCAPACITY_EMPTY_ELEMENTDATA" "[Ljava/lang/Object;")) (.int 0)) (by decide +kernel))) (fun j hj => absurd hj (Nat.not_lt_zero j)) (fun a ha hA => absurd ha (Nat.not_lt.mpr hA))
theorem hk_c0 {args : Array Value} {s : State} (hts : ∀ w ∈ tables_1, w.before args s = true) : ∃ q : ClassId × (Nat → Nat), ∀ r, fx_cl[0]? = some r → u_Kn s r.1 r.2.1 r.2.2 q.1 q.2 := by
  obtain ⟨cC, iS, h⟩ := u_known (n := 16) (C := "ChainJudge") (T := fx_T0) (N := (fx_cl[0]'(by decide)).2.2) hts (by decide +kernel) (hts _ (by decide +kernel))
  exact ⟨(cC, iS), fun r hr => by cases hr; exact h⟩
theorem hk_c1 {args : Array Value} {s : State} (hts : ∀ w ∈ tables_1, w.before args s = true) : ∃ q : ClassId × (Nat → Nat), ∀ r, fx_cl[1]? = some r → u_Kn s r.1 r.2.1 r.2.2 q.1 q.2 := by
  obtain ⟨cC, iS, h⟩ := u_known (n := 2) (C := "ChainJudge$Row") (T := fx_T1) (N := (fx_cl[1]'(by decide)).2.2) hts (by decide +kernel) (hts _ (by decide +kernel))
  exact ⟨(cC, iS), fun r hr => by cases hr; exact h⟩
theorem hk_c2 {args : Array Value} {s : State} (hts : ∀ w ∈ tables_1, w.before args s = true) : ∃ q : ClassId × (Nat → Nat), ∀ r, fx_cl[2]? = some r → u_Kn s r.1 r.2.1 r.2.2 q.1 q.2 := by
  obtain ⟨cC, iS, h⟩ := u_known (n := 2) (C := "ChainJudge$Held") (T := fx_T2) (N := (fx_cl[2]'(by decide)).2.2) hts (by decide +kernel) (hts _ (by decide +kernel))
  exact ⟨(cC, iS), fun r hr => by cases hr; exact h⟩
theorem hk_c3 {args : Array Value} {s : State} (hts : ∀ w ∈ tables_1, w.before args s = true) : ∃ q : ClassId × (Nat → Nat), ∀ r, fx_cl[3]? = some r → u_Kn s r.1 r.2.1 r.2.2 q.1 q.2 := by
  obtain ⟨cC, iS, h⟩ := u_known (n := 2) (C := "ChainJudge$KeyedMarks") (T := fx_T3) (N := (fx_cl[3]'(by decide)).2.2) hts (by decide +kernel) (hts _ (by decide +kernel))
  exact ⟨(cC, iS), fun r hr => by cases hr; exact h⟩
theorem hk_c4 {args : Array Value} {s : State} (hts : ∀ w ∈ tables_1, w.before args s = true) : ∃ q : ClassId × (Nat → Nat), ∀ r, fx_cl[4]? = some r → u_Kn s r.1 r.2.1 r.2.2 q.1 q.2 := by
  obtain ⟨cC, iS, h⟩ := u_known (n := 6) (C := "ChainJudge$Kdf") (T := fx_T4) (N := (fx_cl[4]'(by decide)).2.2) hts (by decide +kernel) (hts _ (by decide +kernel))
  exact ⟨(cC, iS), fun r hr => by cases hr; exact h⟩
theorem hk_c5 {args : Array Value} {s : State} (hts : ∀ w ∈ tables_1, w.before args s = true) : ∃ q : ClassId × (Nat → Nat), ∀ r, fx_cl[5]? = some r → u_Kn s r.1 r.2.1 r.2.2 q.1 q.2 := by
  obtain ⟨cC, iS, h⟩ := u_known (n := 8) (C := "ChainJudge$Sha256") (T := fx_T5) (N := (fx_cl[5]'(by decide)).2.2) hts (by decide +kernel) (hts _ (by decide +kernel))
  exact ⟨(cC, iS), fun r hr => by cases hr; exact h⟩
theorem hk_c6 {args : Array Value} {s : State} (hts : ∀ w ∈ tables_1, w.before args s = true) : ∃ q : ClassId × (Nat → Nat), ∀ r, fx_cl[6]? = some r → u_Kn s r.1 r.2.1 r.2.2 q.1 q.2 := by
  obtain ⟨cC, iS, h⟩ := u_known (n := 8) (C := "ChainJudge$Paths") (T := fx_T6) (N := (fx_cl[6]'(by decide)).2.2) hts (by decide +kernel) (hts _ (by decide +kernel))
  exact ⟨(cC, iS), fun r hr => by cases hr; exact h⟩
theorem hk_c7 {args : Array Value} {s : State} (hts : ∀ w ∈ tables_1, w.before args s = true) : ∃ q : ClassId × (Nat → Nat), ∀ r, fx_cl[7]? = some r → u_Kn s r.1 r.2.1 r.2.2 q.1 q.2 := by
  obtain ⟨cC, iS, h⟩ := u_known (n := 29) (C := "ChainJudge$Certificate") (T := fx_T7) (N := (fx_cl[7]'(by decide)).2.2) hts (by decide +kernel) (hts _ (by decide +kernel))
  exact ⟨(cC, iS), fun r hr => by cases hr; exact h⟩
theorem hk_c8 {args : Array Value} {s : State} (hts : ∀ w ∈ tables_1, w.before args s = true) : ∃ q : ClassId × (Nat → Nat), ∀ r, fx_cl[8]? = some r → u_Kn s r.1 r.2.1 r.2.2 q.1 q.2 := by
  obtain ⟨cC, iS, h⟩ := u_known (n := 2) (C := "ChainJudge$Reader") (T := fx_T8) (N := (fx_cl[8]'(by decide)).2.2) hts (by decide +kernel) (hts _ (by decide +kernel))
  exact ⟨(cC, iS), fun r hr => by cases hr; exact h⟩
theorem hk_c9 {args : Array Value} {s : State} (hts : ∀ w ∈ tables_1, w.before args s = true) : ∃ q : ClassId × (Nat → Nat), ∀ r, fx_cl[9]? = some r → u_Kn s r.1 r.2.1 r.2.2 q.1 q.2 := by
  obtain ⟨cC, iS, h⟩ := u_known (n := 2) (C := "ChainJudge$Issuer") (T := fx_T9) (N := (fx_cl[9]'(by decide)).2.2) hts (by decide +kernel) (hts _ (by decide +kernel))
  exact ⟨(cC, iS), fun r hr => by cases hr; exact h⟩
theorem hk_c10 {args : Array Value} {s : State} (hts : ∀ w ∈ tables_1, w.before args s = true) : ∃ q : ClassId × (Nat → Nat), ∀ r, fx_cl[10]? = some r → u_Kn s r.1 r.2.1 r.2.2 q.1 q.2 := by
  obtain ⟨cC, iS, h⟩ := u_known (n := 2) (C := "ChainJudge$Writer") (T := fx_T10) (N := (fx_cl[10]'(by decide)).2.2) hts (by decide +kernel) (hts _ (by decide +kernel))
  exact ⟨(cC, iS), fun r hr => by cases hr; exact h⟩
theorem hk_c11 {args : Array Value} {s : State} (hts : ∀ w ∈ tables_1, w.before args s = true) : ∃ q : ClassId × (Nat → Nat), ∀ r, fx_cl[11]? = some r → u_Kn s r.1 r.2.1 r.2.2 q.1 q.2 := by
  obtain ⟨cC, iS, h⟩ := u_known (n := 3) (C := "java/util/ArrayList") (T := fx_T11) (N := (fx_cl[11]'(by decide)).2.2) hts (by decide +kernel) (hts _ (by decide +kernel))
  exact ⟨(cC, iS), fun r hr => by cases hr; exact h⟩
theorem hk_c12 {args : Array Value} {s : State} (hts : ∀ w ∈ tables_1, w.before args s = true) : ∃ q : ClassId × (Nat → Nat), ∀ r, fx_cl[12]? = some r → u_Kn s r.1 r.2.1 r.2.2 q.1 q.2 := by
  obtain ⟨cC, iS, h⟩ := u_known (n := 57) (C := "ChainJudgeModel") (T := fx_T12) (N := (fx_cl[12]'(by decide)).2.2) hts (by decide +kernel) (hts _ (by decide +kernel))
  exact ⟨(cC, iS), fun r hr => by cases hr; exact h⟩
theorem hk_c13 {args : Array Value} {s : State} (hts : ∀ w ∈ tables_1, w.before args s = true) : ∃ q : ClassId × (Nat → Nat), ∀ r, fx_cl[13]? = some r → u_Kn s r.1 r.2.1 r.2.2 q.1 q.2 := by
  obtain ⟨cC, iS, h⟩ := u_known (n := 6) (C := "java/lang/IllegalArgumentException") (T := fx_T13) (N := (fx_cl[13]'(by decide)).2.2) hts (by decide +kernel) (hts _ (by decide +kernel))
  exact ⟨(cC, iS), fun r hr => by cases hr; exact h⟩
theorem hk_c14 {args : Array Value} {s : State} (hts : ∀ w ∈ tables_1, w.before args s = true) : ∃ q : ClassId × (Nat → Nat), ∀ r, fx_cl[14]? = some r → u_Kn s r.1 r.2.1 r.2.2 q.1 q.2 := by
  obtain ⟨cC, iS, h⟩ := u_known (n := 6) (C := "java/lang/IllegalStateException") (T := fx_T14) (N := (fx_cl[14]'(by decide)).2.2) hts (by decide +kernel) (hts _ (by decide +kernel))
  exact ⟨(cC, iS), fun r hr => by cases hr; exact h⟩
theorem hk_c15 {args : Array Value} {s : State} (hts : ∀ w ∈ tables_1, w.before args s = true) : ∃ q : ClassId × (Nat → Nat), ∀ r, fx_cl[15]? = some r → u_Kn s r.1 r.2.1 r.2.2 q.1 q.2 := by
  obtain ⟨cC, iS, h⟩ := u_known (n := 6) (C := "java/util/NoSuchElementException") (T := fx_T15) (N := (fx_cl[15]'(by decide)).2.2) hts (by decide +kernel) (hts _ (by decide +kernel))
  exact ⟨(cC, iS), fun r hr => by cases hr; exact h⟩
theorem hk_c16 {args : Array Value} {s : State} (hts : ∀ w ∈ tables_1, w.before args s = true) : ∃ q : ClassId × (Nat → Nat), ∀ r, fx_cl[16]? = some r → u_Kn s r.1 r.2.1 r.2.2 q.1 q.2 := by
  obtain ⟨cC, iS, h⟩ := u_known (n := 6) (C := "java/lang/UnsupportedOperationException") (T := fx_T16) (N := (fx_cl[16]'(by decide)).2.2) hts (by decide +kernel) (hts _ (by decide +kernel))
  exact ⟨(cC, iS), fun r hr => by cases hr; exact h⟩
theorem hk_c17 {args : Array Value} {s : State} (hts : ∀ w ∈ tables_1, w.before args s = true) : ∃ q : ClassId × (Nat → Nat), ∀ r, fx_cl[17]? = some r → u_Kn s r.1 r.2.1 r.2.2 q.1 q.2 := by
  obtain ⟨cC, iS, h⟩ := u_known (n := 6) (C := "java/lang/IndexOutOfBoundsException") (T := fx_T17) (N := (fx_cl[17]'(by decide)).2.2) hts (by decide +kernel) (hts _ (by decide +kernel))
  exact ⟨(cC, iS), fun r hr => by cases hr; exact h⟩
theorem hk_kn {args : Array Value} {s : State} (hts : ∀ w ∈ tables_1, w.before args s = true) : ∀ ci : Nat, ∃ q : ClassId × (Nat → Nat), ∀ r, fx_cl[ci]? = some r → u_Kn s r.1 r.2.1 r.2.2 q.1 q.2 := fun ci => match ci with
  | 0 => hk_c0 hts
  | 1 => hk_c1 hts
  | 2 => hk_c2 hts
  | 3 => hk_c3 hts
  | 4 => hk_c4 hts
  | 5 => hk_c5 hts
  | 6 => hk_c6 hts
  | 7 => hk_c7 hts
  | 8 => hk_c8 hts
  | 9 => hk_c9 hts
  | 10 => hk_c10 hts
  | 11 => hk_c11 hts
  | 12 => hk_c12 hts
  | 13 => hk_c13 hts
  | 14 => hk_c14 hts
  | 15 => hk_c15 hts
  | 16 => hk_c16 hts
  | 17 => hk_c17 hts
  | _ + 18 => ⟨(0, fun _ => 0), fun r hr => by cases hr⟩
