set_option maxRecDepth 10000
theorem Sd_K1 {A : Nat → Nat} : ∀ a j, Sd (A 10) (A 11) (A 12) (A 13) a j → SK A a j := fun a j h => by
  rcases h with ⟨h, -⟩ | h | h | h
  · exact ⟨10, by omega, h⟩
  · exact ⟨11, by omega, h⟩
  · exact ⟨12, by omega, h⟩
  · exact ⟨13, by omega, h⟩
theorem Sd_K2 {A : Nat → Nat} : ∀ a j, Sd (A 14) (A 15) (A 16) (A 17) a j → SK A a j := fun a j h => by
  rcases h with ⟨h, -⟩ | h | h | h
  · exact ⟨14, by omega, h⟩
  · exact ⟨15, by omega, h⟩
  · exact ⟨16, by omega, h⟩
  · exact ⟨17, by omega, h⟩
theorem nSd {A : Nat → Nat} {h : AH} (a : AI A h) {i k i0 i1 i2 i3 : Nat} (hk : hp_k h (A i) = k + 1) (h0 : i ≠ i0) (h1 : i ≠ i1) (h2 : i ≠ i2) (h3 : i ≠ i3) : ∀ j, ¬ Sd (A i0) (A i1) (A i2) (A i3) (A i) j := fun j q => by
  rcases q with ⟨q, -⟩ | q | q | q
  · exact a.ne hk h0 q
  · exact a.ne hk h1 q
  · exact a.ne hk h2 q
  · exact a.ne hk h3 q
theorem nSd' {A : Nat → Nat} {h : AH} (a : AI A h) {i k i0 i1 i2 i3 j0 : Nat} (hk : hp_k h (A i) = k + 1) (h0 : i ≠ i0) (h1 : i ≠ i1) (h2 : i ≠ i2) (h3 : i ≠ i3) (h4 : i ≠ j0) {x y : Nat} : ∀ j, ¬ (Sd (A i0) (A i1) (A i2) (A i3) (A i) j ∨ (A i = A j0 ∧ x ≤ j ∧ j < y)) := fun j q => by
  rcases q with q | q
  · exact nSd a hk h0 h1 h2 h3 j q
  · exact a.ne hk h4 q.1
/-- behind the padded keys -/
def KB (A : Nat → Nat) (h : AH) (T1 T2 : Nat → Nat) (n : Nat) : Prop := KC A h ∧ DG h (A 10) (A 11) (A 12) T1 n ∧ hp_L h (A 10) 6 = lN n ∧ DG h (A 14) (A 15) (A 16) T2 n ∧ hp_L h (A 14) 6 = lN n
theorem KC.d1 {A : Nat → Nat} {h : AH} (k : KC A h) : DC h (A 10) (A 11) (A 12) (A 13) := k.2.2.2.2.2.2.2.2.2.2.2.2.2.2.2.1
theorem KC.d2 {A : Nat → Nat} {h : AH} (k : KC A h) : DC h (A 14) (A 15) (A 16) (A 17) := k.2.2.2.2.2.2.2.2.2.2.2.2.2.2.2.2
theorem DC.kg {h : AH} {d gb hb wb : Nat} (D : DC h d gb hb wb) : hp_k h gb = 101 ∧ hp_k h hb = 102 ∧ hp_k h wb = 102 := ⟨D.2.2.2.2.1, D.2.2.2.2.2.2.1, D.2.2.2.2.2.2.2.2.1⟩
/-- a step of the first digest alone -/
theorem KC.s1 {A : Nat → Nat} {h h1 : AH} (a : AI A h) (k : KC A h) (x : fm (Sd (A 10) (A 11) (A 12) (A 13)) h h1) (r : fmR h h1) : KC A h1 := k.off x r (nSd a (i := 9) (k := 4) k.2.2.2.2.2.1 (by decide) (by decide) (by decide) (by decide)) (k.d1.fm x r) (k.d2.off x r (nSd a (i := 14) (k := 5) k.d2.1 (by decide) (by decide) (by decide) (by decide)))
theorem KC.s2 {A : Nat → Nat} {h h1 : AH} (a : AI A h) (k : KC A h) (x : fm (Sd (A 14) (A 15) (A 16) (A 17)) h h1) (r : fmR h h1) : KC A h1 := k.off x r (nSd a (i := 9) (k := 4) k.2.2.2.2.2.1 (by decide) (by decide) (by decide) (by decide)) (k.d1.off x r (nSd a (i := 10) (k := 5) k.d1.1 (by decide) (by decide) (by decide) (by decide))) (k.d2.fm x r)
theorem KC.g1 {A : Nat → Nat} {h h1 : AH} {T : Nat → Nat} {n : Nat} (a : AI A h) (k : KC A h) (x : fm (Sd (A 14) (A 15) (A 16) (A 17)) h h1) (G : DG h (A 10) (A 11) (A 12) T n) (l : hp_L h (A 10) 6 = lN n) : DG h1 (A 10) (A 11) (A 12) T n ∧ hp_L h1 (A 10) 6 = lN n := ⟨G.off x (nSd a (i := 10) (k := 5) k.d1.1 (by decide) (by decide) (by decide) (by decide)) (nSd a (i := 11) (k := 100) k.d1.kg.1 (by decide) (by decide) (by decide) (by decide)) (nSd a (i := 12) (k := 101) k.d1.kg.2.1 (by decide) (by decide) (by decide) (by decide)), by rw [(x.1 _ 6 (nSd a (i := 10) (k := 5) k.d1.1 (by decide) (by decide) (by decide) (by decide) 6)).2.1]; exact l⟩
theorem KC.g2 {A : Nat → Nat} {h h1 : AH} {T : Nat → Nat} {n : Nat} (a : AI A h) (k : KC A h) (x : fm (Sd (A 10) (A 11) (A 12) (A 13)) h h1) (G : DG h (A 14) (A 15) (A 16) T n) (l : hp_L h (A 14) 6 = lN n) : DG h1 (A 14) (A 15) (A 16) T n ∧ hp_L h1 (A 14) 6 = lN n := ⟨G.off x (nSd a (i := 14) (k := 5) k.d2.1 (by decide) (by decide) (by decide) (by decide)) (nSd a (i := 15) (k := 100) k.d2.kg.1 (by decide) (by decide) (by decide) (by decide)) (nSd a (i := 16) (k := 101) k.d2.kg.2.1 (by decide) (by decide) (by decide) (by decide)), by rw [(x.1 _ 6 (nSd a (i := 14) (k := 5) k.d2.1 (by decide) (by decide) (by decide) (by decide) 6)).2.1]; exact l⟩
theorem CON.k {A : Nat → Nat} {h h1 : AH} (C : CON h) (k : KC A h) (x : fm (SK A) h h1) : CON h1 := C.fa x.fa (dz := 0) (ds := 0) (fun a j hk hs => by
  obtain ⟨i, ⟨h1, h2, h3⟩, rfl⟩ := hs
  obtain ⟨k1, k2, k3, k4, k5, k6, k7, k8, k9, k10, k11, k12, k13, k14, k15, k16, k17⟩ := k
  have e1 := k16.kg
  have e2 := k17.kg
  have e3 := k16.1
  have e4 := k17.1
  have : i = 10 ∨ i = 11 ∨ i = 12 ∨ i = 13 ∨ i = 14 ∨ i = 15 ∨ i = 16 ∨ i = 17 ∨ i = 18 ∨ i = 19 ∨ i = 21 := by omega
  rcases this with rfl | rfl | rfl | rfl | rfl | rfl | rfl | rfl | rfl | rfl | rfl <;> omega)
theorem s_kb77 {Q : AH → Prop} {A : Nat → Nat} {h : AH} {T1 T2 pb : Nat → Nat} (a : AI A h) (C : CON h) (B : KB A h T1 T2 0) (hG1 : Gt T1) (hG2 : Gt T2) (hp : ∀ j, j < 64 → ub (hp_I h (A 18) j) = pb j) (h1 : ∀ j, j < 64 → T1 j = pb j ^^^ 54) (h2 : ∀ j, j < 64 → T2 j = pb j ^^^ 92) (kQ : ∀ h1, fm (SK A) h h1 → fmR h h1 → KB A h1 T1 T2 64 → Q h1) : m_Kdf_begin_77 Q (A 9) 0 h := by
  refine ⟨fun s => ∃ k, k ≤ 64 ∧ s.1 = nI k ∧ fm (SK A) h s.2 ∧ fmR h s.2 ∧ KB A s.2 T1 T2 k ∧ hp_I s.2 (A 18) = hp_I h (A 18), fun s => 64 - s.1.toNatClampNeg, ⟨0, by decide, rfl, fm.rf, rfl, B, rfl⟩, ?_⟩
  rintro ⟨v, s⟩ ⟨k, hk, hv, F, R, B1, hs⟩
  simp only at hv F R B1 hs ⊢
  subst hv
  obtain ⟨K, G1, l1, G2, l2⟩ := B1
  have as := a.fm F
  have Cs := C.k B.1 F
  obtain ⟨k1, k2, k3, k4, k5, k6, k7, k8, k9, k10, k11, k12, k13, k14, k15, k16, k17⟩ := id K
  refine ⟨k6, A 18, k9, Or.inl k12, ?_⟩
  rw [k13, nI_leI (by omega) (by omega)]
  refine ⟨fun c => ?_, fun c => ⟨A 10, k7, by rw [vp_iff (by omega)]; omega, ?_⟩⟩
  · have : k = 64 := by omega
    subst this
    exact kQ s F R ⟨K, G1, l1, G2, l2⟩
  rw [nI_clamp (by omega), hs]
  intro h8
  have hpb := hp k (by omega)
  have e8 := by8_eq h8
  have l8 := by8_lt h8
  rw [hpb] at e8 l8
  refine ⟨k16.1, s_done k16 Cs hG1 l1 G1 ?_ (fun h3 F3 R3 G3 l3 _ => ?_)⟩
  · rw [e8, h1 k (by omega)]
    exact (x54 _ l8).1
  have K3 := K.s1 as F3 R3
  have as3 := as.fm F3
  have C3 := C.k B.1 (F.tr (F3.wk Sd_K1))
  obtain ⟨G2', l2'⟩ := K.g2 as F3 G2 l2
  have hs3 : hp_I h3 (A 18) = hp_I h (A 18) := by
    rw [← hs]
    exact funext fun j => (F3.1 _ j (nSd as (i := 18) (k := 100) k12 (by decide) (by decide) (by decide) (by decide) j)).1
  obtain ⟨q1, q2, q3, q4, q5, q6, q7, q8, q9, q10, q11, q12, q13, q14, q15, q16, q17⟩ := id K3
  refine ⟨A 14, q8, A 18, q9, Or.inl q12, by rw [q13, vp_iff (by omega)]; omega, ?_⟩
  rw [hs3]
  intro _
  refine ⟨q17.1, s_done q17 C3 hG2 l2' G2' ?_ (fun h4 F4 R4 G4 l4 _ => ?_)⟩
  · rw [e8, h2 k (by omega)]
    exact (x54 _ l8).2.2.1
  have K4 := K3.s2 as3 F4 R4
  obtain ⟨G1', l1'⟩ := K3.g1 as3 F4 G3 l3
  rintro _ rfl
  refine ⟨⟨k + 1, by omega, by simp only [nI_1], (F.tr (F3.wk Sd_K1)).tr (F4.wk Sd_K2), R4.trans (R3.trans R), ⟨K4, G1', l1', G4, l4⟩, ?_⟩, ?_⟩
  · simp only
    rw [← hs3]
    exact funext fun j => (F4.1 _ j (nSd as3 (i := 18) (k := 100) q12 (by decide) (by decide) (by decide) (by decide) j)).1
  · simp (disch := omega) only [nI_1, nI_clamp]
    omega
/-- begin, with a key of 32 bytes -/
theorem s_kbegin {Q : AH → Prop} {A : Nat → Nat} {h : AH} {T1 T2 kb : Nat → Nat} {r1 ka : Nat} (a : AI A h) (C : CON h) (K : KC A h) (hG1 : Gt T1) (hG2 : Gt T2) (hr1 : bk (hp_k h r1)) (hr2 : r1 ≠ A 18) (hr3 : ka + 32 ≤ hp_n h r1) (hka : ka < 2 ^ 30) (hkb : ∀ j, j < 32 → ub (hp_I h r1 (ka + j)) = kb j) (h1 : ∀ j, j < 64 → T1 j = (if j < 32 then kb j else 0) ^^^ 54) (h2 : ∀ j, j < 64 → T2 j = (if j < 32 then kb j else 0) ^^^ 92) (kQ : ∀ h1, fm (SK A) h h1 → fmR h h1 → KB A h1 T1 T2 64 → Q h1) : m_Kdf_begin Q (A 9) r1 (nI ka) (nI 32) h := by
  obtain ⟨k1, k2, k3, k4, k5, k6, k7, k8, k9, k10, k11, k12, k13, k14, k15, k16, k17⟩ := id K
  refine ⟨k6, A 18, k9, s_fill k12 k13 (by decide) (fun h3 F3 R3 hv3 _ => ?_)⟩
  have F3' : fm (SK A) h h3 := F3.wk (fun x j e => ⟨18, by decide, e⟩)
  have ne18 : ∀ i k, hp_k h (A i) = k + 1 → i ≠ 18 → ∀ j : Nat, ¬ ((fun x (_ : Nat) => x = A 18) (A i) j) := fun i k hk hi j q => a.ne hk hi q
  have K3 : KC A h3 := K.off F3 R3 (ne18 9 4 k6 (by decide)) (k16.off F3 R3 (ne18 10 5 k16.1 (by decide))) (k17.off F3 R3 (ne18 14 5 k17.1 (by decide)))
  have a3 := a.fm F3
  obtain ⟨q1, q2, q3, q4, q5, q6, q7, q8, q9, q10, q11, q12, q13, q14, q15, q16, q17⟩ := id K3
  refine ⟨A 18, q9, Or.inl q12, ?_⟩
  rw [q13, nI_leI (by decide) (by decide), F3.2.2.1]
  refine ⟨fun _ => ⟨by rw [F3.2.1]; exact hr1, q12, ?_⟩, fun c => absurd (by decide) c⟩
  simp (disch := omega) only [lit_nI, nI_ltI, nI_clamp]
  refine ⟨by omega, by omega, by omega, by omega, by omega, ?_⟩
  rintro h4 hh4
  have F4 : fm (fun x _ => x = A 18) h3 h4 := by rw [hh4]; exact fm.CI (fun _ _ _ => rfl)
  have R4 : fmR h3 h4 := by rw [hh4]; rfl
  have F4' : fm (SK A) h h4 := F3'.tr (F4.wk (fun x j e => ⟨18, by decide, e⟩))
  have ne18' : ∀ i k, hp_k h3 (A i) = k + 1 → i ≠ 18 → ∀ j : Nat, ¬ ((fun x (_ : Nat) => x = A 18) (A i) j) := fun i k hk hi j q => a3.ne hk hi q
  have K4 : KC A h4 := K3.off F4 R4 (ne18' 9 4 q6 (by decide)) (q16.off F4 R4 (ne18' 10 5 q16.1 (by decide))) (q17.off F4 R4 (ne18' 14 5 q17.1 (by decide)))
  have a4 := a3.fm F4
  have p4 : ∀ j, j < 64 → ub (hp_I h4 (A 18) j) = (if j < 32 then kb j else 0) := fun j hj => by
    rw [hh4]
    by_cases hj2 : j < 32
    · rw [rIC1 (by omega) (by omega), (F3.1 r1 _ hr2).1, if_pos hj2, Nat.sub_zero]
      exact hkb j hj2
    · rw [rIC3 (by omega), hv3 j hj, if_neg hj2]
      decide
  clear hh4
  have C4 := C.k K F4'
  obtain ⟨p1, p2, p3, -, -, p6, p7, p8, p9, p10, p11, p12, p13, p14, p15, p16, p17⟩ := id K4
  refine ⟨p6, A 10, p7, p16.1, s_dreset (T := T1) p16 C4 (fun h5 F5 R5 G5 l5 _ => ?_)⟩
  have K5 := K4.s1 a4 F5 R5
  have a5 := a4.fm F5
  have C5 := C.k K (F4'.tr (F5.wk Sd_K1))
  refine ⟨A 14, K5.2.2.2.2.2.2.2.1, K5.d2.1, s_dreset (T := T2) K5.d2 C5 (fun h6 F6 R6 G6 l6 _ => ?_)⟩
  have K6 := K5.s2 a5 F6 R6
  have a6 := a5.fm F6
  obtain ⟨G5', l5'⟩ := K5.g1 a5 F6 G5 l5
  have F6' := (F4'.tr (F5.wk Sd_K1)).tr (F6.wk Sd_K2)
  have s18 : ∀ j, hp_I h6 (A 18) j = hp_I h4 (A 18) j := fun j => by
    rw [(F6.1 _ j (nSd a5 (i := 18) (k := 100) K5.2.2.2.2.2.2.2.2.2.2.2.1 (by decide) (by decide) (by decide) (by decide) j)).1, (F5.1 _ j (nSd a4 (i := 18) (k := 100) p12 (by decide) (by decide) (by decide) (by decide) j)).1]
  exact s_kb77 a6 (C.k K F6') ⟨K6, G5', l5', G6, l6⟩ hG1 hG2 (fun j hj => by rw [s18]; exact p4 j hj) h1 h2 (fun h7 F7 R7 B7 => kQ h7 (F6'.tr F7) (R7.trans (R6.trans (R5.trans (R4.trans R3)))) B7)
theorem KC.at {A : Nat → Nat} {h h1 : AH} {i0 : Nat} (a : AI A h) (K : KC A h) (x : fm (fun x j => Sd (A 10) (A 11) (A 12) (A 13) x j ∨ (x = A i0 ∧ 0 ≤ j ∧ j < 0 + 32)) h h1) (r : fmR h h1) (h0 : 18 ≤ i0) : KC A h1 := by
  have n9 := nSd' a (i := 9) (k := 4) (i0 := 10) (i1 := 11) (i2 := 12) (i3 := 13) (j0 := i0) (x := 0) (y := 0 + 32) K.2.2.2.2.2.1 (by decide) (by decide) (by decide) (by decide) (by omega)
  have n14 := nSd' a (i := 14) (k := 5) (i0 := 10) (i1 := 11) (i2 := 12) (i3 := 13) (j0 := i0) (x := 0) (y := 0 + 32) K.d2.1 (by decide) (by decide) (by decide) (by decide) (by omega)
  refine K.off x r n9 ?_ (K.d2.off x r n14)
  obtain ⟨d1, d2, d3, d4, d5, d6, d7, d8, d9, d10, d11, d12, d13⟩ := K.d1
  obtain ⟨x1, x2, x3, -⟩ := x
  have nd : ∀ j, j < 5 → ¬ (Sd (A 10) (A 11) (A 12) (A 13) (A 10) j ∨ (A 10 = A i0 ∧ 0 ≤ j ∧ j < 0 + 32)) := fun j hj q => by
    rcases q with (q | q | q | q) | q
    · omega
    · exact a.ne (i := 10) (k := 5) d1 (by decide) q
    · exact a.ne (i := 10) (k := 5) d1 (by decide) q
    · exact a.ne (i := 10) (k := 5) d1 (by decide) q
    · exact a.ne (i := 10) (k := 5) d1 (by omega) q.1
  unfold fmR at r
  exact ⟨by rw [x2]; exact d1, by rw [r]; exact d2, by rw [r]; exact d3, by rw [r]; exact d4, by rw [x2]; exact d5, by rw [x3]; exact d6, by rw [x2]; exact d7, by rw [x3]; exact d8, by rw [x2]; exact d9, by rw [x3]; exact d10, d11, by rw [(x1 _ 3 (nd 3 (by decide))).1]; exact d12, by rw [(x1 _ 2 (nd 2 (by decide))).1]; exact d13⟩
