set_option maxRecDepth 10000
/-! the model's hash: roles 40 model, 52 work, 53 inner, 54 roots, 55 starts, 56 words, 57 state, 60 hashed -/
def MH (A : Nat → Nat) (h : AH) : Prop := hp_k h (A 40) = 13 ∧ hp_R h (A 40) 52 = some (A 56) ∧ hp_R h (A 40) 53 = some (A 57) ∧ hp_R h (A 40) 50 = some (A 54) ∧ hp_R h (A 40) 51 = some (A 55) ∧ hp_R h (A 40) 56 = some (A 60) ∧ hp_R h (A 40) 48 = some (A 52) ∧ hp_R h (A 40) 49 = some (A 53) ∧ (hp_k h (A 56) = 102 ∧ hp_n h (A 56) = 64) ∧ (hp_k h (A 57) = 102 ∧ hp_n h (A 57) = 8) ∧ (hp_k h (A 54) = 103 ∧ hp_n h (A 54) = 80) ∧ (hp_k h (A 55) = 103 ∧ hp_n h (A 55) = 8) ∧ (hp_k h (A 60) = 101 ∧ hp_n h (A 60) = 32) ∧ (hp_k h (A 52) = 101 ∧ hp_n h (A 52) = 262300) ∧ (hp_k h (A 53) = 101 ∧ hp_n h (A 53) = 32) ∧ (∀ k, k < 64 → (sh_lu (hp_L h (A 54) k) 32).toInt32 = hK k) ∧ (∀ k, k < 8 → (sh_lu (hp_L h (A 55) k) 32).toInt32 = hH k)
def SH (A : Nat → Nat) : Nat → Nat → Prop := Rl A (fun i => i = 52 ∨ i = 53 ∨ i = 56 ∨ i = 57 ∨ i = 60)
theorem MH.fm {A : Nat → Nat} {h h1 : AH} (M : MH A h) (a : AI A h) (x : fm (SH A) h h1) (r : fmR h h1) : MH A h1 := by
  obtain ⟨m1, m2, m3, m4, m5, m6, m7, m8, m9, m10, m11, m12, m13, m14, m15, m16, m17⟩ := M
  have n54 : ∀ j, ¬ SH A (A 54) j := fun j ⟨i, hi, e⟩ => a.ne (i := 54) (k := 102) m11.1 (by omega) e
  have n55 : ∀ j, ¬ SH A (A 55) j := fun j ⟨i, hi, e⟩ => a.ne (i := 55) (k := 102) m12.1 (by omega) e
  obtain ⟨x1, x2, x3, -⟩ := x
  unfold fmR at r
  exact ⟨by rw [x2]; exact m1, by rw [r]; exact m2, by rw [r]; exact m3, by rw [r]; exact m4, by rw [r]; exact m5, by rw [r]; exact m6, by rw [r]; exact m7, by rw [r]; exact m8, by rw [x2, x3]; exact m9, by rw [x2, x3]; exact m10, by rw [x2, x3]; exact m11, by rw [x2, x3]; exact m12, by rw [x2, x3]; exact m13, by rw [x2, x3]; exact m14, by rw [x2, x3]; exact m15, fun k hk => by rw [(x1 _ k (n54 k)).2.1]; exact m16 k hk, fun k hk => by rw [(x1 _ k (n55 k)).2.1]; exact m17 k hk⟩
theorem s_tr {Q : Int32 → AH → Prop} {x n : Int32} {h : AH} (k : Q (rr x n) h) (hn : ((32 : Int32) - n) &&& 31 = (-n) &&& 31 := by decide) : m_M_turned Q x n h := by
  unfold m_M_turned
  rw [hn]
  exact k
theorem s_over162 {Q : AH → Prop} {A : Nat → Nat} {h : AH} (M : MH A h) (kQ : ∀ h1, fm (fun a _ => a = A 57) h h1 → fmR h h1 → (∀ j, j < 8 → hp_I h1 (A 57) j = hp_I h (A 57) j + t8 (h_rnd (hp_I h (A 56)) 64 (h_8 (hp_I h (A 57)))) j) → Q h1) : m_M_over_162 Q (A 40) (hp_I h (A 57) 0) (hp_I h (A 57) 1) (hp_I h (A 57) 2) (hp_I h (A 57) 3) (hp_I h (A 57) 4) (hp_I h (A 57) 5) (hp_I h (A 57) 6) (hp_I h (A 57) 7) 0 h := by
  obtain ⟨m1, m2, m3, m4, m5, m6, m7, m8, m9, ⟨d7, d8⟩, m11, m12, m13, m14, m15, m16, m17⟩ := M
  have hin : ∀ n, n < 8 → vp_in (nI n) 8 := fun n hn => by rw [vp_iff (by omega)]; exact hn
  refine ⟨fun s => ∃ k, k ≤ 64 ∧ s.2.2.2.2.2.2.2.2 = (nI k, h) ∧ (s.1, s.2.1, s.2.2.1, s.2.2.2.1, s.2.2.2.2.1, s.2.2.2.2.2.1, s.2.2.2.2.2.2.1, s.2.2.2.2.2.2.2.1) = h_rnd (hp_I h (A 56)) k (h_8 (hp_I h (A 57))), fun s => 64 - s.2.2.2.2.2.2.2.2.1.toNatClampNeg, ⟨0, by decide, rfl, rfl⟩, ?_⟩
  rintro ⟨x3, x4, x5, x6, x7, x8, x9, x10, x11, s⟩ ⟨k, hk, hs, hr⟩
  simp only at hs hr ⊢
  cases hs
  unfold m_M_over_162_b
  rw [show (64 : Int32) = nI 64 from rfl, nI_leI (by omega) (by omega)]
  refine ⟨fun c => ?_, fun c => ?_⟩
  · have : k = 64 := by omega
    subst this
    refine ⟨m1, A 57, m3, Or.inl d7, by rw [d8]; exact hin 0 (by decide), d7, by rw [d8]; exact hin 0 (by decide), ?_⟩
    rintro _ rfl
    refine ⟨by rw [rnI, d8]; exact hin 1 (by decide), by rw [rnI, d8]; exact hin 1 (by decide), ?_⟩
    rintro _ rfl
    refine ⟨by rw [rnI, rnI, d8]; exact hin 2 (by decide), by rw [rnI, rnI, d8]; exact hin 2 (by decide), ?_⟩
    rintro _ rfl
    refine ⟨by simp only [rnI]; rw [d8]; exact hin 3 (by decide), by simp only [rnI]; rw [d8]; exact hin 3 (by decide), ?_⟩
    rintro _ rfl
    refine ⟨by simp only [rnI]; rw [d8]; exact hin 4 (by decide), by simp only [rnI]; rw [d8]; exact hin 4 (by decide), ?_⟩
    rintro _ rfl
    refine ⟨by simp only [rnI]; rw [d8]; exact hin 5 (by decide), by simp only [rnI]; rw [d8]; exact hin 5 (by decide), ?_⟩
    rintro _ rfl
    refine ⟨by simp only [rnI]; rw [d8]; exact hin 6 (by decide), by simp only [rnI]; rw [d8]; exact hin 6 (by decide), ?_⟩
    rintro _ rfl
    refine ⟨by simp only [rnI]; rw [d8]; exact hin 7 (by decide), by simp only [rnI]; rw [d8]; exact hin 7 (by decide), ?_⟩
    rintro _ rfl
    refine kQ _ ?_ rfl ?_
    · repeat refine fm.tr ?_ (fm.I rfl)
      exact fm.rf
    · rw [← hr]
      rw [show ((0 : Int32)).toNatClampNeg = 0 from rfl, show ((1 : Int32)).toNatClampNeg = 1 from rfl, show ((2 : Int32)).toNatClampNeg = 2 from rfl, show ((3 : Int32)).toNatClampNeg = 3 from rfl, show ((4 : Int32)).toNatClampNeg = 4 from rfl, show ((5 : Int32)).toNatClampNeg = 5 from rfl, show ((6 : Int32)).toNatClampNeg = 6 from rfl, show ((7 : Int32)).toNatClampNeg = 7 from rfl]
      intro j hj
      have : j = 0 ∨ j = 1 ∨ j = 2 ∨ j = 3 ∨ j = 4 ∨ j = 5 ∨ j = 6 ∨ j = 7 := by omega
      rcases this with rfl | rfl | rfl | rfl | rfl | rfl | rfl | rfl
      all_goals
        simp (disch := decide) only [rI1, rI3]
        rfl
  · refine s_tr (fun _ => s_tr (fun _ => s_tr (fun _ => ⟨m1, A 54, m4, Or.inl m11.1, ?_, A 56, m2, Or.inl m9.1, ?_, ?_⟩)))
    · rw [m11.2, vp_iff (by omega)]; omega
    · rw [m9.2, vp_iff (by omega)]; omega
    rw [nI_clamp (by omega), m16 k (by omega)]
    rintro _ rfl
    refine s_tr (fun _ => s_tr (fun _ => s_tr (fun _ => ?_)))
    rintro _ rfl _ rfl _ rfl _ rfl
    refine ⟨⟨k + 1, by omega, by simp only [nI_1], ?_⟩, ?_⟩
    · simp only [h_rnd]
      rw [← hr]
      rfl
    · simp (disch := omega) only [nI_1, nI_clamp]
      omega
theorem s_over {Q : AH → Prop} {A : Nat → Nat} {h : AH} {w : Nat → Int32} (M : MH A h) (a : AI A h) (hw : ∀ j, j < 16 → hp_I h (A 56) j = w j) (kQ : ∀ h1, fm (fun x _ => x = A 56 ∨ x = A 57) h h1 → fmR h h1 → (∀ j, j < 8 → hp_I h1 (A 57) j = h_cmp (hp_I h (A 57)) w j) → Q h1) : m_M_over Q (A 40) h := by
  have M0 := M
  obtain ⟨m1, m2, m3, m4, m5, m6, m7, m8, m9, m10, m11, m12, m13, m14, m15, m16, m17⟩ := M
  have n67 : A 57 ≠ A 56 := a.ne (i := 57) (k := 101) m10.1 (by decide)
  refine ⟨fun s => ∃ n, n ≤ 48 ∧ s.1 = nI (16 + n) ∧ fm (fun x _ => x = A 56) h s.2 ∧ fmR h s.2 ∧ hp_I s.2 (A 56) = h_sp n (hp_I h (A 56)), fun s => 64 - s.1.toNatClampNeg, ⟨0, by decide, rfl, fm.rf, rfl, rfl⟩, ?_⟩
  rintro ⟨v, s⟩ ⟨n, hn, hv, F, R, hs⟩
  simp only at hv F R hs ⊢
  subst hv
  have Ms : MH A s := M0.fm a (F.wk (fun x j e => ⟨56, by decide, e⟩)) R
  have Ms0 := Ms
  obtain ⟨q1, q2, q3, q4, q5, q6, q7, q8, q9, q10, q11, q12, q13, q14, q15, q16, q17⟩ := Ms
  unfold m_M_over_3_b
  rw [show (64 : Int32) = nI 64 from rfl, nI_leI (by omega) (by omega)]
  refine ⟨fun c => ⟨q1, A 57, q3, Or.inl q10.1, ?_⟩, fun c => ⟨q1, A 56, q2, Or.inl q9.1, ?_⟩⟩
  · have : n = 48 := by omega
    subst this
    have hin : ∀ n, n < 8 → vp_in (nI n) (hp_n s (A 57)) := fun n hn => by rw [q10.2, vp_iff (by omega)]; exact hn
    refine ⟨hin 0 (by decide), ?_⟩
    rintro _ rfl
    refine ⟨hin 1 (by decide), ?_⟩
    rintro _ rfl
    refine ⟨hin 2 (by decide), ?_⟩
    rintro _ rfl
    refine ⟨hin 3 (by decide), ?_⟩
    rintro _ rfl
    refine ⟨hin 4 (by decide), ?_⟩
    rintro _ rfl
    refine ⟨hin 5 (by decide), ?_⟩
    rintro _ rfl
    refine ⟨hin 6 (by decide), ?_⟩
    rintro _ rfl
    refine ⟨hin 7 (by decide), ?_⟩
    rintro _ rfl
    have hh : hp_I s (A 57) = hp_I h (A 57) := funext fun j => (F.1 _ j n67).1
    refine s_over162 Ms0 (fun h2 F2 R2 hv2 => kQ h2 ((F.wk (fun x j e => Or.inl e)).tr (F2.wk (fun x j e => Or.inr e))) (R2.trans R) (fun j hj => ?_))
    rw [hv2 j hj, hh]
    unfold h_cmp
    rw [hs, h_rnd_cg 64 (fun j hj => h_sp_cg hw 48 j (by omega))]
  · rw [q9.2, show (15 : Int32) = nI 15 from rfl, show (2 : Int32) = nI 2 from rfl, show (16 : Int32) = nI 16 from rfl, nI_sub (by omega), nI_sub (by omega), nI_sub (by omega), nI_clamp (by omega), nI_clamp (by omega), vp_iff (by omega), vp_iff (by omega), vp_iff (by omega), hs]
    refine ⟨by omega, ?_⟩
    rintro _ rfl
    refine ⟨by omega, ?_⟩
    rintro _ rfl
    refine ⟨by omega, s_tr (fun _ => s_tr (fun _ => ⟨A 56, q2, Or.inl q9.1, ?_⟩))⟩
    rw [q9.2, show (7 : Int32) = nI 7 from rfl, nI_sub (by omega), nI_clamp (by omega), nI_clamp (by omega), nI_clamp (by omega), vp_iff (by omega)]
    refine ⟨by omega, s_tr (fun _ => s_tr (fun _ => ⟨q9.1, by rw [q9.2, vp_iff (by omega)]; omega, ?_⟩))⟩
    rintro _ rfl _ rfl
    refine ⟨⟨n + 1, by omega, by simp only [nI_1]; congr 1, F.tr (fm.I rfl), R, ?_⟩, ?_⟩
    · simp only
      rw [up_row, hs]
      simp only [h_sp]
      rw [show 16 + n - 16 = n by omega, show 16 + n - 15 = n + 1 by omega, show 16 + n - 7 = n + 9 by omega, show 16 + n - 2 = n + 14 by omega]
      rfl
    · simp (disch := omega) only [nI_1, nI_clamp]
      omega
