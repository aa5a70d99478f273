set_option maxRecDepth 10000
theorem SH_i {A : Nat → Nat} {i : Nat} (h : i = 52 ∨ i = 53 ∨ i = 56 ∨ i = 57 ∨ i = 60) : ∀ j, SH A (A i) j := fun _ => ⟨i, h, rfl⟩
theorem s_keyed {Q : AH → Prop} {A : Nat → Nat} {h : AH} {kb tb : Nat → Nat} {r1 ka r3 ta n : Nat} (a : AI A h) (M : MH A h) (hr1 : bk (hp_k h r1)) (hr2 : ∀ j, ¬ SH A r1 j) (hr3 : ka + 32 ≤ hp_n h r1) (hka : ka < 2 ^ 30) (hkb : ∀ j, j < 32 → ub (hp_I h r1 (ka + j)) = kb j) (hs1 : bk (hp_k h r3)) (hs2 : ∀ j, ¬ SH A r3 j) (hs3 : ta + n ≤ hp_n h r3) (hta : ta < 2 ^ 27) (hn : n ≤ 262144) (htb : ∀ j, j < n → ub (hp_I h r3 (ta + j)) = tb j) (kQ : ∀ h1, fm (SH A) h h1 → fmR h h1 → MH A h1 → (∀ k, k < 32 → hp_I h1 (A 60) k = h_mac kb tb n k) → Q h1) : m_M_keyed Q (A 40) r1 (nI ka) r3 (nI ta) (nI n) h := by
  have hkl : ∀ i, i < 32 → kb i < 256 := fun i hi => by rw [← hkb i hi]; exact ub_lt _
  have htl : ∀ i, i < n → tb i < 256 := fun i hi => by rw [← htb i hi]; exact ub_lt _
  have hil := h_ipad_lt hkl htl
  have hol : ∀ i, i < 64 + 32 → h_opad kb (fun i => ub (h_out (h_ipad kb tb) (64 + n) i)) i < 256 := h_opad_lt hkl (fun i _ => by8_lt h_out_by8)
  have keep : ∀ s, fm (SH A) h s → fmR h s → MH A s := fun s F R => M.fm a F R
  have n52 : ∀ i, i ≠ 52 → A 52 ≠ A i := fun i hi => a.ne (i := 52) (k := 100) M.2.2.2.2.2.2.2.2.2.2.2.2.2.1.1 (by omega)
  have n53 : ∀ i, i ≠ 53 → A 53 ≠ A i := fun i hi => a.ne (i := 53) (k := 100) M.2.2.2.2.2.2.2.2.2.2.2.2.2.2.1.1 (by omega)
  have n60 : ∀ i, i ≠ 60 → A 60 ≠ A i := fun i hi => a.ne (i := 60) (k := 100) M.2.2.2.2.2.2.2.2.2.2.2.2.1.1 (by omega)
  have w3 : ∀ j, ¬ Rl A R3 (A 52) j := fun j ⟨i, hi, e⟩ => n52 i (by unfold R3 at hi; omega) e
  have i3 : ∀ j, ¬ Rl A R3 (A 53) j := fun j ⟨i, hi, e⟩ => n53 i (by unfold R3 at hi; omega) e
  generalize hO : (fun i => ub (h_out (h_ipad kb tb) (64 + n) i)) = ob at hol
  -- the last hash
  have p5 : ∀ s, fm (SH A) h s → fmR h s → (∀ j, j < 64 → ub (hp_I s (A 52) j) = h_opad kb ob j) → (∀ k, k < 32 → hp_I s (A 53) k = h_out (h_ipad kb tb) (64 + n) k) → m_M_keyed_167 Q (A 40) 0 s := fun s0 F0 R0 hw0 hi0 => by
    refine ⟨fun s => ∃ k, k ≤ 32 ∧ s.1 = nI k ∧ fm (SH A) h s.2 ∧ fmR h s.2 ∧ (∀ j, j < 64 + k → ub (hp_I s.2 (A 52) j) = h_opad kb ob j) ∧ (∀ k, k < 32 → hp_I s.2 (A 53) k = h_out (h_ipad kb tb) (64 + n) k), fun s => 32 - s.1.toNatClampNeg, ⟨0, by decide, rfl, F0, R0, hw0, hi0⟩, ?_⟩
    rintro ⟨v, s⟩ ⟨k, hk, hv, F, R, hw, hi⟩
    simp only at hv F R hw hi ⊢
    subst hv
    have Ms := keep s F R
    have as := a.fm F
    obtain ⟨q1, q2, q3, q4, q5, q6, q7, q8, q9, q10, q11, q12, q13, q14, q15, q16, q17⟩ := id Ms
    unfold m_M_keyed_167_b
    rw [show (32 : Int32) = nI 32 from rfl, nI_leI (by omega) (by omega)]
    refine ⟨fun c => ⟨q1, A 52, q7, ?_⟩, fun c => ⟨q1, A 52, q7, A 53, q8, Or.inl q15.1, by rw [q15.2, vp_iff (by omega)]; omega, fun h8 => ⟨q14.1, ?_⟩⟩⟩
    · have : k = 32 := by omega
      subst this
      refine s_hash (n := 96) (t := h_opad kb ob) Ms as (Or.inl q14.1) (by rw [q14.2]; decide) (by decide) w3 hol (fun j hj => hw j hj) (fun h2 F2 R2 hv2 _ => kQ h2 (F.tr (F2.wk R3_SH)) (R2.trans R) (keep _ (F.tr (F2.wk R3_SH)) (R2.trans R)) (fun k hk => ?_))
      rw [hv2 k hk]
      unfold h_mac
      rw [hO]
    · rw [show (64 : Int32) = nI 64 from rfl, nI_add, nI_clamp (by omega), nI_clamp (by omega), q14.2, vp_iff (by omega)]
      refine ⟨by omega, ?_⟩
      rintro _ rfl _ rfl
      refine ⟨⟨k + 1, by omega, by simp only [nI_1], F.tr (fm.I (SH_i (by decide) _)), R, fun j hj => ?_, fun k' hk' => ?_⟩, ?_⟩
      · simp only
        by_cases hjk : j = 64 + k
        · rw [hjk, rI1, hi k (by omega), cut_id h_out_by8]
          unfold h_opad
          rw [if_neg (by omega), ← hO, show 64 + k - 64 = k by omega]
        · rw [rI3 hjk]; exact hw j (by omega)
      · simp only
        rw [rI2 (n52 53 (by decide)).symm]; exact hi k' hk'
      · simp (disch := omega) only [nI_1, nI_clamp]
        omega
  have p4 : ∀ s, fm (SH A) h s → fmR h s → (∀ k, k < 32 → hp_I s (A 53) k = h_out (h_ipad kb tb) (64 + n) k) → m_M_keyed_123 Q (A 40) r1 (nI ka) 0 s := fun s0 F0 R0 hi0 => by
    refine ⟨fun s => ∃ k, k ≤ 64 ∧ s.1 = nI k ∧ fm (SH A) h s.2 ∧ fmR h s.2 ∧ (∀ j, j < k → ub (hp_I s.2 (A 52) j) = h_opad kb ob j) ∧ (∀ k, k < 32 → hp_I s.2 (A 53) k = h_out (h_ipad kb tb) (64 + n) k), fun s => 64 - s.1.toNatClampNeg, ⟨0, by decide, rfl, F0, R0, fun j hj => by omega, hi0⟩, ?_⟩
    rintro ⟨v, s⟩ ⟨k, hk, hv, F, R, hw, hi⟩
    simp only at hv F R hw hi ⊢
    subst hv
    have Ms := keep s F R
    obtain ⟨q1, q2, q3, q4, q5, q6, q7, q8, q9, q10, q11, q12, q13, q14, q15, q16, q17⟩ := id Ms
    have put : ∀ x u, x = bI u → u < 256 → u = (if k < 32 then kb k else 0) → k < 64 → m_M_keyed_153 Q (fun s' => (∃ k, k ≤ 64 ∧ s'.1 = nI k ∧ fm (SH A) h s'.2 ∧ fmR h s'.2 ∧ (∀ j, j < k → ub (hp_I s'.2 (A 52) j) = h_opad kb ob j) ∧ (∀ k, k < 32 → hp_I s'.2 (A 53) k = h_out (h_ipad kb tb) (64 + n) k)) ∧ 64 - s'.1.toNatClampNeg < 64 - (nI k).toNatClampNeg) (A 40) r1 (nI ka) (nI k) (A 52) (nI k) x s := fun x u hx hu e hk64 => by
      refine ⟨q14.1, by rw [q14.2, vp_iff (by omega)]; omega, ?_⟩
      rw [nI_clamp (by omega)]
      rintro _ rfl _ rfl
      refine ⟨⟨k + 1, by omega, by simp only [nI_1], F.tr (fm.I (SH_i (by decide) _)), R, fun j hj => ?_, fun k' hk' => ?_⟩, ?_⟩
      · simp only
        by_cases hjk : j = k
        · rw [hjk, rI1, cut_id (by8_cut _), hx, (x54 u hu).2.2.1, e]
          unfold h_opad
          rw [if_pos hk64]
        · rw [rI3 hjk]; exact hw j (by omega)
      · simp only
        rw [rI2 (n52 53 (by decide)).symm]; exact hi k' hk'
      · simp (disch := omega) only [nI_1, nI_clamp]
        omega
    unfold m_M_keyed_123_b
    rw [show (64 : Int32) = nI 64 from rfl, nI_leI (by omega) (by omega), show (32 : Int32) = nI 32 from rfl, nI_leI (by omega) (by omega)]
    refine ⟨fun c => ?_, fun c => ⟨q1, A 52, q7, fun c2 => put _ 0 rfl (by decide) (by rw [if_neg (by omega)]) (by omega), fun c2 => ⟨by rw [F.2.1]; exact hr1, ?_⟩⟩⟩
    · have : k = 64 := by omega
      subst this
      exact p5 s F R hw hi
    · rw [nI_add, nI_clamp (by omega), vp_iff (by omega), F.2.2.1, (F.1 r1 _ (hr2 _)).1]
      have b2 := hkb k (by omega)
      refine ⟨by omega, fun b1 => put _ (kb k) ?_ (hkl k (by omega)) (by rw [if_pos (by omega)]) (by omega)⟩
      rw [← b2]
      exact by8_eq b1
  have p3 : ∀ s, fm (SH A) h s → fmR h s → (∀ k, k < 32 → hp_I s (A 60) k = h_out (h_ipad kb tb) (64 + n) k) → m_M_keyed_93 Q (A 40) r1 (nI ka) 0 s := fun s0 F0 R0 hi0 => by
    refine ⟨fun s => ∃ k, k ≤ 32 ∧ s.1 = nI k ∧ fm (SH A) h s.2 ∧ fmR h s.2 ∧ (∀ k, k < 32 → hp_I s.2 (A 60) k = h_out (h_ipad kb tb) (64 + n) k) ∧ (∀ j, j < k → hp_I s.2 (A 53) j = h_out (h_ipad kb tb) (64 + n) j), fun s => 32 - s.1.toNatClampNeg, ⟨0, by decide, rfl, F0, R0, hi0, fun j hj => by omega⟩, ?_⟩
    rintro ⟨v, s⟩ ⟨k, hk, hv, F, R, hw, hi⟩
    simp only at hv F R hw hi ⊢
    subst hv
    have Ms := keep s F R
    obtain ⟨q1, q2, q3, q4, q5, q6, q7, q8, q9, q10, q11, q12, q13, q14, q15, q16, q17⟩ := id Ms
    unfold m_M_keyed_93_b
    rw [show (32 : Int32) = nI 32 from rfl, nI_leI (by omega) (by omega)]
    refine ⟨fun c => ?_, fun c => ⟨q1, A 53, q8, A 60, q6, Or.inl q13.1, by rw [q13.2, vp_iff (by omega)]; omega, fun h8 => ⟨q15.1, by rw [q15.2, vp_iff (by omega)]; omega, ?_⟩⟩⟩
    · have : k = 32 := by omega
      subst this
      exact p4 s F R hi
    · rw [nI_clamp (by omega)]
      rintro _ rfl _ rfl
      refine ⟨⟨k + 1, by omega, by simp only [nI_1], F.tr (fm.I (SH_i (by decide) _)), R, fun k' hk' => ?_, fun j hj => ?_⟩, ?_⟩
      · simp only
        rw [rI2 (n53 60 (by decide)).symm]; exact hw k' hk'
      · simp only
        by_cases hjk : j = k
        · rw [hjk, rI1, hw k (by omega), cut_id h_out_by8]
        · rw [rI3 hjk]; exact hi j (by omega)
      · simp (disch := omega) only [nI_1, nI_clamp]
        omega
  have p2 : ∀ s, fm (SH A) h s → fmR h s → (∀ j, j < 64 → ub (hp_I s (A 52) j) = h_ipad kb tb j) → m_M_keyed_47 Q (A 40) r1 (nI ka) r3 (nI ta) (nI n) 0 s := fun s0 F0 R0 hw0 => by
    refine ⟨fun s => ∃ k, k ≤ n ∧ s.1 = nI k ∧ fm (SH A) h s.2 ∧ fmR h s.2 ∧ (∀ j, j < 64 + k → ub (hp_I s.2 (A 52) j) = h_ipad kb tb j), fun s => n - s.1.toNatClampNeg, ⟨0, by omega, rfl, F0, R0, hw0⟩, ?_⟩
    rintro ⟨v, s⟩ ⟨k, hk, hv, F, R, hw⟩
    simp only at hv F R hw ⊢
    subst hv
    have Ms := keep s F R
    have as := a.fm F
    obtain ⟨q1, q2, q3, q4, q5, q6, q7, q8, q9, q10, q11, q12, q13, q14, q15, q16, q17⟩ := id Ms
    unfold m_M_keyed_47_b
    rw [nI_leI (by omega) (by omega), show (64 : Int32) = nI 64 from rfl, nI_add, nI_add, nI_add, nI_clamp (by omega), nI_clamp (by omega)]
    refine ⟨fun c => ⟨q1, A 52, q7, ?_⟩, fun c => ⟨q1, A 52, q7, by rw [F.2.1]; exact hs1, by rw [F.2.2.1, vp_iff (by omega)]; omega, fun h8 => ⟨q14.1, by rw [q14.2, vp_iff (by omega)]; omega, ?_⟩⟩⟩
    · have : k = n := by omega
      subst this
      exact s_hash (t := h_ipad kb tb) Ms as (Or.inl q14.1) (by rw [q14.2]; omega) (by omega) w3 hil (fun j hj => hw j hj) (fun h2 F2 R2 hv2 _ => p3 h2 (F.tr (F2.wk R3_SH)) (R2.trans R) hv2)
    · have b2 := htb k (by omega)
      rw [(F.1 r3 _ (hs2 _)).1] at h8 ⊢
      rw [cut_id h8]
      rintro _ rfl _ rfl
      refine ⟨⟨k + 1, by omega, by simp only [nI_1], F.tr (fm.I (SH_i (by decide) _)), R, fun j hj => ?_⟩, ?_⟩
      · simp only
        by_cases hjk : j = 64 + k
        · rw [hjk, rI1, b2]
          unfold h_ipad
          rw [if_neg (by omega), show 64 + k - 64 = k by omega]
        · rw [rI3 hjk]; exact hw j (by omega)
      · simp (disch := omega) only [nI_1, nI_clamp]
        omega
  refine ⟨fun s => ∃ k, k ≤ 64 ∧ s.1 = nI k ∧ fm (SH A) h s.2 ∧ fmR h s.2 ∧ (∀ j, j < k → ub (hp_I s.2 (A 52) j) = h_ipad kb tb j), fun s => 64 - s.1.toNatClampNeg, ⟨0, by decide, rfl, fm.rf, rfl, fun j hj => by omega⟩, ?_⟩
  rintro ⟨v, s⟩ ⟨k, hk, hv, F, R, hw⟩
  simp only at hv F R hw ⊢
  subst hv
  have Ms := keep s F R
  obtain ⟨q1, q2, q3, q4, q5, q6, q7, q8, q9, q10, q11, q12, q13, q14, q15, q16, q17⟩ := id Ms
  have put : ∀ x u, x = bI u → u < 256 → u = (if k < 32 then kb k else 0) → k < 64 → m_M_keyed_33 Q (fun s' => (∃ k, k ≤ 64 ∧ s'.1 = nI k ∧ fm (SH A) h s'.2 ∧ fmR h s'.2 ∧ (∀ j, j < k → ub (hp_I s'.2 (A 52) j) = h_ipad kb tb j)) ∧ 64 - s'.1.toNatClampNeg < 64 - (nI k).toNatClampNeg) (A 40) r1 (nI ka) r3 (nI ta) (nI n) (nI k) (A 52) (nI k) x s := fun x u hx hu e hk64 => by
    refine ⟨q14.1, by rw [q14.2, vp_iff (by omega)]; omega, ?_⟩
    rw [nI_clamp (by omega)]
    rintro _ rfl _ rfl
    refine ⟨⟨k + 1, by omega, by simp only [nI_1], F.tr (fm.I (SH_i (by decide) _)), R, fun j hj => ?_⟩, ?_⟩
    · simp only
      by_cases hjk : j = k
      · rw [hjk, rI1, cut_id (by8_cut _), hx, (x54 u hu).1, e]
        unfold h_ipad
        rw [if_pos hk64]
      · rw [rI3 hjk]; exact hw j (by omega)
    · simp (disch := omega) only [nI_1, nI_clamp]
      omega
  unfold m_M_keyed_3_b
  rw [show (64 : Int32) = nI 64 from rfl, nI_leI (by omega) (by omega), show (32 : Int32) = nI 32 from rfl, nI_leI (by omega) (by omega)]
  refine ⟨fun c => ?_, fun c => ⟨q1, A 52, q7, fun c2 => put _ 0 rfl (by decide) (by rw [if_neg (by omega)]) (by omega), fun c2 => ⟨by rw [F.2.1]; exact hr1, ?_⟩⟩⟩
  · have : k = 64 := by omega
    subst this
    exact p2 s F R hw
  · rw [nI_add, nI_clamp (by omega), vp_iff (by omega), F.2.2.1, (F.1 r1 _ (hr2 _)).1]
    have b2 := hkb k (by omega)
    refine ⟨by omega, fun b1 => put _ (kb k) ?_ (hkl k (by omega)) (by rw [if_pos (by omega)]) (by omega)⟩
    rw [← b2]
    exact by8_eq b1
