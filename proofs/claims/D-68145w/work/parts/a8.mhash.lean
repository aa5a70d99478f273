set_option maxRecDepth 10000
theorem nI_and255 (v : Nat) : nI v &&& 255 = nI (v % 256) := by
  apply Int32.toBitVec_inj.mp
  show BitVec.ofNat 32 v &&& BitVec.ofNat 32 255 = BitVec.ofNat 32 (v % 256)
  apply BitVec.eq_of_toNat_eq
  simp only [BitVec.toNat_and, BitVec.toNat_ofNat]
  rw [show 255 % 2 ^ 32 = 2 ^ 8 - 1 from rfl, Nat.and_two_pow_sub_one_eq_mod]
  omega
theorem il_step2 : ∀ (v u : Nat), v < 2 ^ 24 → u < 256 → ((nI v <<< ((8 : Int32) &&& 31)) ||| nI u) = nI (v * 256 + u) := by
  intro v u hv hu
  apply Int32.toBitVec_inj.mp
  have e1 : (nI v <<< ((8 : Int32) &&& 31)).toBitVec = BitVec.ofNat 32 (v * 256) := by
    show (BitVec.ofNat 32 v) <<< _ = _
    apply BitVec.eq_of_toNat_eq
    simp [BitVec.toNat_shiftLeft, BitVec.toNat_ofNat, Nat.shiftLeft_eq]
  show (nI v <<< ((8 : Int32) &&& 31)).toBitVec ||| BitVec.ofNat 32 u = BitVec.ofNat 32 (v * 256 + u)
  rw [e1]
  apply BitVec.eq_of_toNat_eq
  simp only [BitVec.toNat_or, BitVec.toNat_ofNat]
  rw [Nat.mod_eq_of_lt (by omega), Nat.mod_eq_of_lt (by omega), Nat.mod_eq_of_lt (by omega)]
  have := Nat.shiftLeft_add_eq_or_of_lt (i := 8) (b := u) hu v
  rw [Nat.shiftLeft_eq] at this
  exact this.symm
theorem s_padded {Q : Int32 → AH → Prop} {h : AH} {r n i : Nat} {t : Nat → Nat} (hr : bk (hp_k h r)) (hrn : n ≤ hp_n h r) (hn : n < 2 ^ 28) (hi : i < h_all n) (ht : ∀ j, j < n → ub (hp_I h r j) = t j) (k : Q (nI (h_pd t n i)) h) : m_M_padded Q r (nI n) (nI i) (nI (h_all n)) h := by
  have hq2 : n + 9 ≤ h_all n ∧ h_all n ≤ n + 72 := by unfold h_all; omega
  unfold m_M_padded m_M_padded_54
  unfold h_pd at k
  simp (disch := omega) only [lit_nI, nI_leI, nI_eq, nI_sub, nI_mul, nI_clamp, vp_iff]
  refine ⟨fun c => ⟨fun c2 => ⟨fun c3 => ?_, fun c3 => ?_⟩, fun c2 => ?_⟩, fun c => ⟨hr, by omega, fun h8 => ?_⟩⟩
  · rw [if_neg (by omega), if_neg c2, if_neg (by omega)] at k
    rw [nI_l (by omega), show (8 : Int64) = lN 8 from rfl, lN_mul, lu_lN (by omega) (by omega), lN_i, show nI 255 = (255 : Int32) from rfl, nI_and255]
    exact k
  · rw [if_neg (by omega), if_neg c2, if_pos (by omega)] at k
    exact k
  · rw [if_neg (by omega), if_pos c2] at k
    exact k
  · rw [if_pos (by omega)] at k
    rw [show nI 255 = (255 : Int32) from rfl, by8_and h8, ht i (by omega)]
    exact k
def R3 (i : Nat) : Prop := i = 56 ∨ i = 57 ∨ i = 60
theorem R3_SH {A : Nat → Nat} : ∀ a j, Rl A R3 a j → SH A a j := fun a j ⟨i, hi, e⟩ => ⟨i, by unfold R3 at hi; omega, e⟩
theorem s_hash {Q : AH → Prop} {A : Nat → Nat} {h : AH} {r n : Nat} {t : Nat → Nat} (M : MH A h) (a : AI A h) (hr : bk (hp_k h r)) (hrn : n ≤ hp_n h r) (hn : n < 2 ^ 28) (hr2 : ∀ j, ¬ Rl A R3 r j) (htl : ∀ j, j < n → t j < 256) (ht : ∀ j, j < n → ub (hp_I h r j) = t j) (kQ : ∀ h1, fm (Rl A R3) h h1 → fmR h h1 → (∀ k, k < 32 → hp_I h1 (A 60) k = h_out t n k) → Q h1) : m_M_hash Q (A 40) r (nI n) h := by
  have hG : Gt (h_pd t n) := h_pd_lt htl
  have M0 := M
  have hq2 : n + 9 ≤ h_all n ∧ h_all n ≤ n + 72 := by unfold h_all; omega
  have hq : h_all n = 64 * (h_all n / 64) := by unfold h_all; omega
  unfold m_M_hash
  simp (disch := omega) only [lit_nI, nI_add, nI_mul]
  rw [nI_div (by omega) (by omega), nI_mul, show (n + 9 + 63) / 64 * 64 = h_all n from rfl]
  rintro _ rfl
  -- what is known in between
  have keep : ∀ s, fm (Rl A R3) h s → fmR h s → MH A s := fun s F R => M0.fm a (F.wk R3_SH) R
  have txt : ∀ s, fm (Rl A R3) h s → (bk (hp_k s r) ∧ n ≤ hp_n s r ∧ ∀ j, j < n → ub (hp_I s r j) = t j) := fun s F => ⟨by rw [F.2.1]; exact hr, by rw [F.2.2.1]; exact hrn, fun j hj => by rw [(F.1 r j (hr2 j)).1]; exact ht j hj⟩
  have n567 : A 57 ≠ A 56 := a.ne (i := 57) (k := 101) M.2.2.2.2.2.2.2.2.2.1.1 (by decide)
  -- the last loop
  have last : ∀ s, fm (Rl A R3) h s → fmR h s → (∀ j, j < 8 → hp_I s (A 57) j = h_state (h_pd t n) (h_all n / 64) j) → m_M_hash_143 Q (A 40) 0 s := fun s0 F0 R0 hst => by
    refine ⟨fun s => ∃ k, k ≤ 32 ∧ s.1 = nI k ∧ fm (Rl A R3) h s.2 ∧ fmR h s.2 ∧ (∀ j, j < 8 → hp_I s.2 (A 57) j = h_state (h_pd t n) (h_all n / 64) j) ∧ ∀ i, i < k → hp_I s.2 (A 60) i = h_out t n i, fun s => 32 - s.1.toNatClampNeg, ⟨0, by decide, rfl, F0, R0, hst, fun i hi => by omega⟩, ?_⟩
    rintro ⟨v, s⟩ ⟨k, hk, hv, F, R, hst, hs⟩
    simp only at hv F R hst hs ⊢
    subst hv
    obtain ⟨q1, q2, q3, q4, q5, q6, q7, q8, q9, q10, q11, q12, q13, q14, q15, q16, q17⟩ := keep s F R
    unfold m_M_hash_143_b
    rw [show (32 : Int32) = nI 32 from rfl, nI_leI (by omega) (by omega)]
    refine ⟨fun c => ?_, fun c => ⟨q1, A 60, q6, A 57, q3, Or.inl q10.1, ?_⟩⟩
    · have : k = 32 := by omega
      subst this
      exact kQ s F R hs
    rw [q10.2, q13.2, show (4 : Int32) = nI 4 from rfl, show (8 : Int32) = nI 8 from rfl, show (24 : Int32) = nI 24 from rfl, nI_div (by omega) (by omega), nI_mul, nI_sub (by omega), nI_mul, nI_sub (by omega), nI_clamp (by omega), nI_clamp (by omega), vp_iff (by omega), vp_iff (by omega)]
    refine ⟨by omega, q13.1, by omega, ?_⟩
    rintro _ rfl _ rfl
    have e : k - k / 4 * 4 = k % 4 := by omega
    have n7 : A 57 ≠ A 60 := (a.fm F).ne (i := 57) (k := 101) q10.1 (by decide)
    refine ⟨⟨k + 1, by omega, by simp only [nI_1], F.tr (fm.I ⟨60, by unfold R3; omega, rfl⟩), R, fun j hj => ?_, fun i hi => ?_⟩, ?_⟩
    · simp only
      rw [rI2 n7]; exact hst j hj
    · simp only
      by_cases hik : i = k
      · subst hik
        rw [rI1, by8_cut, e, hst _ (by omega)]
        rfl
      · rw [rI3 (by omega)]
        exact hs i (by omega)
    · simp (disch := omega) only [nI_1, nI_clamp]
      omega
  -- the blocks
  have blocks : ∀ s, fm (Rl A R3) h s → fmR h s → (∀ j, j < 8 → hp_I s (A 57) j = hH j) → m_M_hash_51 Q (A 40) r (nI n) (nI (h_all n)) 0 s := fun s0 F0 R0 hst0 => by
    refine ⟨fun s => ∃ b, b ≤ h_all n / 64 ∧ s.1 = nI (64 * b) ∧ fm (Rl A R3) h s.2 ∧ fmR h s.2 ∧ (∀ j, j < 8 → hp_I s.2 (A 57) j = h_state (h_pd t n) b j), fun s => h_all n - s.1.toNatClampNeg, ⟨0, by omega, rfl, F0, R0, hst0⟩, ?_⟩
    rintro ⟨v, s⟩ ⟨b, hb, hv, F, R, hst⟩
    simp only at hv F R hst ⊢
    subst hv
    unfold m_M_hash_51_b
    rw [nI_leI (by omega) (by omega)]
    refine ⟨fun c => last s F R ?_, fun c => ?_⟩
    · rw [show h_all n / 64 = b by omega]; exact hst
    refine ⟨fun s' => ∃ k, k ≤ 16 ∧ s'.1 = nI k ∧ fm (Rl A R3) h s'.2 ∧ fmR h s'.2 ∧ (∀ j, j < 8 → hp_I s'.2 (A 57) j = h_state (h_pd t n) b j) ∧ ∀ j, j < k → hp_I s'.2 (A 56) j = h_wd (h_pd t n) b j, fun s' => 16 - s'.1.toNatClampNeg, ⟨0, by decide, rfl, F, R, hst, fun j hj => by omega⟩, ?_⟩
    rintro ⟨v, s'⟩ ⟨k, hk, hv, F', R', hst', hw'⟩
    simp only at hv F' R' hst' hw' ⊢
    subst hv
    have Ms := keep s' F' R'
    have as := a.fm F'
    unfold m_M_hash_60_b
    rw [show (16 : Int32) = nI 16 from rfl, nI_leI (by omega) (by omega)]
    refine ⟨fun c2 => ⟨Ms.1, ?_⟩, fun c2 => ⟨Ms.1, A 56, Ms.2.1, Ms.2.2.2.2.2.2.2.2.1.1, by rw [Ms.2.2.2.2.2.2.2.2.1.2, vp_iff (by omega)]; omega, ?_⟩⟩
    · have : k = 16 := by omega
      subst this
      refine s_over Ms as hw' (fun h2 F2 R2 hv2 _ => ?_)
      rintro _ rfl
      refine ⟨⟨b + 1, by omega, ?_, F'.tr (F2.wk (fun x j e => by rcases e with e | e; exact ⟨56, Or.inl rfl, e⟩; exact ⟨57, Or.inr (Or.inl rfl), e⟩)), R2.trans R', fun j hj => ?_⟩, ?_⟩
      · simp only
        rw [show (64 : Int32) = nI 64 from rfl, nI_add]; congr 1
      · simp only
        rw [hv2 j hj]
        exact h_cmp_cg hst' (fun _ _ => rfl) j hj
      · simp only
        rw [show (64 : Int32) = nI 64 from rfl, nI_add, nI_clamp (by omega), nI_clamp (by omega)]
        omega
    rw [nI_clamp (by omega)]
    rintro h3 hh3
    have F3 : fm (Rl A R3) h h3 := by rw [hh3]; exact F'.tr (fm.I ⟨56, Or.inl rfl, rfl⟩)
    have R3' : fmR h h3 := by rw [hh3]; exact R'
    have st3 : ∀ j, j < 8 → hp_I h3 (A 57) j = h_state (h_pd t n) b j := fun j hj => by rw [hh3, rI2 n567]; exact hst' j hj
    have w3 : ∀ j, j < k → hp_I h3 (A 56) j = h_wd (h_pd t n) b j := fun j hj => by rw [hh3, rI3 (by omega)]; exact hw' j hj
    have k3 : hp_I h3 (A 56) k = nI 0 := by rw [hh3, rI1]; rfl
    clear hh3
    refine ⟨fun s'' => ∃ i, i ≤ 4 ∧ s''.1 = nI i ∧ fm (Rl A R3) h s''.2 ∧ fmR h s''.2 ∧ (∀ j, j < 8 → hp_I s''.2 (A 57) j = h_state (h_pd t n) b j) ∧ (∀ j, j < k → hp_I s''.2 (A 56) j = h_wd (h_pd t n) b j) ∧ hp_I s''.2 (A 56) k = nI (d_num (h_pd t n) (64 * b + 4 * k) i), fun s'' => 4 - s''.1.toNatClampNeg, ⟨0, by decide, rfl, F3, R3', st3, w3, k3⟩, ?_⟩
    rintro ⟨v, s''⟩ ⟨i, hi, hv, F4, R4, st4, w4, k4⟩
    simp only at hv F4 R4 st4 w4 k4 ⊢
    subst hv
    have M4 := keep s'' F4 R4
    unfold m_M_hash_78_b
    rw [show (4 : Int32) = nI 4 from rfl, nI_leI (by omega) (by omega)]
    refine ⟨fun c3 => ?_, fun c3 => ⟨M4.1, A 56, M4.2.1, Or.inl M4.2.2.2.2.2.2.2.2.1.1, by rw [M4.2.2.2.2.2.2.2.2.1.2, vp_iff (by omega)]; omega, ?_⟩⟩
    · have : i = 4 := by omega
      subst this
      rintro _ rfl
      refine ⟨⟨k + 1, by omega, by simp only [nI_1], F4, R4, st4, fun j hj => ?_⟩, ?_⟩
      · simp only
        by_cases hjk : j = k
        · rw [hjk]; exact k4
        · exact w4 j (by omega)
      · simp (disch := omega) only [nI_1, nI_clamp]
        omega
    · obtain ⟨t1, t2, t3⟩ := txt s'' F4
      rw [nI_mul, nI_add, nI_add]
      refine s_padded t1 t2 hn (by omega) t3 (fun _ => ⟨M4.2.2.2.2.2.2.2.2.1.1, by rw [M4.2.2.2.2.2.2.2.2.1.2, vp_iff (by omega)]; omega, ?_⟩)
      rw [nI_clamp (by omega), k4]
      have hd : d_num (h_pd t n) (64 * b + 4 * k) i < 256 ^ i := d_num_lt hG i
      have hp : 256 ^ i ≤ 256 ^ 3 := Nat.pow_le_pow_right (by decide) (by omega)
      rw [il_step2 _ _ (by omega) (hG _)]
      rintro _ rfl _ rfl
      refine ⟨⟨i + 1, by omega, by simp only [nI_1], F4.tr (fm.I ⟨56, Or.inl rfl, rfl⟩), R4, fun j hj => ?_, fun j hj => ?_, ?_⟩, ?_⟩
      · simp only
        rw [rI2 n567]; exact st4 j hj
      · simp only
        rw [rI3 (by omega)]; exact w4 j hj
      · simp only [rI1, d_num]
      · simp (disch := omega) only [nI_1, nI_clamp]
        omega
  refine ⟨fun s => ∃ k, k ≤ 8 ∧ s.1 = nI k ∧ fm (Rl A R3) h s.2 ∧ fmR h s.2 ∧ ∀ j, j < k → hp_I s.2 (A 57) j = hH j, fun s => 8 - s.1.toNatClampNeg, ⟨0, by decide, rfl, fm.rf, rfl, fun j hj => by omega⟩, ?_⟩
  rintro ⟨v, s⟩ ⟨k, hk, hv, F, R, hs⟩
  simp only at hv F R hs ⊢
  subst hv
  have Ms := keep s F R
  obtain ⟨q1, q2, q3, q4, q5, q6, q7, q8, q9, q10, q11, q12, q13, q14, q15, q16, q17⟩ := Ms
  unfold m_M_hash_17_b
  rw [show (8 : Int32) = nI 8 from rfl, nI_leI (by omega) (by omega)]
  refine ⟨fun c => ?_, fun c => ⟨q1, A 57, q3, A 55, q5, Or.inl q12.1, by rw [q12.2, vp_iff (by omega)]; omega, q10.1, by rw [q10.2, vp_iff (by omega)]; omega, ?_⟩⟩
  · have : k = 8 := by omega
    subst this
    exact blocks s F R hs
  rw [nI_clamp (by omega), q17 k (by omega)]
  rintro _ rfl _ rfl
  refine ⟨⟨k + 1, by omega, by simp only [nI_1], F.tr (fm.I ⟨57, by unfold R3; omega, rfl⟩), R, fun j hj => ?_⟩, ?_⟩
  · simp only
    by_cases hjk : j = k
    · rw [hjk, rI1]
    · rw [rI3 hjk]; exact hs j (by omega)
  · simp (disch := omega) only [nI_1, nI_clamp]
    omega
