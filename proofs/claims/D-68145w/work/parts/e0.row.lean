set_option maxRecDepth 10000
/-! bytes of an int -/
def fb (x : Int32) (k : Nat) : Nat := x.toBitVec.toNat / 2 ^ (24 - 8 * k) % 256
theorem nI_bv (x : Int32) : nI x.toBitVec.toNat = x := by
  apply Int32.toBitVec_inj.mp
  show BitVec.ofNat 32 x.toBitVec.toNat = x.toBitVec
  rw [BitVec.ofNat_toNat, BitVec.setWidth_eq]
theorem ub_cutN (x : Int32) : ub x.toInt8.toInt32 = x.toBitVec.toNat % 256 := by
  have := cut_nI x.toBitVec.toNat
  rw [nI_bv] at this
  exact this
theorem fb_iu (x : Int32) (k : Nat) (hk : k < 4) : ub (sh_iu x (nI (24 - 8 * k))).toInt8.toInt32 = fb x k := by
  have h := iu_nI (N := x.toBitVec.toNat) (s := 24 - 8 * k) x.toBitVec.isLt (by omega)
  rw [nI_bv] at h
  rw [h, cut_nI]
  rfl
theorem fb_sr (x : Int32) (k : Nat) (hk : k < 4) : ub (x >>> (nI (24 - 8 * k) &&& 31)).toInt8.toInt32 = fb x k := by
  rw [ub_cutN]
  unfold fb
  have e : ∀ i, i < 32 → ((nI i &&& 31).toBitVec.smod 32).toNat = i := by decide +kernel
  have e2 : (x >>> (nI (24 - 8 * k) &&& 31)).toBitVec = x.toBitVec.sshiftRight (24 - 8 * k) := by
    show x.toBitVec.sshiftRight' ((nI (24 - 8 * k) &&& 31).toBitVec.smod 32) = _
    rw [BitVec.sshiftRight', e _ (by omega)]
  rw [e2]
  have hx := x.toBitVec.isLt
  rw [BitVec.sshiftRight_eq, BitVec.toNat_ofInt, BitVec.toInt_eq_toNat_cond, Int.shiftRight_eq_div_pow]
  generalize x.toBitVec.toNat = v at *
  have hk' : k = 0 ∨ k = 1 ∨ k = 2 ∨ k = 3 := by omega
  rcases hk' with rfl | rfl | rfl | rfl <;> (simp only [Nat.reduceMul, Nat.reduceSub, Nat.reducePow]; split <;> omega)
/-! the component's row of bytes: cell t, first bytes b0 (N0 of them) -/
def RS (h0 h : AH) (t b0 N0 N n : Nat) (g : Nat → Nat) : Prop := fa (Sw (hp_z h0) t b0) ((N - N0) / 256) (2 * (N - N0)) h0 h ∧ N0 ≤ N ∧ N ≤ 40000 ∧ 256 ≤ N0 ∧ hp_k h0 t = 2 ∧ hp_k h0 b0 = 101 ∧ ∃ b, hp_R h t 0 = some b ∧ (b = b0 ∨ hp_z h0 ≤ b) ∧ b < hp_z h ∧ hp_k h b = 101 ∧ hp_n h b = N ∧ hp_I h t 1 = nI n ∧ n ≤ N ∧ ∀ j, j < n → ub (hp_I h b j) = g j
theorem RS.k {h0 h : AH} {t b0 N0 N n : Nat} {g : Nat → Nat} (W : RS h0 h t b0 N0 N n g) : hp_k h t = 2 := W.1.k (i := 1) W.2.2.2.2.1
theorem s_rroom {Q : AH → Prop} {h0 h : AH} {t b0 N0 N n : Nat} {g : Nat → Nat} (r : rm h0 200 100000) (W : RS h0 h t b0 N0 N n g) (hl : n < 20000) (k : ∀ h1 N', RS h0 h1 t b0 N0 N' n g → n + 1 ≤ N' → Q h1) : m_Row_room Q t 1 h := by
  have hk := W.k
  have W0 := W
  obtain ⟨w1, w2, w3, w4, w5, w6, b, b1, b2, bz0, b3, b4, b5, b6, b7⟩ := W
  have hbt : b ≠ t := k_ne b3 hk (by decide)
  refine ⟨hk, b, b1, Or.inl b3, ?_⟩
  rw [b5, b4, nI_1, nI_ltI (by omega) (by omega)]
  refine ⟨fun c => ?_, fun c => k h N W0 (by omega)⟩
  have hn : n = N := by omega
  subst hn
  rw [show (2 : Int32) = nI 2 from rfl, nI_mul]
  unfold m_Math_max m_Math_max_10
  rw [nI_ltI (by omega) (by omega)]
  refine ⟨fun c2 => by omega, fun _ _ => ?_⟩
  have r1 : rm h 1 50000 := r.fa w1 (by omega) (by omega)
  rw [nI_clamp (by omega), show (0 : Int32) = nI 0 from rfl, nI_ltI (by omega) (by omega), nI_clamp (by omega)]
  refine ⟨by omega, by omega, ⟨r1.1, by have := r1.2; omega⟩, ?_⟩
  rintro wf q rfl h1 hh1
  have hz : hp_z h0 ≤ hp_z h := w1.2.2.1
  have bz : b ≠ hp_z h := w_ne wf b3
  have tz : t ≠ hp_z h := w_ne wf hk
  have R1 : hp_R h1 t 0 = some b := by rw [hh1, rRN2 tz]; exact b1
  have kb1 : hp_k h1 b = 101 := by rw [hh1, rkN2 bz]; exact b3
  have nb1 : hp_n h1 b = n := by rw [hh1, rnN2 bz]; exact b4
  have i1 : hp_I h1 t 1 = nI n := by rw [hh1, rIN2 tz]; exact b5
  have nq : hp_n h1 (hp_z h) = 2 * n := by rw [hh1, rnN1]
  have kq : hp_k h1 (hp_z h) = 101 := by rw [hh1, rkN1]
  refine ⟨b, R1, Or.inl kb1, ?_⟩
  rw [nq, nb1, i1, nI_clamp (by omega), nI_ltI (by omega) (by omega), nI_ltI (by omega) (by omega)]
  refine ⟨by omega, by omega, by omega, by omega, by omega, ?_⟩
  rintro h2 hh2 h3 hh3
  have f1 : fa (Sw (hp_z h0) t b0) 1 (2 * n) h h1 := by rw [hh1]; exact fa.N wf
  have f2 : fa (Sw (hp_z h0) t b0) 0 0 h1 h3 := by
    rw [hh3, hh2]
    exact ((fm.CI (fun j _ _ => Or.inr (Or.inr hz))).tr (fm.R (Or.inl rfl))).fa
  have z3 : hp_z h3 = hp_z h + 1 := by rw [hh3, hh2, hh1]; rfl
  refine k h3 (2 * n) ⟨w1.tr (f1.tr f2 (DZ := 1) (DS := 2 * n) (by omega) (by omega)) (by omega) (by omega), by omega, by omega, w4, w5, w6, hp_z h, ?_, Or.inr hz, by omega, ?_, ?_, ?_, by omega, fun j hj => ?_⟩ (by omega)
  · rw [hh3, rR1]
  · rw [hh3, hh2]; exact kq
  · rw [hh3, hh2]; exact nq
  · rw [hh3, rIR, hh2, rIC2 tz, i1]
  · rw [hh3, rIR, hh2, rIC1 (by omega) (by omega), hh1, rIN2 bz, Nat.sub_zero, Nat.zero_add]
    exact b7 j hj
theorem s_rput {Q : AH → Prop} {h0 h : AH} {t b0 N0 N n u : Nat} {v : Int32} {g : Nat → Nat} (r : rm h0 200 100000) (W : RS h0 h t b0 N0 N n g) (hl : n < 20000) (hv : ub v.toInt8.toInt32 = u) (k : ∀ h1 N', RS h0 h1 t b0 N0 N' (n + 1) (upN g n u) → Q h1) : m_Row_put_I Q t v h := by
  refine ⟨W.k, s_rroom r W hl (fun h1 N1 W1 hN _ => ?_)⟩
  have hk := W1.k
  obtain ⟨w1, w2, w3, w4, w5, w6, b, b1, b2, bz0, b3, b4, b5, b6, b7⟩ := W1
  have hbt : b ≠ t := k_ne b3 hk (by decide)
  refine ⟨b, b1, ?_⟩
  rw [b5, nI_1, nI_clamp (by omega)]
  rintro _ rfl
  refine ⟨b3, by rw [rnI, b4, vp_iff (by omega)]; omega, ?_⟩
  rintro _ rfl
  have Sb : ∀ j, Sw (hp_z h0) t b0 b j := fun j => by rcases b2 with rfl | b2; exact Or.inr (Or.inl rfl); exact Or.inr (Or.inr b2)
  refine k _ N1 ⟨w1.tr (((fm.I (Or.inl rfl)).tr (fm.I (Sb _))).fa (dz := 0) (ds := 0)) (by omega) (by omega), w2, w3, w4, w5, w6, b, b1, b2, bz0, b3, b4, ?_, by omega, fun j hj => ?_⟩
  · rw [rI2 hbt.symm, rI1]
  · unfold upN
    by_cases hjn : j = n
    · rw [if_pos hjn, hjn, rI1, by8_cut]; exact hv
    · rw [if_neg hjn, rI3 hjn, rI2 hbt]
      exact b7 j (by omega)
/-- four bytes of an int behind the n-th -/
def up4 (g : Nat → Nat) (n : Nat) (x : Int32) : Nat → Nat := fun j => if n ≤ j ∧ j < n + 4 then fb x (j - n) else g j
theorem s_rfour {Q : AH → Prop} {h0 h : AH} {t b0 N0 N n : Nat} {x : Int32} {g : Nat → Nat} (r : rm h0 200 100000) (W : RS h0 h t b0 N0 N n g) (hl : n < 19000) (k : ∀ h1 N', RS h0 h1 t b0 N0 N' (n + 4) (up4 g n x) → Q h1) : m_Row_four Q t x h := by
  refine ⟨fun s => ∃ i N2 g2, i ≤ 4 ∧ s.1 = nI 24 - nI (8 * i) ∧ RS h0 s.2 t b0 N0 N2 (n + i) g2 ∧ (∀ j, j < n + i → g2 j = up4 g n x j), fun s => (s.1 + 8).toNatClampNeg, ⟨0, N, g, by decide, rfl, W, fun j hj => by unfold up4; rw [if_neg (by omega)]⟩, ?_⟩
  rintro ⟨v, s⟩ ⟨i, N2, g2, hi, hv, W2, hg⟩
  simp only at hv W2 ⊢
  subst hv
  by_cases h4 : i = 4
  · subst h4
    refine ⟨fun _ => k s N2 ?_, fun c => absurd (by decide) c⟩
    obtain ⟨w1, w2, w3, w4, w5, w6, b, b1, b2, bz0, b3, b4, b5, b6, b7⟩ := W2
    exact ⟨w1, w2, w3, w4, w5, w6, b, b1, b2, bz0, b3, b4, b5, b6, fun j hj => by rw [b7 j hj]; exact hg j hj⟩
  · unfold m_Row_four_3_b
    rw [nI_sub (by omega), show (0 : Int32) = nI 0 from rfl, nI_ltI (by omega) (by omega)]
    refine ⟨fun c => by omega, fun _ => ⟨W2.k, s_rput (u := fb x i) r W2 (by omega) (fb_iu x i (by omega)) (fun h3 N3 W3 _ => ?_)⟩⟩
    rintro _ rfl
    refine ⟨⟨i + 1, N3, _, by omega, ?_, W3, fun j hj => ?_⟩, ?_⟩
    · have hi' : i = 0 ∨ i = 1 ∨ i = 2 ∨ i = 3 := by omega
      simp only
      rcases hi' with rfl | rfl | rfl | rfl <;> decide
    · unfold upN
      by_cases hjn : j = n + i
      · rw [if_pos hjn]; unfold up4; rw [if_pos (by omega), hjn, Nat.add_sub_cancel_left]
      · rw [if_neg hjn]; exact hg j (by omega)
    · have hi' : i = 0 ∨ i = 1 ∨ i = 2 ∨ i = 3 := by omega
      simp only
      rcases hi' with rfl | rfl | rfl | rfl <;> decide
