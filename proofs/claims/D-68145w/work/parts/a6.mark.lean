set_option maxRecDepth 10000
theorem s_mark0 {Q : Nat → AH → Prop} {A : Nat → Nat} {h : AH} {kb tb : Nat → Nat} {r1 ka r4 ta n : Nat} (a : AI A h) (C : CON h) (K : KC A h) (hr1 : bk (hp_k h r1)) (hr2 : r1 ≠ A 18) (hr3 : ka + 32 ≤ hp_n h r1) (hka : ka < 2 ^ 30) (hkb : ∀ j, j < 32 → ub (hp_I h r1 (ka + j)) = kb j) (hs1 : bk (hp_k h r4)) (hs2 : ∀ j, ¬ SK A r4 j) (hs3 : ta + n ≤ hp_n h r4) (hta : ta + n < 2 ^ 27) (htb : ∀ j, j < n → ub (hp_I h r4 (ta + j)) = tb j) (kQ : ∀ h1, fm (SK A) h h1 → fmR h h1 → KC A h1 → (∀ k, k < 32 → hp_I h1 (A 21) k = h_mac kb tb n k) → Q (A 21) h1) : m_KM_mark Q (A 8) r1 (nI ka) r4 (nI ta) (nI n) h := by
  have hkl : ∀ i, i < 32 → kb i < 256 := fun i hi => by rw [← hkb i hi]; exact ub_lt _
  have htl : ∀ i, i < n → tb i < 256 := fun i hi => by rw [← htb i hi]; exact ub_lt _
  have hil := h_ipad_lt hkl htl
  have hol : ∀ i, i < 64 + 32 → h_opad kb (fun i => ub (h_out (h_ipad kb tb) (64 + n) i)) i < 256 := h_opad_lt hkl (fun i _ => by8_lt h_out_by8)
  generalize hT1 : h_pd (h_ipad kb tb) (64 + n) = T1
  generalize hT2 : h_pd (h_opad kb (fun i => ub (h_out (h_ipad kb tb) (64 + n) i))) 96 = T2
  have hG1 : Gt T1 := by rw [← hT1]; exact h_pd_lt hil
  have hG2 : Gt T2 := by rw [← hT2]; exact h_pd_lt hol
  obtain ⟨k1, k2, k3, k4, k5, k6, k7, k8, k9, k10, k11, k12, k13, k14, k15, k16, k17⟩ := id K
  refine ⟨k1, A 9, k2, A 21, k3, k6, k6, ?_⟩
  refine s_kbegin (T1 := T1) (T2 := T2) a C K hG1 hG2 hr1 hr2 hr3 hka hkb (fun j hj => ?_) (fun j hj => ?_) (fun h1 F1 R1 B1 _ => ?_)
  · rw [← hT1]; unfold h_pd h_ipad; rw [if_pos (by omega), if_pos hj]
  · rw [← hT2]; unfold h_pd h_opad; rw [if_pos (by omega), if_pos hj]
  obtain ⟨K1, G1, l1, G2, l2⟩ := B1
  have a1 := a.fm F1
  have C1 := C.k K F1
  have hrg : r4 ≠ A 11 := fun e => hs2 0 ⟨11, by decide, e⟩
  refine ⟨A 10, K1.2.2.2.2.2.2.1, K1.d1.1, ?_⟩
  refine s_dupd K1.d1 C1 hG1 l1 G1 (by rw [F1.2.1]; exact hs1) hrg (by rw [F1.2.2.1]; exact hs3) (by omega) (fun j hj => ?_) (fun h2 F2 R2 G3 l3 _ => ?_)
  · rw [(F1.1 r4 _ (hs2 _)).1, htb j hj, ← hT1]
    unfold h_pd h_ipad
    rw [if_pos (by omega), if_neg (by omega), show 64 + j - 64 = j by omega]
  have K2 := K1.s1 a1 F2 R2
  have a2 := a1.fm F2
  have F2' := F1.tr (F2.wk Sd_K1)
  have C2 := C.k K F2'
  obtain ⟨G4, l4⟩ := K1.g2 a1 F2 G2 l2
  refine ⟨K2.2.2.2.2.2.1, A 10, K2.2.2.2.2.2.2.1, A 19, K2.2.2.2.2.2.2.2.2.2.1, K2.d1.1, ?_⟩
  rw [← hT1] at G3
  have e19 : hp_k h2 (A 19) = 101 ∧ hp_n h2 (A 19) = 32 := ⟨K2.2.2.2.2.2.2.2.2.2.2.2.2.2.1, K2.2.2.2.2.2.2.2.2.2.2.2.2.2.2.1⟩
  refine s_dfin (a := 0) K2.d1 C2 hil (by omega) l3 G3 e19.1 (a2.ne (i := 19) (k := 100) e19.1 (by decide)) (by rw [e19.2]; decide) (by decide) (fun h3 F3 R3 hv3 _ => ?_)
  have K3 := K2.at a2 F3 R3 (by decide)
  have a3 := a2.fm F3
  have F3' : fm (SK A) h h3 := F2'.tr (F3.wk (fun x j e => by
    rcases e with e | ⟨e, -⟩
    · exact Sd_K1 x j e
    · exact ⟨19, by decide, e⟩))
  have C3 := C.k K F3'
  have nn : ∀ i k, hp_k h2 (A i) = k + 1 → i ≠ 10 → i ≠ 11 → i ≠ 12 → i ≠ 13 → i ≠ 19 → ∀ j, ¬ (Sd (A 10) (A 11) (A 12) (A 13) (A i) j ∨ (A i = A 19 ∧ 0 ≤ j ∧ j < 0 + 32)) := fun i k hk b0 b1 b2 b3 b4 => nSd' a2 hk b0 b1 b2 b3 b4
  have G5 : DG h3 (A 14) (A 15) (A 16) T2 64 := G4.off F3 (nn 14 5 K2.d2.1 (by decide) (by decide) (by decide) (by decide) (by decide)) (nn 15 100 K2.d2.kg.1 (by decide) (by decide) (by decide) (by decide) (by decide)) (nn 16 101 K2.d2.kg.2.1 (by decide) (by decide) (by decide) (by decide) (by decide))
  have l5 : hp_L h3 (A 14) 6 = lN 64 := by rw [(F3.1 _ 6 (nn 14 5 K2.d2.1 (by decide) (by decide) (by decide) (by decide) (by decide) 6)).2.1]; exact l4
  refine ⟨A 14, K3.2.2.2.2.2.2.2.1, A 19, K3.2.2.2.2.2.2.2.2.2.1, K3.d2.1, ?_⟩
  have e19 : hp_k h3 (A 19) = 101 ∧ hp_n h3 (A 19) = 32 := ⟨K3.2.2.2.2.2.2.2.2.2.2.2.2.2.1, K3.2.2.2.2.2.2.2.2.2.2.2.2.2.2.1⟩
  rw [K3.2.2.2.2.2.2.2.2.2.2.1]
  refine s_dupd (a := 0) (k := 32) K3.d2 C3 hG2 l5 G5 (Or.inl e19.1) (a3.ne (i := 19) (k := 100) e19.1 (by decide)) (by rw [e19.2]; decide) (by decide) (fun j hj => ?_) (fun h4 F4 R4 G6 l6 _ => ?_)
  · rw [hv3 j hj, ← hT2]
    unfold h_pd h_opad
    rw [if_pos (by omega), if_neg (by omega), show 64 + j - 64 = j by omega]
  have K4 := K3.s2 a3 F4 R4
  have a4 := a3.fm F4
  have F4' := F3'.tr (F4.wk Sd_K2)
  have C4 := C.k K F4'
  refine ⟨A 14, K4.2.2.2.2.2.2.2.1, K4.d2.1, ?_⟩
  have e21 : hp_k h4 (A 21) = 101 ∧ hp_n h4 (A 21) = 32 := ⟨K4.2.2.2.1, K4.2.2.2.2.1⟩
  rw [← hT2] at G6
  refine s_dfin (a := 0) K4.d2 C4 hol (by decide) l6 G6 e21.1 (a4.ne (i := 21) (k := 100) e21.1 (by decide)) (by rw [e21.2]; decide) (by decide) (fun h5 F5 R5 hv5 _ => ?_)
  have F5' : fm (SK A) h h5 := F4'.tr (F5.wk (fun x j e => by
    rcases e with e | ⟨e, -⟩
    · exact Sd_K2 x j e
    · exact ⟨21, by decide, e⟩))
  have K5 : KC A h5 := by
    have n9 := nSd' a4 (i := 9) (k := 4) (i0 := 14) (i1 := 15) (i2 := 16) (i3 := 17) (j0 := 21) (x := 0) (y := 0 + 32) K4.2.2.2.2.2.1 (by decide) (by decide) (by decide) (by decide) (by decide)
    have n10 := nSd' a4 (i := 10) (k := 5) (i0 := 14) (i1 := 15) (i2 := 16) (i3 := 17) (j0 := 21) (x := 0) (y := 0 + 32) K4.d1.1 (by decide) (by decide) (by decide) (by decide) (by decide)
    refine K4.off F5 R5 n9 (K4.d1.off F5 R5 n10) ?_
    obtain ⟨d1, d2, d3, d4, d5, d6, d7, d8, d9, d10, d11, d12, d13⟩ := K4.d2
    obtain ⟨x1, x2, x3, -⟩ := F5
    have nd : ∀ j, j < 5 → ¬ (Sd (A 14) (A 15) (A 16) (A 17) (A 14) j ∨ (A 14 = A 21 ∧ 0 ≤ j ∧ j < 0 + 32)) := fun j hj q => by
      rcases q with (q | q | q | q) | q
      · omega
      · exact a4.ne (i := 14) (k := 5) d1 (by decide) q
      · exact a4.ne (i := 14) (k := 5) d1 (by decide) q
      · exact a4.ne (i := 14) (k := 5) d1 (by decide) q
      · exact a4.ne (i := 14) (k := 5) d1 (by decide) q.1
    unfold fmR at R5
    exact ⟨by rw [x2]; exact d1, by rw [R5]; exact d2, by rw [R5]; exact d3, by rw [R5]; exact d4, by rw [x2]; exact d5, by rw [x3]; exact d6, by rw [x2]; exact d7, by rw [x3]; exact d8, by rw [x2]; exact d9, by rw [x3]; exact d10, d11, by rw [(x1 _ 3 (nd 3 (by decide))).1]; exact d12, by rw [(x1 _ 2 (nd 2 (by decide))).1]; exact d13⟩
  intro _ _
  refine ⟨A 21, K5.2.2.1, kQ h5 F5' (R5.trans (R4.trans (R3.trans (R2.trans R1)))) K5 (fun k hk => ?_)⟩
  have := hv5 k hk
  rw [Nat.zero_add] at this
  exact this
/-- compares the mark -/
theorem s_good {Q : Int32 → AH → Prop} {A : Nat → Nat} {h : AH} {kb tb mb : Nat → Nat} {r1 ka r5 ma ms r4 ta n : Nat} {kd ks : Int32} (a : AI A h) (C : CON h) (K : KC A h) (hr1 : bk (hp_k h r1)) (hr2 : r1 ≠ A 18) (hr3 : ka + 32 ≤ hp_n h r1) (hka : ka < 2 ^ 30) (hkb : ∀ j, j < 32 → ub (hp_I h r1 (ka + j)) = kb j) (hs1 : bk (hp_k h r4)) (hs2 : ∀ j, ¬ SK A r4 j) (hs3 : ta + n ≤ hp_n h r4) (hta : ta + n < 2 ^ 27) (htb : ∀ j, j < n → ub (hp_I h r4 (ta + j)) = tb j) (hm1 : bk (hp_k h r5)) (hm2 : ∀ j, ¬ SK A r5 j) (hm3 : ma + ms ≤ hp_n h r5) (hms : ma + ms < 2 ^ 27) (hmb : ∀ j, j < ms → ub (hp_I h r5 (ma + j)) = mb j) (kQ : ∀ h1, fm (SK A) h h1 → fmR h h1 → KC A h1 → Q (b2 (decide (ms = 32) && allB (fun k => ub (h_mac kb tb n k) == mb k) 0 32)) h1) : m_KM_good Q (A 8) kd r1 (nI ka) ks r5 (nI ma) (nI ms) r4 (nI ta) (nI n) h := by
  unfold m_KM_good
  rw [show (32 : Int32) = nI 32 from rfl, nI_eq (by omega) (by decide)]
  refine ⟨fun c => ⟨K.1, s_mark0 a C K hr1 hr2 hr3 hka hkb hs1 hs2 hs3 hta htb (fun h1 F1 R1 K1 hv _ => ?_)⟩, fun c => ?_⟩
  rotate_left
  · have := kQ h fm.rf rfl K
    rw [decide_eq_false c] at this
    exact this
  have kQ := kQ h1 F1 R1 K1
  rw [decide_eq_true c, Bool.true_and] at kQ
  refine ⟨fun s => ∃ k, k ≤ 32 ∧ s = (nI k, h1) ∧ ∀ j, j < k → ub (h_mac kb tb n j) = mb j, fun s => 32 - s.1.toNatClampNeg, ⟨0, by decide, rfl, fun j hj => by omega⟩, ?_⟩
  rintro _ ⟨k, hk, rfl, hs⟩
  simp only
  unfold m_KM_good_26_b
  rw [show (32 : Int32) = nI 32 from rfl, nI_leI (by omega) (by omega)]
  refine ⟨fun c2 => ?_, fun c2 => ⟨Or.inl K1.2.2.2.1, by rw [K1.2.2.2.2.1, vp_iff (by omega)]; omega, fun _ => ⟨by rw [F1.2.1]; exact hm1, ?_⟩⟩⟩
  · rw [show allB (fun k => ub (h_mac kb tb n k) == mb k) 0 32 = true from allB_iff.mpr (fun j hj => by simp only [Nat.zero_add, beq_iff_eq]; exact hs j (by omega))] at kQ
    exact kQ
  rw [nI_add, nI_clamp (by omega), nI_clamp (by omega), vp_iff (by omega), F1.2.2.1, (F1.1 r5 _ (hm2 _)).1, hv k (by omega)]
  refine ⟨by omega, fun h8 => ?_⟩
  rw [b_inj (show by8 (h_mac kb tb n k) from h_out_by8) h8, hmb k (by omega)]
  refine ⟨fun c3 => ?_, fun c3 => ?_⟩
  · rintro _ rfl
    refine ⟨⟨k + 1, by omega, by rw [nI_1], fun j hj => ?_⟩, ?_⟩
    · by_cases hjk : j = k
      · rw [hjk]; exact c3
      · exact hs j (by omega)
    · simp (disch := omega) only [nI_1, nI_clamp]
      omega
  · rw [allB_no (i := k) (by omega) (by simp only [Nat.zero_add]; exact beq_false_of_ne c3)] at kQ
    exact kQ
