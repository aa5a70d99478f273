set_option maxRecDepth 10000
theorem s_min {Q : Int32 → AH → Prop} {a b : Nat} {h : AH} (ha : a < 2 ^ 31) (hb : b < 2 ^ 31) (k : Q (nI (min a b)) h) : m_Math_min Q (nI a) (nI b) h := by
  unfold m_Math_min
  rw [nI_ltI hb ha]
  refine ⟨fun c => ?_, fun c => ?_⟩
  · rw [Nat.min_eq_right (by omega)] at k; exact k
  · rw [Nat.min_eq_left (by omega)] at k; exact k
theorem fm.CI {S : Nat → Nat → Prop} {h : AH} {a0 sp a dp n : Nat} (hs : ∀ j, dp ≤ j → j < dp + n → S a j) : fm S h (up_CI h a0 sp a dp n) := by
  refine ⟨fun x j hn => ⟨?_, rfl, rfl⟩, rfl, rfl, rfl, rfl, rfl, rfl⟩
  simp only [hp_I, up_CI]
  rw [if_neg]
  rintro ⟨rfl, h1, h2⟩
  exact hn (hs j h1 h2)
theorem s_dupd {Q : AH → Prop} {h : AH} {d gb hb wb r a n k : Nat} {T : Nat → Nat} (D : DC h d gb hb wb) (C : CON h) (hG : Gt T) (g1 : hp_L h d 6 = lN n) (G : DG h d gb hb T n) (hr : bk (hp_k h r)) (hrg : r ≠ gb) (hrn : a + k ≤ hp_n h r) (hrn2 : a + k < 2 ^ 30) (hT : ∀ j, j < k → ub (hp_I h r (a + j)) = T (n + j)) (kQ : ∀ h1, fm (Sd d gb hb wb) h h1 → fmR h h1 → DG h1 d gb hb T (n + k) → hp_L h1 d 6 = lN (n + k) → Q h1) : m_Dig_update Q d r (nI a) (nI k) h := by
  have D0 := D
  obtain ⟨d1, d2, d3, d4, d5, d6, d7, d8, d9, d10, d11, d12, d13⟩ := D
  have hdg : gb ≠ d := k_ne d5 d1 (by decide)
  have hdh : hb ≠ d := k_ne d7 d1 (by decide)
  have hgh : hb ≠ gb := k_ne d7 d5 (by decide)
  have hrd : r ≠ d := by rintro rfl; rcases hr with hr | hr <;> omega
  have hrh : r ≠ hb := by rintro rfl; rcases hr with hr | hr <;> omega
  have hrw : r ≠ wb := by rintro rfl; rcases hr with hr | hr <;> omega
  have nS : ∀ j, ¬ Sd d gb hb wb r j := fun j q => by
    rcases q with ⟨q, -⟩ | q | q | q
    · exact hrd q
    · exact hrg q
    · exact hrh q
    · exact hrw q
  refine ⟨d1, ?_⟩
  rw [g1, nI_l (by omega), lN_add]
  rintro h1 hh1
  have F1 : fm (Sd d gb hb wb) h h1 := by rw [hh1]; exact fm.L (Or.inl ⟨rfl, by decide⟩)
  have R1 : fmR h h1 := by rw [hh1]; rfl
  have G1 : DG h1 d gb hb T n := by rw [hh1]; exact G
  have l1 : hp_L h1 d 6 = lN (n + k) := by rw [hh1, rL1]
  clear hh1
  refine ⟨fun s => ∃ i, i ≤ k ∧ s.1 = nI (a + i) ∧ s.2.1 = nI (k - i) ∧ fm (Sd d gb hb wb) h s.2.2 ∧ fmR h s.2.2 ∧ DG s.2.2 d gb hb T (n + i) ∧ hp_L s.2.2 d 6 = lN (n + k), fun s => s.2.1.toNatClampNeg, ⟨0, by omega, rfl, rfl, F1, R1, G1, l1⟩, ?_⟩
  rintro ⟨v, w, s⟩ ⟨i, hi, hv, hw, F, R, G2, l2⟩
  simp only at hv hw F R G2 l2 ⊢
  subst hv
  subst hw
  have Ds := D0.fm F R
  have Cs := C.d D0 F
  obtain ⟨g2, g3, g4⟩ := G2
  obtain ⟨e1, e2, e3, e4, e5, e6, e7, e8, e9, e10, e11, e12, e13⟩ := id Ds
  unfold m_Dig_update_17_b
  rw [show (0 : Int32) = nI 0 from rfl, nI_leI (by omega) (by omega)]
  refine ⟨fun c => ?_, fun c => ⟨e1, ?_⟩⟩
  · have : i = k := by omega
    subst this
    exact kQ s F R ⟨g2, g3, g4⟩ l2
  rw [e12, g2, show (64 : Int32) = nI 64 from rfl, nI_sub (by omega)]
  refine s_min (by omega) (by omega) (fun _ => ⟨gb, e4, by rw [F.2.1]; exact hr, e5, ?_⟩)
  generalize hq : min (k - i) (64 - (n + i) % 64) = q
  have q1 : 1 ≤ q ∧ q ≤ k - i ∧ q ≤ 64 - (n + i) % 64 := by omega
  rw [g2]
  simp (disch := omega) only [nI_ltI, nI_clamp, nI_add, nI_sub]
  rw [F.2.2.1, d6]
  refine ⟨by omega, by omega, by omega, by omega, by omega, ?_⟩
  rintro h2 hh2 h3 hh3
  rintro _ rfl _ rfl
  have c2 : hp_I h2 d 5 = nI ((n + i) % 64) := by rw [hh2, rIC2 hdg.symm]; exact g2
  rw [c2, nI_add] at hh3
  have F3 : fm (Sd d gb hb wb) h h3 := by
    rw [hh3, hh2]
    exact (F.tr (fm.CI (fun j _ _ => Or.inr (Or.inl rfl)))).tr (fm.I (Or.inl ⟨rfl, by decide⟩))
  have R3 : fmR h h3 := by rw [hh3, hh2]; exact R
  have D3 := D0.fm F3 R3
  have l3 : hp_L h3 d 6 = lN (n + k) := by rw [hh3, rLI, hh2, rLCI]; exact l2
  have f3 : hp_I h3 d 5 = nI ((n + i) % 64 + q) := by rw [hh3, rI1]
  have b3 : ∀ j, j < (n + i) % 64 + q → ub (hp_I h3 gb j) = T (64 * ((n + i) / 64) + j) := fun j hj => by
    rw [hh3, rI2 hdg, hh2]
    by_cases hjn : j < (n + i) % 64
    · rw [rIC3 (Or.inl hjn)]
      exact g3 j hjn
    · rw [rIC1 (by omega) (by omega), (F.1 r _ (nS _)).1, show a + i + (j - (n + i) % 64) = a + (i + (j - (n + i) % 64)) by omega, hT _ (by omega)]
      congr 1
      omega
  have s3 : ∀ j, j < 8 → hp_I h3 hb j = h_state T ((n + i) / 64) j := fun j hj => by
    rw [hh3, rI2 hdh, hh2, rIC2 hgh]
    exact g4 j hj
  clear hh3 hh2 c2
  have go : ∀ h4, fm (Sd d gb hb wb) h h4 → fmR h h4 → DG h4 d gb hb T (n + (i + q)) → hp_L h4 d 6 = lN (n + k) → ((∃ i, i ≤ k ∧ nI (a + i) = nI (a + i) ∧ True) → True) → (∃ i', i' ≤ k ∧ nI (a + i + q) = nI (a + i') ∧ nI (k - i - q) = nI (k - i') ∧ fm (Sd d gb hb wb) h h4 ∧ fmR h h4 ∧ DG h4 d gb hb T (n + i') ∧ hp_L h4 d 6 = lN (n + k)) ∧ (nI (k - i - q)).toNatClampNeg < k - i := fun h4 F4 R4 G4 l4 _ => by
    refine ⟨⟨i + q, by omega, by rw [Nat.add_assoc], by rw [Nat.sub_sub], F4, R4, G4, l4⟩, ?_⟩
    rw [nI_clamp (by omega)]
    omega
  rw [f3, D3.2.2.2.2.2.2.2.2.2.2.2.1, show (64 : Int32) = nI 64 from rfl, nI_eq (by omega) (by omega)]
  refine ⟨fun c => go h3 F3 R3 ⟨?_, ?_, ?_⟩ l3 (fun _ => trivial), fun c => ?_⟩
  · rw [f3]; congr 1; omega
  · intro j hj
    rw [show (n + (i + q)) / 64 = (n + i) / 64 by omega]
    exact b3 j (by omega)
  · rw [show (n + (i + q)) / 64 = (n + i) / 64 by omega]
    exact s3
  · refine s_dturn D3 (C.d D0 F3) hG (fun j hj => b3 j (by omega)) s3 (fun h4 F4 R4 G4 l4 _ => go h4 (F3.tr F4) (R4.trans R3) ?_ (l4.trans l3) (fun _ => trivial))
    rw [show n + (i + q) = 64 * ((n + i) / 64 + 1) by omega]
    exact G4
theorem s_dreset {Q : AH → Prop} {h : AH} {d gb hb wb : Nat} {T : Nat → Nat} (D : DC h d gb hb wb) (C : CON h) (kQ : ∀ h1, fm (Sd d gb hb wb) h h1 → fmR h h1 → DG h1 d gb hb T 0 → hp_L h1 d 6 = lN 0 → Q h1) : m_Dig_reset Q d h := by
  have D0 := D
  obtain ⟨d1, d2, d3, d4, d5, d6, d7, d8, d9, d10, d11, d12, d13⟩ := D
  have hdh : hb ≠ d := k_ne d7 d1 (by decide)
  refine ⟨d1, ?_⟩
  rintro _ rfl h2 hh2
  have F2 : fm (Sd d gb hb wb) h h2 := by rw [hh2]; exact (fm.I (Or.inl ⟨rfl, by decide⟩)).tr (fm.L (Or.inl ⟨rfl, by decide⟩))
  have R2 : fmR h h2 := by rw [hh2]; rfl
  have f2 : hp_I h2 d 5 = 0 := by rw [hh2, rIL, rI1]
  have l2 : hp_L h2 d 6 = 0 := by rw [hh2, rL1]
  clear hh2
  refine ⟨fun s => ∃ k, k ≤ 8 ∧ s.1 = nI k ∧ fm (Sd d gb hb wb) h s.2 ∧ fmR h s.2 ∧ hp_I s.2 d 5 = 0 ∧ hp_L s.2 d 6 = 0 ∧ ∀ j, j < k → hp_I s.2 hb j = hH j, fun s => 8 - s.1.toNatClampNeg, ⟨0, by decide, rfl, F2, R2, f2, l2, fun j hj => by omega⟩, ?_⟩
  rintro ⟨v, s⟩ ⟨k, hk, hv, F, R, f3, l3, hs⟩
  simp only at hv F R f3 l3 hs ⊢
  subst hv
  have Ds := D0.fm F R
  obtain ⟨-, ⟨c1, c2, c3⟩, -⟩ := C.d D0 F
  unfold m_Sha_begin_2_b
  rw [show (8 : Int32) = nI 8 from rfl, nI_leI (by omega) (by omega)]
  refine ⟨fun c => ?_, fun c => ⟨Ds.1, hb, Ds.2.1, Or.inr c1, ?_, Ds.2.2.2.2.2.2.1, ?_, ?_⟩⟩
  · refine fun _ => kQ s F R ⟨f3, fun j hj => by omega, fun j hj => ?_⟩ l3
    rw [hs j (by omega)]
    rfl
  · rw [c2, vp_iff (by omega)]; omega
  · rw [Ds.2.2.2.2.2.2.2.1, vp_iff (by omega)]; omega
  · rw [nI_clamp (by omega), c3 k (by omega)]
    rintro _ rfl _ rfl
    refine ⟨⟨k + 1, by omega, by simp only [nI_1], F.tr (fm.I (Or.inr (Or.inr (Or.inl rfl)))), R, ?_, l3, fun j hj => ?_⟩, ?_⟩
    · simp only
      rw [rI2 hdh.symm]; exact f3
    · simp only
      by_cases hjk : j = k
      · rw [hjk, rI1]; rfl
      · rw [rI3 hjk]; exact hs j (by omega)
    · simp (disch := omega) only [nI_1, nI_clamp]
      omega
