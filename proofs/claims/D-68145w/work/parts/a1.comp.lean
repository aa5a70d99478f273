set_option maxRecDepth 10000
theorem t8_0 {s : T8} : t8 s 0 = s.1 := rfl
theorem s_comp74 {Q : AH → Prop} {h : AH} {d gb hb wb : Nat} (D : DC h d gb hb wb) (C : CON h) (kQ : ∀ h1, fm (fun a _ => a = hb) h h1 → fmR h h1 → (∀ j, j < 8 → hp_I h1 hb j = hp_I h hb j + t8 (h_rnd (hp_I h wb) 64 (h_8 (hp_I h hb))) j) → Q h1) : m_Sha_compress_74 Q d (hp_I h hb 0) (hp_I h hb 1) (hp_I h hb 2) (hp_I h hb 3) (hp_I h hb 4) (hp_I h hb 5) (hp_I h hb 6) (hp_I h hb 7) 0 h := by
  obtain ⟨d1, d2, d3, d4, d5, d6, d7, d8, d9, d10, d11, d12, d13⟩ := D
  obtain ⟨⟨c1, c2, c3⟩, -⟩ := C
  have hin : ∀ n, n < 8 → vp_in (nI n) 8 := fun n hn => by rw [vp_iff (by omega)]; exact hn
  refine ⟨fun s => ∃ k, k ≤ 64 ∧ s.2.2.2.2.2.2.2.2 = (nI k, h) ∧ (s.1, s.2.1, s.2.2.1, s.2.2.2.1, s.2.2.2.2.1, s.2.2.2.2.2.1, s.2.2.2.2.2.2.1, s.2.2.2.2.2.2.2.1) = h_rnd (hp_I h wb) k (h_8 (hp_I h hb)), fun s => 64 - s.2.2.2.2.2.2.2.2.1.toNatClampNeg, ⟨0, by decide, rfl, rfl⟩, ?_⟩
  rintro ⟨x3, x4, x5, x6, x7, x8, x9, x10, x11, s⟩ ⟨k, hk, hs, hr⟩
  simp only at hs hr ⊢
  cases hs
  unfold m_Sha_compress_74_b
  rw [show (64 : Int32) = nI 64 from rfl, nI_leI (by omega) (by omega)]
  refine ⟨fun c => ?_, fun c => ?_⟩
  · have : k = 64 := by omega
    subst this
    refine ⟨d1, hb, d2, Or.inl d7, by rw [d8]; exact hin 0 (by decide), d7, by rw [d8]; exact hin 0 (by decide), ?_⟩
    rintro _ rfl
    refine ⟨by rw [rnI, d8]; exact hin 1 (by decide), by rw [rnI, d8]; exact hin 1 (by decide), ?_⟩
    rintro _ rfl
    refine ⟨by rw [rnI, rnI, d8]; exact hin 2 (by decide), by rw [rnI, rnI, d8]; exact hin 2 (by decide), ?_⟩
    rintro _ rfl
    refine ⟨by simp only [rnI]; rw [d8]; exact hin 3 (by decide), by simp only [rnI]; rw [d8]; exact hin 3 (by decide), ?_⟩
    rintro _ rfl
    refine ⟨by simp only [rnI]; rw [d8]; exact hin 4 (by decide), by simp only [rnI]; rw [d8]; exact hin 4 (by decide), ?_⟩
    rintro _ rfl
    refine ⟨by simp only [rnI]; rw [d8]; exact hin 5 (by decide), by simp only [rnI]; rw [d8]; exact hin 5 (by decide), ?_⟩
    rintro _ rfl
    refine ⟨by simp only [rnI]; rw [d8]; exact hin 6 (by decide), by simp only [rnI]; rw [d8]; exact hin 6 (by decide), ?_⟩
    rintro _ rfl
    refine ⟨by simp only [rnI]; rw [d8]; exact hin 7 (by decide), by simp only [rnI]; rw [d8]; exact hin 7 (by decide), ?_⟩
    rintro _ rfl
    refine kQ _ ?_ rfl ?_
    · repeat refine fm.tr ?_ (fm.I rfl)
      exact fm.rf
    · rw [← hr]
      rw [show ((0 : Int32)).toNatClampNeg = 0 from rfl, show ((1 : Int32)).toNatClampNeg = 1 from rfl, show ((2 : Int32)).toNatClampNeg = 2 from rfl, show ((3 : Int32)).toNatClampNeg = 3 from rfl, show ((4 : Int32)).toNatClampNeg = 4 from rfl, show ((5 : Int32)).toNatClampNeg = 5 from rfl, show ((6 : Int32)).toNatClampNeg = 6 from rfl, show ((7 : Int32)).toNatClampNeg = 7 from rfl]
      intro j hj
      have : j = 0 ∨ j = 1 ∨ j = 2 ∨ j = 3 ∨ j = 4 ∨ j = 5 ∨ j = 6 ∨ j = 7 := by omega
      rcases this with rfl | rfl | rfl | rfl | rfl | rfl | rfl | rfl
      all_goals
        simp (disch := decide) only [rI1, rI3]
        rfl
  · refine s_rr (fun _ => s_rr (fun _ => s_rr (fun _ => ?_)))
    rintro _ rfl
    refine ⟨Or.inr c1, ?_, d1, wb, d3, Or.inl d9, ?_, ?_⟩
    · rw [c2, vp_iff (by omega)]; omega
    · rw [d10, vp_iff (by omega)]; omega
    rw [nI_clamp (by omega), c3 k (by omega)]
    rintro _ rfl
    refine s_rr (fun _ => s_rr (fun _ => s_rr (fun _ => ?_)))
    rintro _ rfl _ rfl _ rfl _ rfl _ rfl
    refine ⟨⟨k + 1, by omega, by simp only [nI_1], ?_⟩, ?_⟩
    · simp only [h_rnd]
      rw [← hr]
      rfl
    · simp only [nI_1]
      rw [nI_clamp (by omega)]
      omega
theorem s_comp {Q : AH → Prop} {h : AH} {d gb hb wb : Nat} {T : Nat → Nat} {b : Nat} (D : DC h d gb hb wb) (C : CON h) (hT : ∀ j, j < 64 → ub (hp_I h gb j) = T (64 * b + j)) (hT2 : ∀ j, j < 64 → T (64 * b + j) < 256) (kQ : ∀ h1, fm (fun a _ => a = hb ∨ a = wb) h h1 → fmR h h1 → (∀ j, j < 8 → hp_I h1 hb j = h_cmp (hp_I h hb) (h_wd T b) j) → Q h1) : m_Sha_compress Q d gb 0 h := by
  have D0 := D
  obtain ⟨d1, d2, d3, d4, d5, d6, d7, d8, d9, d10, d11, d12, d13⟩ := D
  refine ⟨d1, s_spread D0 hT hT2 (fun h1 F R hw _ => ?_)⟩
  have D1 : DC h1 d gb hb wb := D0.fm (F.wk (fun a j hs => Or.inr (Or.inr (Or.inr hs)))) R
  have C1 : CON h1 := C.fa F.fa (dz := 0) (ds := 0) (fun a j hk hs => by subst hs; omega)
  have hh : hp_I h1 hb = hp_I h hb := funext fun j => (F.1 hb j d11).1
  have hin : ∀ n, n < 8 → vp_in (nI n) (hp_n h1 hb) := fun n hn => by rw [D1.2.2.2.2.2.2.2.1, vp_iff (by omega)]; exact hn
  refine ⟨hb, D1.2.1, Or.inl D1.2.2.2.2.2.2.1, hin 0 (by decide), ?_⟩
  rintro _ rfl
  refine ⟨hin 1 (by decide), ?_⟩
  rintro _ rfl
  refine ⟨hin 2 (by decide), ?_⟩
  rintro _ rfl
  refine ⟨hin 3 (by decide), ?_⟩
  rintro _ rfl
  refine ⟨hin 4 (by decide), ?_⟩
  rintro _ rfl
  refine ⟨hin 5 (by decide), ?_⟩
  rintro _ rfl
  refine ⟨hin 6 (by decide), ?_⟩
  rintro _ rfl
  refine ⟨hin 7 (by decide), ?_⟩
  rintro _ rfl
  refine s_comp74 D1 C1 (fun h2 F2 R2 hw2 => kQ h2 ((F.wk (fun a j hs => Or.inr hs)).tr (F2.wk (fun a j hs => Or.inl hs))) (R2.trans R) (fun j hj => ?_))
  rw [hw2 j hj, hh]
  unfold h_cmp
  rw [h_rnd_cg 64 hw]
/-! the digest has taken n bytes of T -/
def DG (h : AH) (d gb hb : Nat) (T : Nat → Nat) (n : Nat) : Prop := hp_I h d 5 = nI (n % 64) ∧ (∀ j, j < n % 64 → ub (hp_I h gb j) = T (64 * (n / 64) + j)) ∧ (∀ j, j < 8 → hp_I h hb j = h_state T (n / 64) j)
def Gt (T : Nat → Nat) : Prop := ∀ i, T i < 256
theorem CON.d {h h1 : AH} {d gb hb wb : Nat} (C : CON h) (D : DC h d gb hb wb) (x : fm (Sd d gb hb wb) h h1) : CON h1 := C.fa x.fa (dz := 0) (ds := 0) (fun a j hk hs => by
  obtain ⟨d1, d2, d3, d4, d5, d6, d7, d8, d9, d10, d11, d12, d13⟩ := D
  rcases hs with ⟨rfl, -⟩ | rfl | rfl | rfl <;> omega)
theorem s_dturn {Q : AH → Prop} {h : AH} {d gb hb wb : Nat} {T : Nat → Nat} {b : Nat} (D : DC h d gb hb wb) (C : CON h) (hG : Gt T) (hT : ∀ j, j < 64 → ub (hp_I h gb j) = T (64 * b + j)) (hS : ∀ j, j < 8 → hp_I h hb j = h_state T b j) (kQ : ∀ h1, fm (Sd d gb hb wb) h h1 → fmR h h1 → DG h1 d gb hb T (64 * (b + 1)) → hp_L h1 d 6 = hp_L h d 6 → Q h1) : m_Dig_turn Q d h := by
  have D0 := D
  obtain ⟨d1, d2, d3, d4, d5, d6, d7, d8, d9, d10, d11, d12, d13⟩ := D
  have hdh : hb ≠ d := k_ne d7 d1 (by decide)
  have hdw : d ≠ wb := k_ne d1 d9 (by decide)
  refine ⟨d1, gb, d4, s_comp D0 C hT (fun j _ => hG _) (fun h1 F R hw _ => ?_)⟩
  rintro _ rfl _ rfl
  refine kQ _ ?_ R ⟨?_, fun j hj => ?_, fun j hj => ?_⟩ ?_
  · exact ((F.wk (fun a j hs => by rcases hs with rfl | rfl; exact Or.inr (Or.inr (Or.inl rfl)); exact Or.inr (Or.inr (Or.inr rfl)))).tr (fm.I (Or.inl ⟨rfl, by decide⟩))).tr (fm.I (Or.inl ⟨rfl, by decide⟩))
  · rw [rI1, show 64 * (b + 1) % 64 = 0 by omega]; rfl
  · rw [show 64 * (b + 1) % 64 = 0 by omega] at hj; omega
  · rw [rI2 hdh, rI2 hdh, hw j hj, show 64 * (b + 1) / 64 = b + 1 by omega]
    exact h_cmp_cg hS (fun _ _ => rfl) j hj
  · rw [rLI, rLI, (F.1 d 6 (fun q => by rcases q with q | q; exact hdh q.symm; exact hdw q)).2.1]
theorem s_done {Q : AH → Prop} {h : AH} {d gb hb wb n : Nat} {T : Nat → Nat} {v : Int32} (D : DC h d gb hb wb) (C : CON h) (hG : Gt T) (g1 : hp_L h d 6 = lN n) (G : DG h d gb hb T n) (hv : ub v.toInt8.toInt32 = T n) (kQ : ∀ h1, fm (Sd d gb hb wb) h h1 → fmR h h1 → DG h1 d gb hb T (n + 1) → hp_L h1 d 6 = lN (n + 1) → Q h1) : m_Dig_one Q d v h := by
  have D0 := D
  obtain ⟨d1, d2, d3, d4, d5, d6, d7, d8, d9, d10, d11, d12, d13⟩ := D
  obtain ⟨g2, g3, g4⟩ := G
  have hdg : gb ≠ d := k_ne d5 d1 (by decide)
  have hdh : hb ≠ d := k_ne d7 d1 (by decide)
  have hgh : hb ≠ gb := k_ne d7 d5 (by decide)
  refine ⟨d1, ?_⟩
  rw [g1]
  rintro h1 hh1
  refine ⟨gb, by rw [hh1]; exact d4, ?_⟩
  have e5 : hp_I h1 d 5 = nI (n % 64) := by rw [hh1]; exact g2
  rw [e5, nI_1, nI_clamp (by omega)]
  rintro h2 hh2
  refine ⟨by rw [hh2, hh1]; exact d5, by rw [hh2, hh1, rnI, rnL, d6, vp_iff (by omega)]; omega, ?_⟩
  rintro h3 hh3
  have F3 : fm (Sd d gb hb wb) h h3 := by
    rw [hh3, hh2, hh1]
    exact ((fm.L (Or.inl ⟨rfl, by decide⟩)).tr (fm.I (Or.inl ⟨rfl, by decide⟩))).tr (fm.I (Or.inr (Or.inl rfl)))
  have R3 : fmR h h3 := by rw [hh3, hh2, hh1]; rfl
  have D3 := D0.fm F3 R3
  have l3 : hp_L h3 d 6 = lN (n + 1) := by
    rw [hh3, rLI, hh2, rLI, hh1, rL1, show (1 : Int64) = lN 1 from rfl, lN_add]
  have f3 : hp_I h3 d 5 = nI (n % 64 + 1) := by rw [hh3, rI2 hdg.symm, hh2, rI1]
  have b3 : ∀ j, j < n % 64 + 1 → ub (hp_I h3 gb j) = T (64 * (n / 64) + j) := fun j hj => by
    rw [hh3]
    by_cases hjn : j = n % 64
    · rw [hjn, rI1, by8_cut v, hv]
      congr 1
      omega
    · rw [rI3 hjn, hh2, rI2 hdg, hh1, rIL]
      exact g3 j (by omega)
  have s3 : ∀ j, j < 8 → hp_I h3 hb j = h_state T (n / 64) j := fun j hj => by
    rw [hh3, rI2 hgh, hh2, rI2 hdh, hh1, rIL]
    exact g4 j hj
  clear hh3 hh2 hh1
  rw [f3, D3.2.2.2.2.2.2.2.2.2.2.2.1, show (64 : Int32) = nI 64 from rfl, nI_eq (by omega) (by omega)]
  refine ⟨fun c => kQ h3 F3 R3 ⟨?_, ?_, ?_⟩ l3, fun c => ?_⟩
  · rw [f3]; congr 1; omega
  · intro j hj
    rw [show (n + 1) / 64 = n / 64 by omega]
    exact b3 j (by omega)
  · rw [show (n + 1) / 64 = n / 64 by omega]
    exact s3
  · have e : n + 1 = 64 * (n / 64 + 1) := by omega
    refine s_dturn D3 (C.d D0 F3) hG (fun j hj => b3 j (by omega)) s3 (fun h4 F4 R4 G4 l4 _ => kQ h4 (F3.tr F4) (R4.trans R3) ?_ (l4.trans l3))
    rw [e]
    exact G4
