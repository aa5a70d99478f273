set_option maxRecDepth 10000
/-! the model's time -/
theorem need_bad {Q : AH → Prop} {h h1 : AH} {m x : Nat} {v : Int32} (hm : hp_k h m = 13) (hb : MB h h1 m x) (k : ∀ h2, MB h h2 m x → Q h2) : m_M_need Q m v h1 := ⟨fun _ => k h1 hb, fun _ => ⟨hb.k hm, by rintro _ rfl; exact k _ hb.bad⟩⟩
theorem t304_bad {Q : Int64 → AH → Prop} {h h1 : AH} {m x : Nat} {x3 x4 x6 x7 x8 x9 x10 v : Int32} (hm : hp_k h m = 13) (hb : MB h h1 m x) (k : ∀ h2, MB h h2 m x → Q 0 h2) : m_M_time_304 Q m x3 x4 x6 x7 x8 x9 x10 m v h1 := by
  refine ⟨hb.k hm, need_bad hm hb (fun h2 hb2 _ => ⟨hb2.k hm, fun c => ?_, fun _ => k h2 hb2⟩)⟩
  rw [hb2.2] at c
  exact absurd c (by decide)
theorem t261_bad {Q : Int64 → AH → Prop} {h h1 : AH} {m x : Nat} {x3 x4 x6 x7 x8 x9 x10 v : Int32} (hm : hp_k h m = 13) (hb : MB h h1 m x) (k : ∀ h2, MB h h2 m x → Q 0 h2) : m_M_time_261 Q m x3 x4 x6 x7 x8 x9 x10 m v h1 := by
  refine ⟨hb.k hm, need_bad hm hb (fun h2 hb2 _ => ?_)⟩
  have a := @t304_bad Q h h2 m x x3 x4 x6 x7 x8 x9 x10 0 hm hb2 k
  have b := @t304_bad Q h h2 m x x3 x4 x6 x7 x8 x9 x10 1 hm hb2 k
  exact ⟨fun _ => a, fun _ => ⟨fun _ => a, fun _ => ⟨fun _ => a, fun _ => ⟨fun _ => a, fun _ => ⟨fun _ => a, fun _ => b⟩⟩⟩⟩⟩
/-- the five pairs of digits when it is bad already -/
theorem s_twoB {Q : Int32 → AH → Prop} {h h1 : AH} {m st x bs n i : Nat} {g : Nat → Nat} (K : ME h m st x bs n g) (hb : MB h h1 m x) (hi : i + 2 ≤ n) (k : ∀ w h2, MB h h2 m x → Q w h2) : m_M_two Q m (nI i) h1 := s_Mtwo (K.mf hb.1) hi (fun _ _ _ => k _ _ hb) (fun _ _ => k _ _ hb.bad)
theorem t191_bad {Q : Int64 → AH → Prop} {h h1 : AH} {m st x bs n p : Nat} {x2 x3 x4 : Int32} {g : Nat → Nat} (K : ME h m st x bs n g) (hb : MB h h1 m x) (hp : p + 10 ≤ n) (k : ∀ h2, MB h h2 m x → Q 0 h2) : m_M_time_191 Q m x2 x3 x4 (nI p) h1 := by
  unfold m_M_time_191 m_M_time_256
  simp only [lit_nI, nI_add]
  refine ⟨hb.k K.1, s_twoB K hb (by omega) (fun v1 h2 hb2 _ => s_twoB K hb2 (by omega) (fun v2 h3 hb3 _ => s_twoB K hb3 (by omega) (fun v3 h4 hb4 _ => s_twoB K hb4 (by omega) (fun v4 h5 hb5 _ => s_twoB K hb5 (by omega) (fun v5 h6 hb6 _ => ?_)))))⟩
  exact ⟨fun _ => t261_bad K.1 hb6 k, fun _ => ⟨fun _ => t261_bad K.1 hb6 k, fun _ => t261_bad K.1 hb6 k⟩⟩
theorem s_t359 {Q : Int64 → AH → Prop} {h : AH} {m y mo d hh mi s : Nat} {x3 : Int32} (hm : hp_k h m = 13) (hy0 : 1 ≤ y) (hy : y < 10000) (h1 : 1 ≤ mo) (h2 : mo ≤ 12) (l8 : hh < 2 ^ 31) (l9 : mi < 2 ^ 31) (l10 : s < 2 ^ 31) (k : Q (lZ (((d_days y mo d * 24 + hh) * 60 + mi) * 60 + s)) (up_I h m 20 x3)) : m_M_time_359 Q m x3 (nI y) (nI mo) (nI hh) (nI mi) (nI s) (lZ (d_days y 1 1 + d - 1)) (nI 1) h := by
  unfold m_M_time_359
  refine ⟨fun t => ∃ z, 1 ≤ z ∧ z ≤ mo ∧ t = (lZ (d_days y z 1 + d - 1), nI z, h), fun t => 100 - t.2.1.toNatClampNeg, ⟨1, by omega, by omega, rfl⟩, ?_⟩
  rintro _ ⟨z, z1, z2, rfl⟩
  unfold m_M_time_359_b
  simp only
  rw [nI_leI (by omega) (by omega)]
  refine ⟨fun c1 => ⟨hm, ?_⟩, fun c1 => s_daysOf (by omega) (by omega) (fun _ => ?_)⟩
  · rintro _ rfl
    have : z = mo := by omega
    subst this
    rw [show (24 : Int64) = lZ 24 from rfl, show (60 : Int64) = lZ 60 from rfl, lZ_nI l8, lZ_nI l9, lZ_nI l10]
    simp only [lZ_add, lZ_mul]
    rw [← dd_day]
    exact k
  · have hmd := d_md_le y z
    rw [lZ_nI (by omega), lZ_add]
    rintro _ rfl _ rfl
    refine ⟨⟨z + 1, by omega, by omega, ?_⟩, ?_⟩
    · rw [nI_1, dd_month hy0 z1 (by omega), show d_days y z 1 + (d : Int) - 1 + (d_md y z : Int) = d_days y z 1 + (d_md y z : Int) + d - 1 by omega]
    · rw [nI_1, nI_clamp (by omega), nI_clamp (by omega)]; omega
