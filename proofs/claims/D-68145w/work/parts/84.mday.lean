set_option maxRecDepth 10000
theorem s_leap {Q : Int32 → AH → Prop} {h : AH} {y : Nat} (hy : y < 100000) (k : Q (b2 (d_leap y)) h) : m_M_leap Q (nI y) h := by
  simp (disch := omega) only [m_M_leap, m_M_leap_13, m_M_leap_21, m_M_leap_26, lit_nI, nI_div, lit_nI, nI_add, nI_sub, nI_mul, nI_neg, nI_leI, nI_ltI, nI_eq, nI_clamp, vp_iff, nI_negne, nI_l]
  have e4 : y - y / 4 * 4 = y % 4 := by omega
  have e100 : y - y / 100 * 100 = y % 100 := by omega
  have e400 : y - y / 400 * 400 = y % 400 := by omega
  rw [e4, e100, e400]
  have t : d_leap y = true → zb (nI 1) ∧ Q (nI 1) h := fun hl => ⟨Or.inr rfl, by rw [hl] at k; exact k⟩
  have f : d_leap y = false → zb (nI 0) ∧ Q (nI 0) h := fun hl => ⟨Or.inl rfl, by rw [hl] at k; exact k⟩
  unfold d_leap at t f
  refine ⟨fun c1 => ⟨fun c2 => f ?_, fun c2 => t ?_⟩, fun c1 => ⟨fun c2 => t ?_, fun c2 => ⟨fun c3 => f ?_, fun c3 => t ?_⟩⟩⟩
  · simp [c1]
  · omega
  · simp [c1, c2]
  · simp [c2, c3]
  · simp [c1, c3]
theorem s_daysOf {Q : Int32 → AH → Prop} {h : AH} {y mo : Nat} (hy : y < 100000) (hm : mo < 1000) (k : Q (nI (d_md y mo)) h) : m_M_daysOf Q (nI y) (nI mo) h := by
  unfold m_M_daysOf m_M_daysOf_45 m_M_daysOf_52
  simp (disch := omega) only [lit_nI, nI_eq]
  unfold d_md at k
  refine ⟨fun c1 => ⟨fun c2 => ?_, fun c2 => ⟨fun c3 => ?_, fun c3 => ⟨fun c4 => ?_, fun c4 => ⟨fun c5 => ?_, fun c5 => ?_⟩⟩⟩⟩, fun c1 => s_leap hy (fun _ _ => ⟨fun c2 => ?_, fun c2 => ?_⟩)⟩
  · rw [if_neg c1, if_pos (by omega)] at k; exact k
  · rw [if_neg c1, if_pos (by omega)] at k; exact k
  · rw [if_neg c1, if_pos (by omega)] at k; exact k
  · rw [if_neg c1, if_neg (by omega)] at k; exact k
  · rw [if_neg c1, if_pos (by omega)] at k; exact k
  · rw [if_pos c1] at k
    cases hl : d_leap y with
    | true => rw [hl] at c2; exact absurd c2 (by decide)
    | false => rw [hl] at k; exact k
  · rw [if_pos c1] at k
    cases hl : d_leap y with
    | true => rw [hl] at k; exact k
    | false => rw [hl] at c2; exact absurd rfl c2
theorem leap_iff (y : Nat) : d_leap y = true ↔ (y % 4 = 0 ∧ (y % 100 ≠ 0 ∨ y % 400 = 0)) := by
  unfold d_leap
  simp
theorem dd_year {y : Nat} (hy : 1 ≤ y) : d_days (y + 1) 1 1 = d_days y 1 1 + (if d_leap y = true then 366 else 365) := by
  unfold d_days
  simp only [show (1 : Nat) < 3 from by decide, if_true]
  have hl := leap_iff y
  split
  · rename_i c
    have := hl.mp c
    omega
  · rename_i c
    have : ¬ (y % 4 = 0 ∧ (y % 100 ≠ 0 ∨ y % 400 = 0)) := fun q => c (hl.mpr q)
    omega
theorem dd_day {y mo d : Nat} : d_days y mo d = d_days y mo 1 + d - 1 := by
  unfold d_days
  omega
theorem dd_month {y mo : Nat} (hy : 1 ≤ y) (h1 : 1 ≤ mo) (h2 : mo ≤ 11) : d_days y (mo + 1) 1 = d_days y mo 1 + d_md y mo := by
  have hl := leap_iff y
  obtain rfl | rfl | rfl | rfl | rfl | rfl | rfl | rfl | rfl | rfl | rfl : mo = 1 ∨ mo = 2 ∨ mo = 3 ∨ mo = 4 ∨ mo = 5 ∨ mo = 6 ∨ mo = 7 ∨ mo = 8 ∨ mo = 9 ∨ mo = 10 ∨ mo = 11 := by omega
  · unfold d_days d_md; simp; omega
  · unfold d_days d_md
    simp only [Nat.reduceAdd, Nat.reduceLT, if_true, if_false, Nat.reduceMul, Nat.reduceSub, Nat.reduceDiv]
    split
    · rename_i c
      have := hl.mp c
      omega
    · rename_i c
      have : ¬ (y % 4 = 0 ∧ (y % 100 ≠ 0 ∨ y % 400 = 0)) := fun q => c (hl.mpr q)
      omega
  all_goals (unfold d_days d_md; simp; omega)
theorem dd_1970 : d_days 1970 1 1 = 0 := by decide
theorem s_daysBefore {Q : Int64 → AH → Prop} {h : AH} {y : Nat} (hy0 : 1 ≤ y) (hy : y < 10000) (k : Q (lZ (d_days y 1 1)) h) : m_M_daysBefore Q (nI y) h := by
  unfold m_M_daysBefore m_M_daysBefore_6
  refine ⟨fun s => ∃ z, 1970 ≤ z ∧ (z ≤ y ∨ z = 1970) ∧ s = (lZ (d_days z 1 1), nI z, h), fun s => 10000 - s.2.1.toNatClampNeg, ⟨1970, by omega, by omega, by rw [dd_1970]; rfl⟩, ?_⟩
  rintro _ ⟨z, z1, z2, rfl⟩
  unfold m_M_daysBefore_6_b
  simp only
  rw [nI_leI (by omega) (by omega)]
  refine ⟨fun c1 => ?_, fun c1 => s_leap (by omega) ?_⟩
  · unfold m_M_daysBefore_38
    refine ⟨fun s => ∃ t, y ≤ t ∧ (t ≤ 1970 ∨ t = y) ∧ s = (lZ (d_days z 1 1 + d_days y 1 1 - d_days t 1 1), nI t, h), fun s => 10000 - s.2.1.toNatClampNeg, ⟨y, by omega, by omega, by rw [show d_days z 1 1 + d_days y 1 1 - d_days y 1 1 = d_days z 1 1 by omega]⟩, ?_⟩
    rintro _ ⟨t, t1, t2, rfl⟩
    unfold m_M_daysBefore_38_b m_M_daysBefore_62
    simp only
    rw [show (1970 : Int32) = nI 1970 from rfl, nI_leI (by omega) (by omega)]
    refine ⟨fun c2 => ?_, fun c2 => s_leap (by omega) ?_⟩
    · have : z = t := by omega
      subst this
      rw [show d_days z 1 1 + d_days y 1 1 - d_days z 1 1 = d_days y 1 1 by omega]
      exact k
    · have hd := dd_year (y := t) (by omega)
      have step : ∀ v : Int, v = (if d_leap t = true then 366 else 365) → (∃ t', y ≤ t' ∧ (t' ≤ 1970 ∨ t' = y) ∧ ((lZ (d_days z 1 1 + d_days y 1 1 - d_days t 1 1 - v), nI t + 1, h) : Int64 × Int32 × AH) = (lZ (d_days z 1 1 + d_days y 1 1 - d_days t' 1 1), nI t', h)) ∧ 10000 - (nI t + 1).toNatClampNeg < 10000 - (nI t).toNatClampNeg := fun v hv => by
        refine ⟨⟨t + 1, by omega, by omega, ?_⟩, ?_⟩
        · rw [nI_1, hd, ← hv, show d_days z 1 1 + d_days y 1 1 - (d_days t 1 1 + v) = d_days z 1 1 + d_days y 1 1 - d_days t 1 1 - v by omega]
        · rw [nI_1, nI_clamp (by omega), nI_clamp (by omega)]; omega
      rintro _ _
      rw [show (365 : Int64) = lZ 365 from rfl, show (366 : Int64) = lZ 366 from rfl, lZ_sub, lZ_sub]
      cases hl : d_leap t with
      | true =>
        refine ⟨fun c => absurd c (by decide), fun _ => ?_⟩
        rintro _ rfl _ rfl
        exact step 366 (by rw [hl]; rfl)
      | false =>
        refine ⟨fun _ => ?_, fun c => absurd rfl c⟩
        rintro _ rfl _ rfl
        exact step 365 (by rw [hl]; rfl)
  · have hd := dd_year (y := z) (by omega)
    have step : ∀ v : Int, v = (if d_leap z = true then 366 else 365) → (∃ z', 1970 ≤ z' ∧ (z' ≤ y ∨ z' = 1970) ∧ ((lZ (d_days z 1 1 + v), nI z + 1, h) : Int64 × Int32 × AH) = (lZ (d_days z' 1 1), nI z', h)) ∧ 10000 - (nI z + 1).toNatClampNeg < 10000 - (nI z).toNatClampNeg := fun v hv => by
      refine ⟨⟨z + 1, by omega, by omega, ?_⟩, ?_⟩
      · rw [nI_1, hd, ← hv]
      · rw [nI_1, nI_clamp (by omega), nI_clamp (by omega)]; omega
    unfold m_M_daysBefore_28
    rintro _ _
    rw [show (365 : Int64) = lZ 365 from rfl, show (366 : Int64) = lZ 366 from rfl, lZ_add, lZ_add]
    cases hl : d_leap z with
    | true =>
      refine ⟨fun c => absurd c (by decide), fun _ => ?_⟩
      rintro _ rfl _ rfl
      exact step 366 (by rw [hl]; rfl)
    | false =>
      refine ⟨fun _ => ?_, fun c => absurd rfl c⟩
      rintro _ rfl _ rfl
      exact step 365 (by rw [hl]; rfl)
