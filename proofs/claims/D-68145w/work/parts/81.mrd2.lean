set_option maxRecDepth 10000
theorem MB.at {h h1 : AH} {m x : Nat} {v : Int32} (a : MB h h1 m x) : MB h (up_I h1 m 20 v) m x := ⟨a.1.I, by rw [rI3 (by decide)]; exact a.2⟩
theorem MB.bad {h h1 : AH} {m x : Nat} (a : MB h h1 m x) : MB h (up_I h1 m 21 1) m x := ⟨a.1.I, rI1⟩
theorem MB.k {h h1 : AH} {m x : Nat} (a : MB h h1 m x) (hm : hp_k h m = 13) : hp_k h1 m = 13 := by rw [a.1.1.2.1]; exact hm
theorem s_MoidB {Q : AH → Prop} {h : AH} {m : Nat} {e : Int32} (hm : hp_k h m = 13) (hb : hp_I h m 21 = 1) (k : Q (up_I h m 21 1)) : m_M_oid Q m e h := by
  unfold m_M_oid
  refine ⟨hm, s_openB hm hb (fun _ => ⟨fun c => ?_, fun _ => k⟩)⟩
  rw [rI1] at c
  exact absurd c (by decide)
theorem s_Moid {Q : AH → Prop} {h : AH} {m st x bs n a e : Nat} {g : Nat → Nat} (K : ME h m st x bs n g) (hat : hp_I h m 20 = nI a) (hbad : hp_I h m 21 = 0) (he : e ≤ n) (ha : a ≤ n) (kB : d_oid g a e = none → ∀ h1, MB h h1 m x → Q h1) (kQ : ∀ f t, d_oid g a e = some (f, t) → Q (up_I h m 20 (nI t))) : m_M_oid Q m (nI e) h := by
  have k5 := K.2.2.2.2.1
  have hg := K.2.2.2.2.2.2.2.1
  unfold m_M_oid
  refine ⟨K.1, s_open K hat hbad he ha (by decide) (fun hd h1 hb _ => ⟨fun c => ?_, fun _ => kB (by unfold d_oid; rw [hd]; rfl) h1 hb⟩) (fun f t hd _ => ?_)⟩
  · rw [hb.2] at c; exact absurd c (by decide)
  have l1 := d_in_le hd
  have hdo : d_oid g a e = if 1 ≤ t - f ∧ t - f ≤ 32 ∧ g (t - 1) < 128 ∧ allB (d_oidb g f) f (t - f) = true then some (f, t) else none := by unfold d_oid; rw [hd]; rfl
  have X1 : MF h (up_I h m 20 (nI f)) m x := MF.rf.I
  have K1 := K.mf X1
  have b1 : hp_I (up_I h m 20 (nI f)) m 21 = 0 := by rw [rI3 (by decide)]; exact hbad
  have a1 : hp_I (up_I h m 20 (nI f)) m 20 = nI f := rI1
  have hu : ∀ v, up_I (up_I h m 20 (nI f)) m 20 v = up_I h m 20 v := fun v => uII
  generalize up_I h m 20 (nI f) = h1 at X1 K1 b1 a1 hu ⊢
  rw [b1, a1]
  refine ⟨fun _ => ?_, fun c => absurd rfl c⟩
  have lop : ∀ h2, (h2 = h1 ∧ 1 ≤ t - f ∧ t - f ≤ 32 ∧ g (t - 1) < 128) ∨ (MB h h2 m x ∧ hp_I h2 m 20 = nI f ∧ d_oid g a e = none) → m_M_oid_64 Q m (nI t) (nI f) h2 := fun h2 hc => by
    unfold m_M_oid_64
    refine ⟨fun s => ∃ k, f ≤ k ∧ (k ≤ t ∨ k = f) ∧ s.1 = nI k ∧ ((s.2 = h1 ∧ (1 ≤ t - f ∧ t - f ≤ 32 ∧ g (t - 1) < 128) ∧ ∀ j, f ≤ j → j < k → d_oidb g f j = true) ∨ (MB h s.2 m x ∧ d_oid g a e = none)), fun s => t + 1 - s.1.toNatClampNeg, ⟨f, by omega, Or.inr rfl, rfl, ?_⟩, ?_⟩
    · rcases hc with ⟨q1, q2⟩ | ⟨q1, -, q2⟩
      · exact Or.inl ⟨q1, q2, fun j _ _ => by omega⟩
      · exact Or.inr ⟨q1, q2⟩
    rintro ⟨s1, s2⟩ ⟨k, hk1, hk2, rfl, hs⟩
    simp only at hs ⊢
    unfold m_M_oid_64_b m_M_oid_123
    rw [nI_leI (by omega) (by omega)]
    rcases hs with ⟨rfl, hc, hal⟩ | ⟨hb, hn⟩
    rotate_left
    · have hm2 := hb.k K.1
      refine ⟨fun c1 => ⟨hm2, by rintro _ rfl; exact kB hn _ hb.at⟩, fun c1 => ⟨hm2, fun _ => ⟨hm2, by rintro _ rfl; exact kB hn _ hb.at⟩, fun c2 => ?_⟩⟩
      rw [hb.2] at c2
      exact absurd c2 (by decide)
    refine ⟨fun c1 => ⟨K1.1, ?_⟩, fun c1 => ⟨K1.1, fun c2 => absurd b1 c2, fun _ => s_here K1 (by omega) (fun _ => ?_)⟩⟩
    · rintro _ rfl
      rw [hu]
      exact kQ f t (by rw [hdo, if_pos ⟨hc.1, hc.2.1, hc.2.2, allB_iff.mpr fun i hi => hal (f + i) (by omega) (by omega)⟩])
    have hgk := hg k (by omega)
    have yes : d_oidb g f k = true → m_M_oid_109 Q (fun s' => (∃ k, f ≤ k ∧ (k ≤ t ∨ k = f) ∧ s'.1 = nI k ∧ ((s'.2 = s2 ∧ (1 ≤ t - f ∧ t - f ≤ 32 ∧ g (t - 1) < 128) ∧ ∀ j, f ≤ j → j < k → d_oidb g f j = true) ∨ (MB h s'.2 m x ∧ d_oid g a e = none))) ∧ t + 1 - s'.1.toNatClampNeg < t + 1 - (nI k).toNatClampNeg) m (nI t) (nI k) m s2 := fun hy => by
      refine ⟨K1.1, s_need1 (fun _ => ?_)⟩
      rintro _ rfl
      refine ⟨⟨k + 1, by omega, Or.inl (by omega), nI_1 k, Or.inl ⟨rfl, hc, fun j h1 h2 => ?_⟩⟩, ?_⟩
      · by_cases hj : j = k
        · rw [hj]; exact hy
        · exact hal j h1 (by omega)
      · simp only [nI_1]
        rw [nI_clamp (by omega), nI_clamp (by omega)]
        omega
    have no : d_oidb g f k = false → m_M_oid_113 Q (fun s' => (∃ k, f ≤ k ∧ (k ≤ t ∨ k = f) ∧ s'.1 = nI k ∧ ((s'.2 = s2 ∧ (1 ≤ t - f ∧ t - f ≤ 32 ∧ g (t - 1) < 128) ∧ ∀ j, f ≤ j → j < k → d_oidb g f j = true) ∨ (MB h s'.2 m x ∧ d_oid g a e = none))) ∧ t + 1 - s'.1.toNatClampNeg < t + 1 - (nI k).toNatClampNeg) m (nI t) (nI k) m s2 := fun hy => by
      refine ⟨K1.1, s_need0 K1.1 (fun _ => ?_)⟩
      rintro _ rfl
      refine ⟨⟨k + 1, by omega, Or.inl (by omega), nI_1 k, Or.inr ⟨MB.of X1, ?_⟩⟩, ?_⟩
      · rw [hdo, if_neg]
        rintro ⟨-, -, -, hq⟩
        rw [allB_no (i := k - f) (by omega) (by rw [show f + (k - f) = k by omega]; exact hy)] at hq
        cases hq
      · simp only [nI_1]
        rw [nI_clamp (by omega), nI_clamp (by omega)]
        omega
    rw [show (128 : Int32) = nI 128 from rfl, nI_eq (by omega) (by omega), a1, nI_leI (by omega) (by omega)]
    refine ⟨fun c3 => yes (by simp [d_oidb, c3]), fun c3 => ⟨fun c4 => no ?_, fun c4 => ?_⟩⟩
    · have : k = f := by omega
      unfold d_oidb; rw [c3]; simp [this]
    · rw [show (1 : Int32) = nI 1 from rfl, nI_sub (by omega)]
      have hg2 := hg (k - 1) (by omega)
      refine s_here K1 (by omega) (fun _ => ?_)
      rw [nI_ltI (by omega) (by omega)]
      exact ⟨fun c5 => no (by unfold d_oidb; rw [c3]; simp [c5]), fun c5 => yes (by unfold d_oidb; rw [c3]; simp; omega)⟩
  have neg : d_oid g a e = none → m_M_oid_55 Q m (nI t) m h1 := fun hn => by
    refine ⟨K1.1, s_need0 K1.1 (fun _ => ⟨K1.1, ?_⟩)⟩
    rw [rI3 (by decide), a1]
    rintro _ rfl
    exact lop _ (Or.inr ⟨MB.of X1, by rw [rI3 (by decide)]; exact a1, hn⟩)
  simp (disch := omega) only [lit_nI, nI_sub, nI_ltI]
  refine ⟨fun c1 => neg (by rw [hdo, if_neg (by omega)]), fun c1 => ⟨fun c2 => neg (by rw [hdo, if_neg (by omega)]), fun c2 => s_here K1 (by omega) (fun _ => ?_)⟩⟩
  have hgt := hg (t - 1) (by omega)
  rw [nI_leI (by omega) (by omega)]
  refine ⟨fun c3 => neg (by rw [hdo, if_neg (by omega)]), fun c3 => ⟨K1.1, s_need1 (fun _ => ⟨K1.1, ?_⟩)⟩⟩
  rw [a1]
  rintro _ rfl
  exact lop _ (Or.inl ⟨rfl, by omega, by omega, by omega⟩)
