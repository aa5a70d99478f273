set_option maxRecDepth 10000
theorem d_any_le {g : Nat → Nat} {a e f t : Nat} (hd : d_any g a e = some (f, t)) : a + 2 ≤ f ∧ f ≤ t ∧ t ≤ e := by
  have hq : d_in g (g a) a e = some (f, t) := by
    unfold d_any at hd
    unfold d_in
    split at hd
    · rename_i c; rw [if_pos ⟨c, rfl⟩]; exact hd
    · cases hd
  exact d_in_le hq
theorem d_any_in {g : Nat → Nat} {a e : Nat} : d_in g (g a) a e = d_any g a e := by
  unfold d_in d_any
  by_cases h : a + 2 ≤ e
  · rw [if_pos ⟨h, rfl⟩, if_pos h]
  · rw [if_neg (fun q => h q.1), if_neg h]
theorem bit_z : ∀ z, z < 8 → ∀ u, u < 256 → ((nI u >>> (nI z &&& 31)) &&& 1 = nI (u / 2 ^ z % 2)) := by decide +kernel
theorem d_tzf_st : ∀ k u, d_tzf (k + 1) u = if u % 2 = 1 then 0 else d_tzf k (u / 2) + 1 := fun _ _ => rfl
/-- the last zeros by a loop -/
theorem s_zeros {Q : AH → Prop} {h : AH} {m u : Nat} {x2 : Int32} (hm : hp_k h m = 13) (hbad : hp_I h m 21 = 0) (hu : u < 256) (h1 : 1 ≤ u) (k : m_M_usage_128 Q m x2 (nI (d_tz u)) h) : m_M_usage_106 Q m x2 (nI u) 0 h := by
  refine ⟨fun s => ∃ z, z < 8 ∧ s = (nI z, h) ∧ d_tzf (8 - z) (u / 2 ^ z) + z = d_tz u ∧ 1 ≤ u / 2 ^ z, fun s => 8 - s.1.toNatClampNeg, ⟨0, by decide, rfl, by simp [d_tz], by simpa using h1⟩, ?_⟩
  rintro _ ⟨z, hz, rfl, hd, hp⟩
  refine ⟨hm, fun c => absurd hbad c, fun _ => ?_⟩
  simp only
  rw [bit_z z hz u hu, show (0 : Int32) = nI 0 from rfl, nI_eq (by omega) (by omega)]
  obtain ⟨j, hj⟩ : ∃ j, 8 - z = j + 1 := ⟨7 - z, by omega⟩
  rw [hj, d_tzf_st] at hd
  refine ⟨fun c => ?_, fun c => ?_⟩
  · rw [if_pos (by omega)] at hd
    rw [show z = d_tz u by omega]
    exact k
  · rintro _ rfl
    rw [if_neg (by omega)] at hd
    have e2 : u / 2 ^ (z + 1) = u / 2 ^ z / 2 := by rw [Nat.pow_succ, Nat.div_div_eq_div_mul]
    have hz7 : z < 7 := by
      apply Classical.byContradiction
      intro hc
      have : z = 7 := by omega
      subst this
      simp only [Nat.reducePow] at c hp e2
      omega
    refine ⟨⟨z + 1, by omega, by rw [nI_1], ?_, ?_⟩, ?_⟩
    · rw [e2, show 8 - (z + 1) = j by omega]; omega
    · rw [e2]; omega
    · simp only [nI_1]
      rw [nI_clamp (by omega), nI_clamp (by omega)]
      omega
theorem s_Musage {Q : AH → Prop} {h : AH} {m st x bs n a e : Nat} {g : Nat → Nat} {F : Nat → Int32} (K : ME h m st x bs n g) (hat : hp_I h m 20 = nI a) (hbad : hp_I h m 21 = 0) (he : e ≤ n) (ha : a ≤ n) (V : MV h m F) (kB : (∀ F', d_usage g a e F ≠ some (e, F')) → ∀ h1, MB h h1 m x → Q h1) (kQ : ∀ F', d_usage g a e F = some (e, F') → ∀ h1, MX h h1 m x e F' → Q h1) : m_M_usage Q m (nI e) h := by
  have k5 := K.2.2.2.2.1
  have hg := K.2.2.2.2.2.2.2.1
  have hxm := K.xm
  have Y0 : MX h h m x a F := MX.rf hat hbad V
  generalize hp : d_usage g a e F = P at kB kQ
  unfold d_usage at hp
  refine ⟨K.1, s_open K hat hbad he ha (by decide) (fun hd h1 hb _ => ⟨fun c => ?_, fun _ => kB (fun F' q => ?_) h1 hb⟩) (fun f t hd _ => ?_)⟩
  · rw [hb.2] at c; exact absurd c (by decide)
  · rw [← hp, hd] at q; cases q
  have l1 := d_in_le hd
  rw [hd] at hp
  simp only [Option.bind_some] at hp
  have Y1 := Y0.at hxm f
  generalize up_I h m 20 (nI f) = h1 at Y1 ⊢
  have X1 := Y1.1
  have a1 := Y1.2.1
  have b1 := Y1.2.2.1
  have K1 := K.mf X1
  have nop : ¬ (t = e ∧ (t - f = 2 ∨ t - f = 3 ∧ g (f + 2) = 128) ∧ g (t - 1) ≠ 0 ∧ g f = d_tz (g (t - 1))) → ∀ h1, MB h h1 m x → Q h1 := fun hn => kB (fun F' q => by
    rw [← hp] at q
    split at q
    · cases q; rename_i z; exact hn ⟨rfl, z⟩
    · cases q)
  have neg : ¬ (t = e ∧ (t - f = 2 ∨ t - f = 3)) → m_M_usage_45 Q m (nI t) m h1 := fun hn => ⟨K1.1, s_need0 K1.1 (fun _ => ⟨K1.1, fun c => by rw [rI1] at c; exact absurd c (by decide), fun _ => nop (by omega) _ (MB.of X1)⟩)⟩
  refine ⟨fun _ => ?_, fun c => absurd b1 c⟩
  rw [a1, nI_sub (by omega)]
  simp (disch := omega) only [lit_nI, nI_eq]
  have pos : t = e → (t - f = 2 ∨ t - f = 3) → m_M_usage_41 Q m (nI t) m h1 := fun h2e h23 => by
    refine ⟨K1.1, s_need1 (fun _ => ⟨K1.1, fun _ => ?_, fun c => absurd b1 c⟩)⟩
    rw [show (1 : Int32) = nI 1 from rfl, nI_sub (by omega)]
    have hgt := hg (t - 1) (by omega)
    have hgf := hg f (by omega)
    refine s_here K1 (by omega) (fun _ => ?_)
    rw [a1, nI_sub (by omega)]
    have last : ∀ (h2 : AH) (z : Nat), z < 256 → MF h h2 m x → hp_I h2 m 20 = nI f → (hp_I h2 m 21 = 1 ∧ (∀ h1, MB h h1 m x → Q h1)) ∨ (h2 = h1 ∧ (g f ≠ z → ∀ h1, MB h h1 m x → Q h1) ∧ (g f = z → P = some (t, up F 22 (nI (g (f + 1)))))) → m_M_usage_128 Q m (nI t) (nI z) h2 := fun h2 z hz X2 a2 hc => by
      have K2 := K.mf X2
      have hgf1 := hg (f + 1) (by omega)
      refine ⟨K2.1, ?_⟩
      rw [a2]
      refine s_here K2 (by omega) (fun _ => ?_)
      rw [nI_eq (by omega) (by omega)]
      have out : ∀ h3, MB h h3 m x → hp_I h3 m 20 = nI f → (∀ h1, MB h h1 m x → Q h1) → hp_k h3 m = 13 ∧ m_M_here (fun v1 h2 => fx_ext h3 h2 → ∀ h3 : AH, h3 = up_I h2 m 28 v1 → ∀ h4 : AH, h4 = up_I h3 m 20 (nI t) → Q h4) m (hp_I h3 m 20 + (1 : Int32)) h3 := fun h3 hb a3 hq => by
        refine ⟨hb.k K.1, ?_⟩
        rw [a3, nI_1]
        refine s_here (K.mf hb.1) (by omega) (fun _ => ?_)
        rintro _ rfl _ rfl
        exact hq _ (hb.set.at)
      refine ⟨fun c1 => ⟨K2.1, s_need0 K2.1 (fun _ => ?_)⟩, fun c1 => ⟨K2.1, s_need1 (fun _ => ?_)⟩⟩
      · refine out _ (MB.of X2) (by rw [rI3 (by decide)]; exact a2) ?_
        rcases hc with ⟨-, hq⟩ | ⟨-, hq, -⟩
        · exact hq
        · exact hq c1
      · rcases hc with ⟨hb, hq⟩ | ⟨rfl, hq, hy⟩
        · exact out _ ⟨X2, hb⟩ a2 hq
        · refine ⟨K2.1, ?_⟩
          rw [a2, nI_1]
          refine s_here K2 (by omega) (fun _ => ?_)
          rintro _ rfl _ rfl
          rw [h2e]
          exact kQ _ (by rw [← h2e]; exact hy c1) _ ((Y1.set hxm 22 (v := nI (g (f + 1)))).at hxm e)
    have bd : ∀ v, (∀ h1, MB h h1 m x → Q h1) → m_M_usage_100 Q m (nI t) v m 0 h1 := fun v hq => by
      refine ⟨K1.1, s_need0 K1.1 (fun _ => ?_)⟩
      refine ⟨fun s => s = (0, up_I h1 m 21 1), fun _ => 0, rfl, ?_⟩
      rintro _ rfl
      refine ⟨K1.1, fun _ => ?_, fun c => ?_⟩
      · exact last _ 0 (by decide) (MB.of X1).1 (by rw [rI3 (by decide)]; exact a1) (Or.inl ⟨rI1, hq⟩)
      · rw [rI1] at c; exact absurd c (by decide)
    have gd : g (t - 1) ≠ 0 → (t - f = 2 ∨ t - f = 3 ∧ g (f + 2) = 128) → m_M_usage_100 Q m (nI t) (nI (g (t - 1))) m 1 h1 := fun hz hc => by
      refine ⟨K1.1, s_need1 (fun _ => ?_)⟩
      have := (tz_eq (g (t - 1)) hgt (by omega)).2
      refine s_zeros K1.1 b1 hgt (by omega) (last h1 _ (by omega) X1 a1 (Or.inr ⟨rfl, fun hn => nop (fun q => hn q.2.2.2), fun hy => ?_⟩))
      rw [← hp, if_pos ⟨hc, hz, hy⟩]
    simp (disch := omega) only [lit_nI, nI_eq]
    refine ⟨fun c1 => ⟨fun c2 => bd _ (nop ?_), fun c2 => gd (by omega) (Or.inr ⟨by omega, ?_⟩)⟩, fun c1 => ⟨fun c2 => bd _ (nop (fun q => q.2.2.1 c2)), fun c2 => gd c2 (Or.inl c1)⟩⟩
    · rintro ⟨-, q, -⟩
      have e1 : f + 2 = t - 1 := by omega
      rw [e1] at q
      omega
    · rw [show f + 2 = t - 1 by omega]; exact c2
  exact ⟨fun c => neg (by omega), fun c => ⟨fun c2 => pos c (Or.inl c2), fun c2 => ⟨fun c3 => neg (by omega), fun c3 => pos c (Or.inr c3)⟩⟩⟩
