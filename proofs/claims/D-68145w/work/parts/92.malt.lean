set_option maxRecDepth 10000
theorem d_oid_hd {g : Nat → Nat} {a e f t : Nat} (h : d_oid g a e = some (f, t)) : f = a + 2 ∧ f < t ∧ t ≤ e ∧ t - f ≤ 32 := by
  unfold d_oid at h
  cases hd : d_in g 6 a e with
  | none => rw [hd] at h; cases h
  | some p =>
  rw [hd] at h
  simp only [Option.bind_some] at h
  have l := d_in_le hd
  split at h
  · rename_i c
    cases h
    simp only at c l
    refine ⟨?_, by omega, by omega, by omega⟩
    unfold d_in d_hd at hd
    split at hd
    · split at hd
      · split at hd
        · cases hd; rfl
        · cases hd
      · split at hd
        · rename_i q
          cases hd
          omega
        · cases hd
    · cases hd
  · cases h
theorem d_hsl_e {g : Nat → Nat} {e : Nat} : ∀ {k a : Nat} {F : Nat → Int32} {q : Nat × (Nat → Int32)}, d_hsl g e k a F = some q → a ≤ e → q.1 = e
  | 0, _, _, _, h, _ => by cases h
  | k + 1, a, F, q, h, ha => by
    simp only [d_hsl] at h
    split at h
    · split at h
      · cases h1 : d_in g (g a) a e with
        | none => rw [h1] at h; cases h
        | some p =>
        rw [h1] at h
        simp only [Option.bind_some] at h
        have := d_in_le h1
        split at h
        · split at h
          · cases h
          · exact d_hsl_e h (by omega)
        · exact d_hsl_e h (by omega)
      · cases h
    · cases h
      simp only
      omega
theorem d_ppl_e {g : Nat → Nat} {e : Nat} : ∀ {k a : Nat} {F : Nat → Int32} {q : Nat × (Nat → Int32)}, d_ppl g e k a F = some q → a ≤ e → q.1 = e
  | 0, _, _, _, h, _ => by cases h
  | k + 1, a, F, q, h, ha => by
    simp only [d_ppl] at h
    split at h
    · cases h1 : d_oid g a e with
      | none => rw [h1] at h; cases h
      | some p =>
      rw [h1] at h
      simp only [Option.bind_some] at h
      have := d_oid_hd h1
      exact d_ppl_e h (by omega)
    · cases h
      simp only
      omega
theorem s_Malt {Q : AH → Prop} {h : AH} {m st x bs n a e : Nat} {g : Nat → Nat} {F : Nat → Int32} (K : ME h m st x bs n g) (hat : hp_I h m 20 = nI a) (hbad : hp_I h m 21 = 0) (he : e ≤ n) (ha : a ≤ n) (V : MV h m F) (kB : (∀ F', d_hosts g a e F ≠ some (e, F')) → ∀ h1, MB h h1 m x → Q h1) (kQ : ∀ F', d_hosts g a e F = some (e, F') → ∀ h1, MX h h1 m x e F' → Q h1) : m_M_alternatives Q m (nI e) h := by
  have k5 := K.2.2.2.2.1
  have hg := K.2.2.2.2.2.2.2.1
  have hxm := K.xm
  have Y0 : MX h h m x a F := MX.rf hat hbad V
  generalize hp : d_hosts g a e F = P at kB kQ
  unfold d_hosts at hp
  refine ⟨K.1, s_open K hat hbad he ha (by decide) (fun hd h1 hb _ => ⟨fun c => ?_, fun _ => kB (fun F' q => ?_) h1 hb⟩) (fun f t hd _ => ?_)⟩
  · rw [hb.2] at c; exact absurd c (by decide)
  · rw [← hp, hd] at q; cases q
  have l1 := d_in_le hd
  rw [hd] at hp
  simp only [Option.bind_some] at hp
  have Y1 := Y0.at hxm f
  generalize up_I h m 20 (nI f) = h1 at Y1 ⊢
  have X1 := Y1.1
  have a1 := Y1.2.1
  have b1 := Y1.2.2.1
  have K1 := K.mf X1
  have lb : ∀ s, MB h s m x → (∀ h1, MB h h1 m x → Q h1) → m_M_alternatives_51 Q m (nI t) s := fun s hb hq => by
    refine ⟨fun s => MB h s m x, fun _ => 0, hb, ?_⟩
    intro s hs
    refine ⟨hs.k K.1, fun _ => hq s hs, fun c => ?_⟩
    rw [hs.2] at c
    exact absurd c (by decide)
  have neg : ¬ (t = e ∧ f < t) → m_M_alternatives_34 Q m (nI t) m h1 := fun hn => ⟨K1.1, s_need0 K1.1 (fun _ => ⟨K1.1, by
    rintro _ rfl _ rfl
    refine lb _ ((MB.of X1).set.set) (kB (fun F' q => ?_))
    rw [← hp] at q
    split at q
    · cases q
    · have := d_hsl_e q (by omega)
      simp only at this
      omega⟩)⟩
  refine ⟨fun _ => ?_, fun c => absurd b1 c⟩
  rw [a1, nI_leI (by omega) (by omega), nI_eq (by omega) (by omega)]
  refine ⟨fun c => neg (by omega), fun c => ⟨fun c2 => neg (by omega), fun c2 => ⟨K1.1, s_need1 (fun _ => ⟨K1.1, ?_⟩)⟩⟩⟩
  subst c
  rw [if_neg (by omega)] at hp
  rw [a1]
  rintro _ rfl _ rfl
  have Y2 := (Y1.set hxm 24 (v := nI f)).set hxm 25 (v := nI t)
  rw [show mo 24 = 42 from rfl, show mo 25 = 43 from rfl] at Y2
  generalize up_I (up_I h1 m 42 (nI f)) m 43 (nI t) = h2 at Y2 ⊢
  refine ⟨fun s => (MB h s m x ∧ ∀ F', P ≠ some (t, F')) ∨ (∃ a' F' k, MX h s m x a' F' ∧ a' ≤ t ∧ t + 1 ≤ k + a' ∧ d_hsl g t k a' F' = P), fun s => if hp_I s m 21 = 0 then t + 1 - (hp_I s m 20).toNatClampNeg + 1 else 0, Or.inr ⟨f, _, t + 1, Y2, by omega, by omega, hp⟩, ?_⟩
  rintro s (⟨hs, hn⟩ | ⟨a', F', k, Y, c1, c3, c4⟩)
  · refine ⟨hs.k K.1, fun _ => kB hn s hs, fun c => ?_⟩
    rw [hs.2] at c
    exact absurd c (by decide)
  have X3 := Y.1
  have a3 := Y.2.1
  have b3 := Y.2.2.1
  have K3 := K.mf X3
  obtain ⟨k', rfl⟩ : ∃ k', k = k' + 1 := ⟨k - 1, by omega⟩
  simp only [d_hsl] at c4
  refine ⟨K3.1, fun c => absurd b3 c, fun _ => ?_⟩
  rw [a3, nI_leI (by omega) (by omega)]
  refine ⟨fun c => ?_, fun c => s_here K3 (by omega) (fun _ => ?_)⟩
  · have : a' = t := by omega
    subst this
    rw [if_neg (by omega)] at c4
    exact kQ F' c4.symm s Y
  rw [if_pos (by omega)] at c4
  have hga := hg a' (by omega)
  have no : ¬ ((128 ≤ g a' ∧ g a' < 192) ∧ g a' % 32 ≤ 8 ∧ g a' ≠ 162) → ∀ X, m_M_alternatives_115 Q X m (nI t) (nI (g a')) m s := fun hn X => by
    refine ⟨K3.1, s_need0 K3.1 (fun _ => ⟨K3.1, s_openB K3.1 rI1 (fun _ => ⟨fun c => ?_, fun _ => ?_⟩)⟩)⟩
    · rw [rI1] at c; exact absurd c (by decide)
    · rw [if_neg hn] at c4
      exact kB (fun F'' q => by rw [← c4] at q; cases q) _ (MB.of X3).bad
  have bm : ∀ h2 v, MB h h2 m x → (∀ F', P ≠ some (t, F')) → m_M_alternatives_170 Q (fun s' => ((MB h s' m x ∧ ∀ F', P ≠ some (t, F')) ∨ (∃ a' F' k, MX h s' m x a' F' ∧ a' ≤ t ∧ t + 1 ≤ k + a' ∧ d_hsl g t k a' F' = P)) ∧ (if hp_I s' m 21 = 0 then t + 1 - (hp_I s' m 20).toNatClampNeg + 1 else 0) < (if hp_I s m 21 = 0 then t + 1 - (hp_I s m 20).toNatClampNeg + 1 else 0)) m (nI t) v h2 := fun h2 v hb hn => by
    refine ⟨hb.k K.1, ?_⟩
    rintro _ rfl
    refine ⟨Or.inl ⟨hb.at, hn⟩, ?_⟩
    rw [hb.at.2, if_neg (by decide), if_pos b3]
    omega
  have gm : ∀ h2 v F2, v ≤ t → a' < v → MX h h2 m x v F2 → d_hsl g t k' v F2 = P → (if hp_I h2 m 21 = 0 then t + 1 - (hp_I h2 m 20).toNatClampNeg + 1 else 0) < (if hp_I s m 21 = 0 then t + 1 - (hp_I s m 20).toNatClampNeg + 1 else 0) := fun h2 v F2 hv hav Y2 _ => by
    rw [if_pos Y2.2.2.1, if_pos b3, Y2.2.1, a3, nI_clamp (by omega), nI_clamp (by omega)]
    omega
  have yes : ((128 ≤ g a' ∧ g a' < 192) ∧ g a' % 32 ≤ 8 ∧ g a' ≠ 162) → m_M_alternatives_111 Q (fun s' => ((MB h s' m x ∧ ∀ F', P ≠ some (t, F')) ∨ (∃ a' F' k, MX h s' m x a' F' ∧ a' ≤ t ∧ t + 1 ≤ k + a' ∧ d_hsl g t k a' F' = P)) ∧ (if hp_I s' m 21 = 0 then t + 1 - (hp_I s' m 20).toNatClampNeg + 1 else 0) < (if hp_I s m 21 = 0 then t + 1 - (hp_I s m 20).toNatClampNeg + 1 else 0)) m (nI t) (nI (g a')) m s := fun hy => by
    rw [if_pos hy, d_any_in] at c4
    refine ⟨K3.1, s_need1 (fun _ => ⟨K3.1, s_openA K3 a3 b3 (by omega) (by omega) (fun hd h3 hb _ => ⟨fun c => ?_, fun _ => kB (fun F'' q => ?_) _ (hb.pre X3)⟩) (fun v0 v1 hd _ => ?_)⟩)⟩
    · rw [hb.2] at c; exact absurd c (by decide)
    · rw [← c4, hd] at q; cases q
    have l2 := d_any_le hd
    rw [hd] at c4
    simp only [Option.bind_some] at c4
    have Y4 := Y.at hxm v0
    generalize up_I s m 20 (nI v0) = h4 at Y4 ⊢
    have K4 := K.mf Y4.1
    refine ⟨fun _ => ?_, fun c => absurd Y4.2.2.1 c⟩
    rw [Y4.2.1, show (130 : Int32) = nI 130 from rfl, nI_eq (by omega) (by omega), nI_leI (by omega) (by omega)]
    refine ⟨fun q1 => ⟨K4.1, ?_⟩, fun q1 => ⟨fun q2 => ⟨K4.1, s_need0 K4.1 (fun _ => ⟨K4.1, ?_⟩)⟩, fun q2 => ⟨K4.1, s_need1 (fun _ => ⟨K4.1, ?_⟩)⟩⟩⟩
    · rintro _ rfl
      rw [if_neg (by omega)] at c4
      have Y5 := Y4.at hxm v1
      exact ⟨Or.inr ⟨v1, _, k', Y5, by omega, by omega, c4⟩, gm _ v1 _ (by omega) (by omega) Y5 c4⟩
    · rintro _ rfl
      rw [if_pos (by omega), if_pos (by omega)] at c4
      exact bm _ _ ((MB.of Y4.1).set) (fun F'' q => by rw [← c4] at q; cases q)
    · rintro _ rfl
      refine ⟨K4.1, ?_⟩
      rintro _ rfl
      rw [if_pos (by omega), if_neg (by omega)] at c4
      have e26 : hp_I h4 m 30 = F' 26 := Y4.2.2.2.1 26 (by decide) (by decide) (by decide)
      rw [e26]
      have Y5 := (Y4.set hxm 26 (v := F' 26 + 1)).at hxm v1
      rw [show mo 26 = 30 from rfl] at Y5
      exact ⟨Or.inr ⟨v1, _, k', Y5, by omega, by omega, c4⟩, gm _ v1 _ (by omega) (by omega) Y5 c4⟩
  have r90 : ¬ (128 ≤ g a' ∧ g a' ≤ 136) → m_M_alternatives_90 Q (fun s' => ((MB h s' m x ∧ ∀ F', P ≠ some (t, F')) ∨ (∃ a' F' k, MX h s' m x a' F' ∧ a' ≤ t ∧ t + 1 ≤ k + a' ∧ d_hsl g t k a' F' = P)) ∧ (if hp_I s' m 21 = 0 then t + 1 - (hp_I s' m 20).toNatClampNeg + 1 else 0) < (if hp_I s m 21 = 0 then t + 1 - (hp_I s m 20).toNatClampNeg + 1 else 0)) m (nI t) (nI (g a')) m s := fun hn => by
    unfold m_M_alternatives_90
    simp (disch := omega) only [lit_nI, nI_eq, nI_ltI]
    exact ⟨fun q1 => no (by omega) _, fun q1 => ⟨fun q2 => no (by omega) _, fun q2 => ⟨fun q3 => no (by omega) _, fun q3 => yes (by omega)⟩⟩⟩
  simp (disch := omega) only [lit_nI, nI_leI, nI_ltI]
  exact ⟨fun q1 => r90 (by omega), fun q1 => ⟨fun q2 => yes (by omega), fun q2 => r90 (by omega)⟩⟩
theorem ko57 : ∀ i, i < 7 → ((sh_lr (12110025447507715 : Int64) (nI (8 * (7 - 1 - i)))) &&& 255).toInt32 = nI (ko 5 i) ∧ ko 5 i < 256 := by decide +kernel
theorem ko567 : (∀ i, i < 7 → ko 6 i = ko 5 i) ∧ ko 5 7 = 1 ∧ ko 6 7 = 2 := by decide +kernel
theorem allB_s {p : Nat → Bool} {a k : Nat} : allB p a (k + 1) = (allB p a k && p (a + k)) := rfl
theorem allB_cg {p p' : Nat → Bool} {a : Nat} : ∀ {k : Nat}, (∀ i, i < k → p (a + i) = p' (a + i)) → allB p a k = allB p' a k
  | 0, _ => rfl
  | k + 1, h => by rw [allB_s, allB_s, allB_cg (k := k) (fun i hi => h i (by omega)), h k (by omega)]
theorem d_is5 {g : Nat → Nat} {f t : Nat} : d_is g (ko 5) 8 f t = (decide (t - f = 8) && (allB (fun j => g (f + j) == ko 5 j) 0 7 && (g (f + 7) == 1))) := by
  unfold d_is
  rw [allB_s (k := 7), Nat.zero_add, ko567.2.1]
theorem d_is6 {g : Nat → Nat} {f t : Nat} : d_is g (ko 6) 8 f t = (decide (t - f = 8) && (allB (fun j => g (f + j) == ko 5 j) 0 7 && (g (f + 7) == 2))) := by
  unfold d_is
  rw [allB_s (k := 7), Nat.zero_add, ko567.2.2, allB_cg (p := fun j => g (f + j) == ko 6 j) (p' := fun j => g (f + j) == ko 5 j) (k := 7) (fun i hi => by simp only [Nat.zero_add]; rw [ko567.1 i hi])]
theorem s_Mpurp {Q : AH → Prop} {h : AH} {m st x bs n a e : Nat} {g : Nat → Nat} {F : Nat → Int32} (K : ME h m st x bs n g) (hat : hp_I h m 20 = nI a) (hbad : hp_I h m 21 = 0) (he : e ≤ n) (ha : a ≤ n) (V : MV h m F) (kB : (∀ F', d_purp g a e F ≠ some (e, F')) → ∀ h1, MB h h1 m x → Q h1) (kQ : ∀ F', d_purp g a e F = some (e, F') → ∀ h1, MX h h1 m x e F' → Q h1) : m_M_purposes Q m (nI e) h := by
  have k5 := K.2.2.2.2.1
  have hg := K.2.2.2.2.2.2.2.1
  have hxm := K.xm
  have Y0 : MX h h m x a F := MX.rf hat hbad V
  generalize hp : d_purp g a e F = P at kB kQ
  unfold d_purp at hp
  refine ⟨K.1, s_open K hat hbad he ha (by decide) (fun hd h1 hb _ => ⟨fun c => ?_, fun _ => kB (fun F' q => ?_) h1 hb⟩) (fun f t hd _ => ?_)⟩
  · rw [hb.2] at c; exact absurd c (by decide)
  · rw [← hp, hd] at q; cases q
  have l1 := d_in_le hd
  rw [hd] at hp
  simp only [Option.bind_some] at hp
  have Y1 := Y0.at hxm f
  generalize up_I h m 20 (nI f) = h1 at Y1 ⊢
  have X1 := Y1.1
  have a1 := Y1.2.1
  have b1 := Y1.2.2.1
  have K1 := K.mf X1
  have lb : ∀ s, MB h s m x → (∀ h1, MB h h1 m x → Q h1) → m_M_purposes_43 Q m (nI t) s := fun s hb hq => by
    refine ⟨fun s => MB h s m x, fun _ => 0, hb, ?_⟩
    intro s hs
    refine ⟨hs.k K.1, fun _ => hq s hs, fun c => ?_⟩
    rw [hs.2] at c
    exact absurd c (by decide)
  have neg : ¬ (t = e ∧ f < t) → m_M_purposes_34 Q m (nI t) m h1 := fun hn => ⟨K1.1, s_need0 K1.1 (fun _ => ⟨K1.1, by
    rintro _ rfl
    refine lb _ ((MB.of X1).set) (kB (fun F' q => ?_))
    rw [← hp] at q
    split at q
    · cases q
    · have := d_ppl_e q (by omega)
      simp only at this
      omega⟩)⟩
  refine ⟨fun _ => ?_, fun c => absurd b1 c⟩
  rw [a1, nI_leI (by omega) (by omega), nI_eq (by omega) (by omega)]
  refine ⟨fun c => neg (by omega), fun c => ⟨fun c2 => neg (by omega), fun c2 => ⟨K1.1, s_need1 (fun _ => ⟨K1.1, ?_⟩)⟩⟩⟩
  subst c
  rw [if_neg (by omega)] at hp
  rintro _ rfl
  have Y2 := (Y1.set hxm 23 (v := 0))
  rw [show mo 23 = 29 from rfl] at Y2
  generalize up_I h1 m 29 0 = h2 at Y2 ⊢
  refine ⟨fun s => (MB h s m x ∧ ∀ F', P ≠ some (t, F')) ∨ (∃ a' F' k, MX h s m x a' F' ∧ a' ≤ t ∧ t + 1 ≤ k + a' ∧ d_ppl g t k a' F' = P), fun s => if hp_I s m 21 = 0 then t + 1 - (hp_I s m 20).toNatClampNeg + 1 else 0, Or.inr ⟨f, _, t + 1, Y2, by omega, by omega, hp⟩, ?_⟩
  rintro s (⟨hs, hn⟩ | ⟨a', F', k, Y, c1, c3, c4⟩)
  · refine ⟨hs.k K.1, fun _ => kB hn s hs, fun c => ?_⟩
    rw [hs.2] at c
    exact absurd c (by decide)
  have X3 := Y.1
  have a3 := Y.2.1
  have b3 := Y.2.2.1
  have K3 := K.mf X3
  obtain ⟨k', rfl⟩ : ∃ k', k = k' + 1 := ⟨k - 1, by omega⟩
  simp only [d_ppl] at c4
  refine ⟨K3.1, fun c => absurd b3 c, fun _ => ?_⟩
  rw [a3, nI_leI (by omega) (by omega)]
  refine ⟨fun c => ?_, fun c => ?_⟩
  · have : a' = t := by omega
    subst this
    rw [if_neg (by omega)] at c4
    exact kQ F' c4.symm s Y
  rw [if_pos (by omega)] at c4
  rintro _ rfl
  have mes : ∀ h2 v F2, v ≤ t → a' < v → MX h h2 m x v F2 → d_ppl g t k' v F2 = P → (((MB h h2 m x ∧ ∀ F', P ≠ some (t, F')) ∨ (∃ a' F' k, MX h h2 m x a' F' ∧ a' ≤ t ∧ t + 1 ≤ k + a' ∧ d_ppl g t k a' F' = P)) ∧ (if hp_I h2 m 21 = 0 then t + 1 - (hp_I h2 m 20).toNatClampNeg + 1 else 0) < (if hp_I s m 21 = 0 then t + 1 - (hp_I s m 20).toNatClampNeg + 1 else 0)) := fun h2 v F2 hv hav Y2 hd => by
    refine ⟨Or.inr ⟨v, F2, k', Y2, hv, by omega, hd⟩, ?_⟩
    rw [if_pos Y2.2.2.1, if_pos b3, Y2.2.1, a3, nI_clamp (by omega), nI_clamp (by omega)]
    omega
  refine s_Moid K3 a3 b3 (by omega) (by omega) (fun hd h3 hb _ => ⟨fun _ => ?_, fun c => ?_⟩) (fun o q hd _ => ?_)
  · rw [hd] at c4
    refine ⟨Or.inl ⟨hb.pre X3, fun F'' q => by rw [← c4] at q; cases q⟩, ?_⟩
    simp only
    rw [hb.2, if_neg (by decide), if_pos b3]
    omega
  · rw [hb.2] at c; exact absurd c (by decide)
  have l2 := d_oid_hd hd
  rw [hd] at c4
  simp only [Option.bind_some] at c4
  have Y4 := Y.at hxm q
  generalize up_I s m 20 (nI q) = h4 at Y4 ⊢
  have K4 := K.mf Y4.1
  refine ⟨fun c => absurd Y4.2.2.1 c, fun _ => ?_⟩
  rw [Y4.2.1, nI_sub (by omega), show (10 : Int32) = nI 10 from rfl, nI_eq (by omega) (by omega)]
  unfold d_ppu at c4
  simp only [d_is5, d_is6] at c4
  obtain ⟨rfl, l2⟩ := l2
  have nop : (decide (q - (a' + 2) = 8) && allB (fun j => g (a' + 2 + j) == ko 5 j) 0 7) = false → d_ppl g t k' q F' = P := fun hn => by
    simp only [← Bool.and_assoc, hn, Bool.false_and, Bool.false_eq_true, if_false] at c4
    exact c4
  refine ⟨fun q1 => mes _ q F' (by omega) (by omega) Y4 (nop ?_), fun q1 => ?_⟩
  · rw [decide_eq_false (by omega)]; rfl
  rw [show (2 : Int32) = nI 2 from rfl, nI_add]
  refine s_stands (k := 7) K4 (by omega) (by decide) ko57 (fun hA _ _ => ⟨fun _ => ?_, fun c => absurd c (by decide)⟩) (fun hA _ _ => ⟨fun c => absurd rfl c, fun _ => mes _ q F' (by omega) (by omega) Y4 (nop (by rw [hA, Bool.and_false]))⟩)
  have e8 : decide (q - (a' + 2) = 8) = true := decide_eq_true (by omega)
  simp only [hA, e8, Bool.true_and] at c4
  have hg9 := hg (a' + 9) (by omega)
  rw [show (9 : Int32) = nI 9 from rfl, nI_add, show a' + 2 + 7 = a' + 9 by omega] at *
  simp only [beq_iff_eq] at c4
  have tl : ∀ h5 F5, MX h h5 m x q F5 → d_ppl g t k' q (if g (a' + 9) = 2 then up F5 23 (F5 23 ||| 2) else F5) = P → m_M_purposes_126 Q (fun s' => ((MB h s' m x ∧ ∀ F', P ≠ some (t, F')) ∨ (∃ a' F' k, MX h s' m x a' F' ∧ a' ≤ t ∧ t + 1 ≤ k + a' ∧ d_ppl g t k a' F' = P)) ∧ (if hp_I s' m 21 = 0 then t + 1 - (hp_I s' m 20).toNatClampNeg + 1 else 0) < (if hp_I s m 21 = 0 then t + 1 - (hp_I s m 20).toNatClampNeg + 1 else 0)) m (nI t) (nI a') h5 := fun h5 F5 Y5 hd5 => by
    have K5 := K.mf Y5.1
    refine ⟨K5.1, ?_⟩
    rw [show (9 : Int32) = nI 9 from rfl, nI_add]
    refine s_here K5 (by omega) (fun _ => ?_)
    rw [show (2 : Int32) = nI 2 from rfl, nI_eq (by omega) (by omega)]
    refine ⟨fun r1 => ?_, fun r1 => ?_⟩
    · rw [if_neg r1] at hd5
      exact mes _ q _ (by omega) (by omega) Y5 hd5
    · rw [if_pos r1] at hd5
      rintro _ rfl
      have e29 : hp_I h5 m 29 = F5 23 := Y5.2.2.2.1 23 (by decide) (by decide) (by decide)
      rw [e29]
      have Y6 := Y5.set hxm 23 (v := F5 23 ||| 2)
      rw [show mo 23 = 29 from rfl] at Y6
      exact mes _ q _ (by omega) (by omega) Y6 hd5
  refine s_here K4 (by omega) (fun _ => ?_)
  rw [show (1 : Int32) = nI 1 from rfl, nI_eq (by omega) (by omega)]
  refine ⟨fun r1 => tl _ _ Y4 ?_, fun r1 => ?_⟩
  · rw [if_neg r1] at c4
    exact c4
  · rw [if_pos r1] at c4
    rintro _ rfl
    have e29 : hp_I h4 m 29 = F' 23 := Y4.2.2.2.1 23 (by decide) (by decide) (by decide)
    rw [e29]
    have Y6 := Y4.set hxm 23 (v := F' 23 ||| 1)
    rw [show mo 23 = 29 from rfl] at Y6
    exact tl _ _ Y6 c4
