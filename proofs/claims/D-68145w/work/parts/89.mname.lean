set_option maxRecDepth 10000
theorem n179_bad {Q : Int32 → AH → Prop} {X : Int32 × AH → Prop} {h h1 : AH} {m x : Nat} {x2 x3 x6 : Int32} (hm : hp_k h m = 13) (hb : MB h h1 m x) (k : ∀ v h2, MB h h2 m x → X (v, h2)) : m_M_name_179 Q X m x2 x3 x6 h1 := by
  refine ⟨hb.k hm, fun c => ?_, fun _ => ⟨hb.k hm, ?_⟩⟩
  · rw [hb.2] at c; exact absurd c (by decide)
  · rintro _ rfl _ rfl
    exact k _ _ hb.at
theorem n124_bad {Q : Int32 → AH → Prop} {X : Int32 × AH → Prop} {h h1 : AH} {m x : Nat} {x2 x3 x5 : Int32} (hm : hp_k h m = 13) (hb : MB h h1 m x) (k : ∀ v h2, MB h h2 m x → X (v, h2)) : m_M_name_124 Q X m x2 x3 x5 h1 := by
  refine ⟨hb.k hm, s_openB (hb.k hm) hb.2 (fun _ => ⟨fun _ => n179_bad hm hb.bad k, fun c => ?_⟩)⟩
  rw [rI1] at c
  exact absurd c (by decide)
theorem n67_bad {Q : Int32 → AH → Prop} {X : Int32 × AH → Prop} {h h1 : AH} {m x : Nat} {x2 x3 x5 : Int32} (hm : hp_k h m = 13) (hb : MB h h1 m x) (k : ∀ v h2, MB h h2 m x → X (v, h2)) : m_M_name_67 Q X m x2 x3 x5 h1 := by
  refine ⟨hb.k hm, s_MoidB (hb.k hm) hb.2 (fun _ => ⟨fun _ => n124_bad hm hb.bad k, fun c => ?_⟩)⟩
  rw [rI1] at c
  exact absurd c (by decide)
theorem n205_bad {Q : Int32 → AH → Prop} {h h1 : AH} {m x : Nat} {x3 : Int32} (hm : hp_k h m = 13) (hb : MB h h1 m x) (k : ∀ v h2, MB h h2 m x → Q v h2) : m_M_name_205 Q m x3 h1 := by
  have a : ∀ v, m_M_name_222 Q x3 m v h1 := fun v => ⟨hb.k hm, need_bad hm hb (fun h2 hb2 _ => k _ h2 hb2)⟩
  exact ⟨fun _ => a 0, fun _ => ⟨fun _ => a 0, fun _ => a 1⟩⟩
theorem s_MnameB {Q : Int32 → AH → Prop} {h : AH} {m x : Nat} {e : Int32} (hm : hp_k h m = 13) (hb : hp_I h m 21 = 1) (k : ∀ v h2, MB h h2 m x → Q v h2) : m_M_name Q m e h := by
  have b1 : MB h (up_I h m 21 1) m x := MB.of MF.rf
  refine ⟨hm, s_openB hm hb (fun _ => ?_)⟩
  refine ⟨fun s => MB h s.2 m x, fun _ => 0, b1, ?_⟩
  rintro ⟨v, s⟩ hs
  simp only at hs
  refine ⟨hs.k hm, fun _ => n205_bad hm hs k, fun c => ?_⟩
  rw [hs.2] at c
  exact absurd c (by decide)
theorem d_nm_any {g : Nat → Nat} {q p : Nat} (hc : q < p ∧ (g q = 12 ∨ g q = 19)) : d_in g (if q < p ∧ g q = 19 then 19 else 12) q p = d_any g q p := by
  have e : (if q < p ∧ g q = 19 then 19 else 12) = g q := by
    by_cases h : g q = 19
    · rw [if_pos ⟨hc.1, h⟩, h]
    · rw [if_neg (fun z => h z.2)]; omega
  rw [e]
  unfold d_in d_any
  by_cases h2 : q + 2 ≤ p
  · rw [if_pos ⟨h2, rfl⟩, if_pos h2]
  · rw [if_neg (fun z => h2 z.1), if_neg h2]
theorem d_nm_no {g : Nat → Nat} {q p : Nat} (hc : ¬ (q < p ∧ (g q = 12 ∨ g q = 19))) : d_in g (if q < p ∧ g q = 19 then 19 else 12) q p = none := by
  unfold d_in
  rw [if_neg]
  rintro ⟨h1, h2⟩
  split at h2
  · omega
  · omega
theorem s_Mnm1 {Q : Int32 → AH → Prop} {X : Int32 × AH → Prop} {h : AH} {m st x bs n a e cnt : Nat} {g : Nat → Nat} (K : ME h m st x bs n g) (hat : hp_I h m 20 = nI a) (hbad : hp_I h m 21 = 0) (he : e ≤ n) (hlt : a < e) (kB : d_nm1 g a e = none → ∀ v h1, MB h h1 m x → X (v, h1)) (kX : ∀ t, d_nm1 g a e = some t → X (nI (cnt + 1), up_I h m 20 (nI t))) : m_M_name_10_b Q X m (nI e) (nI cnt) h := by
  have k5 := K.2.2.2.2.1
  have hg := K.2.2.2.2.2.2.2.1
  generalize hp : d_nm1 g a e = P at kB kX
  unfold d_nm1 at hp
  refine ⟨K.1, fun c => absurd hbad c, fun _ => ?_⟩
  rw [hat, nI_leI (by omega) (by omega)]
  refine ⟨fun c => by omega, fun _ => ?_⟩
  refine s_open K hat hbad he (by omega) (by decide) (fun hd h1 hb _ => ?_) (fun s0 s1 hd _ => ?_)
  · have q := kB (hp.symm.trans (by rw [hd]; rfl))
    refine s_openB (hb.k K.1) hb.2 (fun _ => ⟨fun _ => n67_bad K.1 hb.bad q, fun c => ?_⟩)
    rw [rI1] at c; exact absurd c (by decide)
  have l1 := d_in_le hd
  rw [hd] at hp
  simp only [Option.bind_some] at hp
  have X1 : MF h (up_I h m 20 (nI s0)) m x := MF.rf.I
  have b1 : hp_I (up_I h m 20 (nI s0)) m 21 = 0 := by rw [rI3 (by decide)]; exact hbad
  have a1 : hp_I (up_I h m 20 (nI s0)) m 20 = nI s0 := rI1
  have hu1 : ∀ v, up_I (up_I h m 20 (nI s0)) m 20 v = up_I h m 20 v := fun v => uII
  generalize up_I h m 20 (nI s0) = h1 at X1 b1 a1 hu1 ⊢
  have K1 := K.mf X1
  refine s_open K1 a1 b1 (by omega) (by omega) (by decide) (fun hd h2 hb _ => ⟨fun _ => n67_bad K.1 (hb.pre X1) (kB (hp.symm.trans (by rw [hd]; rfl))), fun c => ?_⟩) (fun p0 p1 hd _ => ?_)
  · rw [hb.2] at c; exact absurd c (by decide)
  have l2 := d_in_le hd
  rw [hd] at hp
  simp only [Option.bind_some] at hp
  rw [hu1]
  have X2 : MF h (up_I h m 20 (nI p0)) m x := MF.rf.I
  have b2' : hp_I (up_I h m 20 (nI p0)) m 21 = 0 := by rw [rI3 (by decide)]; exact hbad
  have a2 : hp_I (up_I h m 20 (nI p0)) m 20 = nI p0 := rI1
  have hu2 : ∀ v, up_I (up_I h m 20 (nI p0)) m 20 v = up_I h m 20 v := fun v => uII
  generalize up_I h m 20 (nI p0) = h2 at X2 b2' a2 hu2 ⊢
  have K2 := K.mf X2
  refine ⟨fun c => absurd b2' c, fun _ => ?_⟩
  rw [nI_eq (by omega) (by omega)]
  refine ⟨fun c1 => ⟨K2.1, s_need0 K2.1 (fun _ => n67_bad K.1 (MB.of X2) (kB (hp.symm.trans ?_)))⟩, fun c1 => ⟨K2.1, s_need1 (fun _ => ⟨K2.1, ?_⟩)⟩⟩
  · cases ho : d_oid g p0 p1 with
    | none => rfl
    | some q =>
      simp only [Option.bind_some]
      cases hf : d_in g (if q.2 < p1 ∧ g q.2 = 19 then 19 else 12) q.2 p1 with
      | none => rfl
      | some f =>
        simp only [Option.bind_some]
        rw [if_neg (fun z => c1 z.2.2.2)]
  refine s_Moid K2 a2 b2' (by omega) (by omega) (fun ho h3 hb _ => ⟨fun _ => n124_bad K.1 (hb.pre X2) (kB (hp.symm.trans (by rw [ho]; rfl))), fun c => ?_⟩) (fun o q ho _ => ?_)
  · rw [hb.2] at c; exact absurd c (by decide)
  have l3 := d_oid_le ho
  rw [ho] at hp
  simp only [Option.bind_some] at hp
  rw [hu2]
  have X3 : MF h (up_I h m 20 (nI q)) m x := MF.rf.I
  have b3 : hp_I (up_I h m 20 (nI q)) m 21 = 0 := by rw [rI3 (by decide)]; exact hbad
  have a3 : hp_I (up_I h m 20 (nI q)) m 20 = nI q := rI1
  have hu3 : ∀ v, up_I (up_I h m 20 (nI q)) m 20 v = up_I h m 20 v := fun v => uII
  generalize up_I h m 20 (nI q) = h3 at X3 b3 a3 hu3 ⊢
  have K3 := K.mf X3
  have no : ¬ (q < p1 ∧ (g q = 12 ∨ g q = 19)) → m_M_name_120 Q X m (nI e) (nI cnt) (nI p1) m h3 := fun hn => ⟨K3.1, s_need0 K3.1 (fun _ => n124_bad K.1 (MB.of X3) (kB (hp.symm.trans (by rw [d_nm_no hn]; rfl))))⟩
  have yes : (q < p1 ∧ (g q = 12 ∨ g q = 19)) → m_M_name_116 Q X m (nI e) (nI cnt) (nI p1) m h3 := fun hy => by
    rw [d_nm_any hy] at hp
    refine ⟨K3.1, s_need1 (fun _ => ⟨K3.1, ?_⟩)⟩
    refine s_openA K3 a3 b3 (by omega) (by omega) (fun hd h4 hb _ => ⟨fun _ => n179_bad K.1 (hb.pre X3) (kB (hp.symm.trans (by rw [hd]; rfl))), fun c => ?_⟩) (fun f t hd _ => ?_)
    · rw [hb.2] at c; exact absurd c (by decide)
    have l4 : q + 2 ≤ f ∧ f ≤ t ∧ t ≤ p1 := by
      have hq : d_in g (g q) q p1 = some (f, t) := by
        unfold d_any at hd
        unfold d_in
        split at hd
        · rename_i c; rw [if_pos ⟨c, rfl⟩]; exact hd
        · cases hd
      exact d_in_le hq
    rw [hd] at hp
    simp only [Option.bind_some] at hp
    rw [hu3]
    have X4 : MF h (up_I h m 20 (nI f)) m x := MF.rf.I
    have b4 : hp_I (up_I h m 20 (nI f)) m 21 = 0 := by rw [rI3 (by decide)]; exact hbad
    have a4 : hp_I (up_I h m 20 (nI f)) m 20 = nI f := rI1
    have hu4 : ∀ v, up_I (up_I h m 20 (nI f)) m 20 v = up_I h m 20 v := fun v => uII
    generalize up_I h m 20 (nI f) = h4 at X4 b4 a4 hu4 ⊢
    have K4 := K.mf X4
    refine ⟨fun c => absurd b4 c, fun _ => ?_⟩
    have neg : ¬ (1 ≤ t - f ∧ t - f ≤ 64 ∧ t = p1 ∧ p1 = s1) → m_M_name_175 Q X m (nI e) (nI cnt) (nI t) m h4 := fun hn => ⟨K4.1, s_need0 K4.1 (fun _ => n179_bad K.1 (MB.of X4) (kB (hp.symm.trans (by rw [if_neg hn]))))⟩
    rw [a4]
    simp (disch := omega) only [lit_nI, nI_sub, nI_ltI, nI_eq]
    refine ⟨fun c2 => neg (by omega), fun c2 => ⟨fun c3 => neg (by omega), fun c3 => ⟨fun c4 => neg (by omega), fun c4 => ⟨K4.1, s_need1 (fun _ => ⟨K4.1, fun _ => ⟨K4.1, ?_⟩, fun c => absurd b4 c⟩)⟩⟩⟩⟩
    rintro _ rfl _ rfl
    rw [hu4, nI_1]
    exact kX t (hp.symm.trans (by rw [if_pos (by omega)]))
  refine ⟨fun c => absurd b3 c, fun _ => ?_⟩
  rw [a3, nI_leI (by omega) (by omega)]
  refine ⟨fun c2 => no (by omega), fun c2 => s_here K3 (by omega) (fun _ => ?_)⟩
  have hgq := hg q (by omega)
  rw [show (12 : Int32) = nI 12 from rfl, nI_eq (by omega) (by omega)]
  refine ⟨fun c3 => yes (by omega), fun c3 => ?_⟩
  rw [a3]
  refine s_here K3 (by omega) (fun _ => ?_)
  rw [show (19 : Int32) = nI 19 from rfl, nI_eq (by omega) (by omega)]
  exact ⟨fun c4 => no (by omega), fun c4 => yes (by omega)⟩

theorem s_Mname {Q : Int32 → AH → Prop} {h : AH} {m st x bs n a e : Nat} {g : Nat → Nat} (K : ME h m st x bs n g) (hat : hp_I h m 20 = nI a) (hbad : hp_I h m 21 = 0) (he : e ≤ n) (ha : a ≤ n) (kB : d_names g a e = none → ∀ v h1, MB h h1 m x → Q v h1) (kQ : ∀ t k, d_names g a e = some (t, k) → Q (nI k) (up_I h m 20 (nI t))) : m_M_name Q m (nI e) h := by
  have k5 := K.2.2.2.2.1
  generalize hp : d_names g a e = P at kB kQ
  unfold d_names at hp
  refine ⟨K.1, s_open K hat hbad he ha (by decide) (fun hd h1 hb _ => ?_) (fun f t hd _ => ?_)⟩
  · have q := kB (hp.symm.trans (by rw [hd]; rfl))
    refine ⟨fun s => MB h s.2 m x, fun _ => 0, hb, ?_⟩
    rintro ⟨v, s⟩ hs
    simp only at hs
    refine ⟨hs.k K.1, fun _ => n205_bad K.1 hs q, fun c => ?_⟩
    rw [hs.2] at c
    exact absurd c (by decide)
  have l1 := d_in_le hd
  rw [hd] at hp
  simp only [Option.bind_some] at hp
  generalize hW : d_nml g t (t + 1) f 0 = W at hp
  refine ⟨fun s => (MB h s.2 m x ∧ P = none) ∨ (∃ a' cnt k, s = (nI cnt, up_I h m 20 (nI a')) ∧ a' ≤ t ∧ cnt ≤ a' ∧ t + 1 ≤ k + a' ∧ d_nml g t k a' cnt = W), fun s => if hp_I s.2 m 21 = 0 then t + 1 - (hp_I s.2 m 20).toNatClampNeg + 1 else 0, Or.inr ⟨f, 0, t + 1, rfl, by omega, by omega, by omega, hW⟩, ?_⟩
  rintro ⟨v, s⟩ (⟨hs, hn⟩ | ⟨a', cnt, k, hs, c1, c2, c3, c4⟩)
  · simp only at hs
    refine ⟨hs.k K.1, fun _ => n205_bad K.1 hs (kB hn), fun c => ?_⟩
    rw [hs.2] at c
    exact absurd c (by decide)
  cases hs
  have X1 : MF h (up_I h m 20 (nI a')) m x := MF.rf.I
  have b1 : hp_I (up_I h m 20 (nI a')) m 21 = 0 := by rw [rI3 (by decide)]; exact hbad
  have a1 : hp_I (up_I h m 20 (nI a')) m 20 = nI a' := rI1
  have hu1 : ∀ v, up_I (up_I h m 20 (nI a')) m 20 v = up_I h m 20 v := fun v => uII
  by_cases hlt : a' < t
  · simp only
    obtain ⟨k', rfl⟩ : ∃ k', k = k' + 1 := ⟨k - 1, by omega⟩
    simp only [d_nml] at c4
    rw [if_pos hlt] at c4
    generalize up_I h m 20 (nI a') = h1 at X1 b1 a1 hu1 ⊢
    refine s_Mnm1 (K.mf X1) a1 b1 (by omega) hlt (fun hd v h2 hb => ?_) (fun t' hd => ?_)
    · rw [hd] at c4
      refine ⟨Or.inl ⟨hb.pre X1, hp.symm.trans (by rw [← c4]; rfl)⟩, ?_⟩
      simp only
      rw [hb.2, if_neg (by decide), if_pos b1]
      omega
    · have l2 := d_nm1_le hd
      rw [hd] at c4
      simp only [Option.bind_some] at c4
      rw [hu1]
      refine ⟨Or.inr ⟨t', cnt + 1, k', rfl, by omega, by omega, by omega, c4⟩, ?_⟩
      simp only
      rw [rI3 (by decide), hbad, if_pos rfl, if_pos b1, rI1, a1, nI_clamp (by omega), nI_clamp (by omega)]
      omega
  · obtain ⟨k', rfl⟩ : ∃ k', k = k' + 1 := ⟨k - 1, by omega⟩
    simp only [d_nml] at c4
    rw [if_neg hlt] at c4
    rw [← c4] at hp
    simp only [Option.bind_some] at hp
    have fin : m_M_name_205 Q m (nI cnt) (up_I h m 20 (nI a')) := by
      have neg : ¬ (1 ≤ cnt ∧ cnt ≤ 8) → m_M_name_221 Q (nI cnt) m (up_I h m 20 (nI a')) := fun hn => ⟨K.1, s_need0 K.1 (fun _ => kB (hp.symm.trans (by rw [if_neg hn])) _ _ (MB.of X1))⟩
      unfold m_M_name_205
      simp (disch := omega) only [lit_nI, nI_ltI]
      exact ⟨fun q1 => neg (by omega), fun q1 => ⟨fun q2 => neg (by omega), fun q2 => ⟨K.1, s_need1 (fun _ => kQ _ _ (hp.symm.trans (by rw [if_pos (by omega)])))⟩⟩⟩
    refine ⟨K.1, fun c => absurd b1 c, fun _ => ⟨fun _ => fin, fun c => absurd ?_ c⟩⟩
    rw [a1, nI_leI (by omega) (by omega)]
    omega
