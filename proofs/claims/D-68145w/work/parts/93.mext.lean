set_option maxRecDepth 10000
theorem s_MconsB {Q : AH → Prop} {h : AH} {m : Nat} {e : Int32} (hm : hp_k h m = 13) (hb : hp_I h m 21 = 1) (k : Q (up_I h m 21 1)) : m_M_constraints Q m e h :=
  ⟨hm, s_openB hm hb (fun _ => ⟨fun c => by rw [rI1] at c; exact absurd c (by decide), fun _ => k⟩)⟩
theorem s_MusageB {Q : AH → Prop} {h : AH} {m : Nat} {e : Int32} (hm : hp_k h m = 13) (hb : hp_I h m 21 = 1) (k : Q (up_I h m 21 1)) : m_M_usage Q m e h :=
  ⟨hm, s_openB hm hb (fun _ => ⟨fun c => by rw [rI1] at c; exact absurd c (by decide), fun _ => k⟩)⟩
theorem s_MaltB {Q : AH → Prop} {h : AH} {m : Nat} {e : Int32} (hm : hp_k h m = 13) (hb : hp_I h m 21 = 1) (k : Q (up_I h m 21 1)) : m_M_alternatives Q m e h :=
  ⟨hm, s_openB hm hb (fun _ => ⟨fun c => by rw [rI1] at c; exact absurd c (by decide), fun _ => k⟩)⟩
theorem s_MpurpB {Q : AH → Prop} {h : AH} {m : Nat} {e : Int32} (hm : hp_k h m = 13) (hb : hp_I h m 21 = 1) (k : Q (up_I h m 21 1)) : m_M_purposes Q m e h :=
  ⟨hm, s_openB hm hb (fun _ => ⟨fun c => by rw [rI1] at c; exact absurd c (by decide), fun _ => k⟩)⟩
theorem x283_bad {Q : AH → Prop} {h h1 : AH} {m x : Nat} {x6 : Int32} (hm : hp_k h m = 13) (hb : MB h h1 m x) (k : ∀ h2, MB h h2 m x → Q h2) : m_M_extension_283 Q m x6 h1 := ⟨hb.k hm, by rintro _ rfl; exact k _ hb.at⟩
theorem x207_bad {Q : AH → Prop} {h h1 : AH} {m x : Nat} {x5 x6 v : Int32} (hm : hp_k h m = 13) (hb : MB h h1 m x) (k : ∀ h2, MB h h2 m x → Q h2) : m_M_extension_207 Q m x5 x6 v h1 := by
  have hm1 := hb.k hm
  refine ⟨fun _ => ⟨fun _ => ⟨fun _ => ⟨fun _ => ⟨fun _ => x283_bad hm hb k, fun _ => ⟨hm1, by rintro _ rfl; exact x283_bad hm hb.set k⟩⟩, fun _ => ⟨hm1, s_MpurpB hm1 hb.2 (fun _ => x283_bad hm hb.bad k)⟩⟩, fun _ => ⟨hm1, s_MaltB hm1 hb.2 (fun _ => x283_bad hm hb.bad k)⟩⟩, fun _ => ⟨hm1, s_MusageB hm1 hb.2 (fun _ => x283_bad hm hb.bad k)⟩⟩, fun _ => ⟨hm1, s_MconsB hm1 hb.2 (fun _ => x283_bad hm hb.bad k)⟩⟩
theorem x143_bad {Q : AH → Prop} {h h1 : AH} {m x : Nat} {x2 x3 x4 x5 : Int32} (hm : hp_k h m = 13) (hb : MB h h1 m x) (k : ∀ h2, MB h h2 m x → Q h2) : m_M_extension_143 Q m x2 x3 x4 x5 h1 :=
  ⟨hb.k hm, s_openB (hb.k hm) hb.2 (fun _ => ⟨fun c => by rw [rI1] at c; exact absurd c (by decide), fun _ => k _ hb.bad⟩)⟩
theorem s_alike {Q : Int32 → AH → Prop} {h : AH} {m st x bs n p q k : Nat} {g : Nat → Nat} (K : ME h m st x bs n g) (hp : p + k ≤ n) (hq : q + k ≤ n) (kQ : Q (b2 (allB (fun i => g (p + i) == g (q + i)) 0 k)) h) : m_M_alike Q m (nI p) (nI q) (nI k) h := by
  have k5 := K.2.2.2.2.1
  have hg := K.2.2.2.2.2.2.2.1
  refine ⟨fun s => ∃ i, i ≤ k ∧ s = (nI i, h) ∧ ∀ j, j < i → g (p + j) = g (q + j), fun s => k - s.1.toNatClampNeg, ⟨0, by omega, rfl, fun j hj => by omega⟩, ?_⟩
  rintro _ ⟨i, hi, rfl, ha⟩
  unfold m_M_alike_3_b
  simp only
  rw [nI_leI (by omega) (by omega), nI_add, nI_add]
  refine ⟨fun c => ?_, fun c => ⟨K.1, s_here K (by omega) (fun _ => s_here K (by omega) (fun _ => ?_))⟩⟩
  · rw [show allB (fun i => g (p + i) == g (q + i)) 0 k = true from allB_iff.mpr (fun j hj => by simp only [Nat.zero_add, beq_iff_eq]; exact ha j (by omega))] at kQ
    exact kQ
  · have h1 := hg (p + i) (by omega)
    have h2 := hg (q + i) (by omega)
    rw [nI_eq (by omega) (by omega)]
    refine ⟨fun c2 => ?_, fun c2 => ?_⟩
    · rintro _ rfl
      refine ⟨⟨i + 1, by omega, by rw [nI_1], fun j hj => ?_⟩, ?_⟩
      · by_cases hji : j = i
        · rw [hji]; exact c2
        · exact ha j (by omega)
      · simp only [nI_1]
        rw [nI_clamp (by omega), nI_clamp (by omega)]
        omega
    · rw [allB_no (i := i) (by omega) (by simp only [Nat.zero_add]; exact beq_false_of_ne c2)] at kQ
      exact kQ
/-- the extensions that were met: their OIDs' places lie in x -/
def EXT (h : AH) (m x : Nat) (g : Nat → Nat) (os : List (Nat × Nat)) (a : Nat) : Prop := hp_I h m 45 = nI os.length ∧ (∀ k q, os[k]? = some q → hp_I h x k = nI (q.1 - 2) ∧ 2 ≤ q.1 ∧ q.1 - 2 < a ∧ g (q.1 - 2) = 6 ∧ g (q.1 - 1) = q.2 - q.1) ∧ 5 * os.length ≤ a
theorem d_oid_b {g : Nat → Nat} {a e f t : Nat} (h : d_oid g a e = some (f, t)) : g a = 6 ∧ g (a + 1) = t - f := by
  have h1 := (d_oid_in h).1
  have h2 := d_oid_hd h
  unfold d_in d_hd at h1
  split at h1
  · rename_i c
    refine ⟨c.2, ?_⟩
    split at h1
    · split at h1
      · cases h1; omega
      · cases h1
    · split at h1
      · cases h1; omega
      · cases h1
  · cases h1
theorem dupo_alike {g : Nat → Nat} {f t : Nat} {q : Nat × Nat} (h1 : 2 ≤ q.1) (h2 : g (q.1 - 2) = 6) (h3 : g (q.1 - 1) = q.2 - q.1) (h4 : g f = 6) (h5 : g (f + 1) = t - (f + 2)) (h6 : f + 2 < t) : allB (fun i => g (q.1 - 2 + i) == g (f + i)) 0 (t - f) = dupo g (f + 2) t q := by
  unfold dupo
  rw [Bool.eq_iff_iff, Bool.and_eq_true, allB_iff, allB_iff, decide_eq_true_eq]
  simp only [Nat.zero_add, beq_iff_eq]
  constructor
  · intro h
    refine ⟨?_, fun i hi => ?_⟩
    · have := h 1 (by omega)
      rw [show q.1 - 2 + 1 = q.1 - 1 by omega, h3, h5] at this
      exact this
    · have := h (i + 2) (by omega)
      rw [show q.1 - 2 + (i + 2) = q.1 + i by omega, show f + (i + 2) = f + 2 + i by omega] at this
      exact this
  · rintro ⟨e1, e2⟩ i hi
    by_cases h0 : i = 0
    · subst h0; rw [Nat.add_zero, Nat.add_zero, h2, h4]
    by_cases h1' : i = 1
    · subst h1'; rw [show q.1 - 2 + 1 = q.1 - 1 by omega, h3, h5, e1]
    have := e2 (i - 2) (by omega)
    rw [show q.1 + (i - 2) = q.1 - 2 + i by omega, show f + 2 + (i - 2) = f + i by omega] at this
    exact this
theorem dupB_take {g : Nat → Nat} {os : List (Nat × Nat)} {o t k : Nat} {q : Nat × Nat} (h : os[k]? = some q) : dupB g (os.take (k + 1)) o t = (dupB g (os.take k) o t || dupo g o t q) := by
  rw [List.take_succ, h]
  exact dupB_add
theorem dupB_sub {g : Nat → Nat} {os : List (Nat × Nat)} {o t k : Nat} (h : dupB g (os.take k) o t = true) : dupB g os o t = true := by
  unfold dupB at *
  rw [List.any_eq_true] at *
  obtain ⟨q, h1, h2⟩ := h
  exact ⟨q, List.mem_of_mem_take h1, h2⟩
theorem s_Mdup {Q : AH → Prop} {h : AH} {m st x bs n a f t : Nat} {x2 : Int32} {os : List (Nat × Nat)} {g : Nat → Nat} (K : ME h m st x bs n g) (hbad : hp_I h m 21 = 0) (EX : EXT h m x g os a) (hN : n ≤ 49990) (hf : a ≤ f) (h4 : g f = 6) (h5 : g (f + 1) = t - (f + 2)) (h6 : f + 2 < t) (ht : t ≤ n) (kB : dupB g os (f + 2) t = true → ∀ h1, MB h h1 m x → Q h1)
    (kQ : dupB g os (f + 2) t = false → ∀ h2, h2 = up_I (up_I h x os.length (nI f)) m 45 (nI (os.length + 1)) → (x2 ≤ hp_I h2 m 20 → m_M_extension_130 Q m x2 (nI f) (nI t) h2) ∧ (¬ x2 ≤ hp_I h2 m 20 → m_M_here (fun v1 h3 => fx_ext h2 h3 → (¬ v1 = (1 : Int32) → m_M_extension_130 Q m x2 (nI f) (nI t) h3) ∧ (v1 = (1 : Int32) → m_M_extension_131 Q m x2 (nI f) (nI t) (1 : Int32) h3)) m (hp_I h2 m 20) h2)) : m_M_extension_35 Q m x2 (nI f) (nI t) 0 h := by
  have k5 := K.2.2.2.2.1
  obtain ⟨e1, e2, e3⟩ := EX
  have kx : ∀ {s}, MF h s m x → hp_R s m 44 = some x ∧ hp_k s x = 102 ∧ hp_n s x = 10000 := fun {s} X => ⟨(K.mf X).2.2.2.2.2.2.2.2.1, (K.mf X).2.2.2.2.2.2.2.2.2.1, (K.mf X).2.2.2.2.2.2.2.2.2.2⟩
  have hxm := K.xm
  refine ⟨fun s => ∃ k, k ≤ os.length ∧ s.1 = nI k ∧ ((s.2 = h ∧ dupB g (os.take k) (f + 2) t = false) ∨ (MB h s.2 m x ∧ hp_I s.2 m 45 = nI os.length ∧ hp_I s.2 x = hp_I h x ∧ dupB g os (f + 2) t = true)), fun s => os.length - s.1.toNatClampNeg, ⟨0, by omega, rfl, Or.inl ⟨rfl, by simp [dupB]⟩⟩, ?_⟩
  rintro ⟨v, s⟩ ⟨k, hk, hv, hs⟩
  simp only at hv hs ⊢
  subst hv
  have cm : MF h s m x ∧ hp_I s m 45 = nI os.length ∧ hp_I s x = hp_I h x := by
    rcases hs with ⟨rfl, -⟩ | ⟨q1, q2, q3, -⟩
    · exact ⟨MF.rf, e1, rfl⟩
    · exact ⟨q1.1, q2, q3⟩
  obtain ⟨X, c45, cx⟩ := cm
  have Ks := K.mf X
  obtain ⟨kx1, kx2, kx3⟩ := kx X
  refine ⟨Ks.1, ?_⟩
  rw [c45, nI_leI (by omega) (by omega)]
  refine ⟨fun c => ⟨fun hz => ?_, fun hz => ?_⟩, fun c => ?_⟩
  · rcases hs with ⟨rfl, hd⟩ | ⟨q1, -⟩
    · refine ⟨x, kx1, kx2, ?_, ?_⟩
      · rw [vp_iff (by omega)]; omega
      · rintro _ rfl _ rfl
        have : k = os.length := by omega
        subst this
        rw [List.take_length] at hd
        rw [rI2 hxm.symm, c45, nI_1, nI_clamp (by omega)]
        exact kQ hd _ rfl
    · rw [q1.2] at hz; exact absurd hz (by decide)
  · rcases hs with ⟨rfl, -⟩ | ⟨q1, -, -, q4⟩
    · exact absurd hbad hz
    · exact kB q4 _ q1
  obtain ⟨q, hq⟩ : ∃ q, os[k]? = some q := ⟨os[k]'(by omega), List.getElem?_eq_getElem (by omega)⟩
  obtain ⟨r1, r2, r3, r4, r5⟩ := e2 k q hq
  refine ⟨x, kx1, Or.inl kx2, ?_, ?_⟩
  · rw [vp_iff (by omega)]; omega
  rw [cx, nI_clamp (by omega), r1, nI_sub (by omega)]
  refine s_alike Ks (by omega) (by omega) (fun _ _ => ?_)
  rw [dupo_alike r2 r4 r5 h4 h5 h6]
  have stp : ∀ s', (MB h s' m x ∧ hp_I s' m 45 = nI os.length ∧ hp_I s' x = hp_I h x ∧ dupB g os (f + 2) t = true) ∨ (s' = h ∧ dupB g (os.take (k + 1)) (f + 2) t = false) → (∃ k', k' ≤ os.length ∧ nI k + 1 = nI k' ∧ ((s' = h ∧ dupB g (os.take k') (f + 2) t = false) ∨ (MB h s' m x ∧ hp_I s' m 45 = nI os.length ∧ hp_I s' x = hp_I h x ∧ dupB g os (f + 2) t = true))) ∧ os.length - (nI k + 1).toNatClampNeg < os.length - k := fun s' hs' => by
    refine ⟨⟨k + 1, by omega, nI_1 k, hs'.symm⟩, ?_⟩
    rw [nI_1, nI_clamp (by omega)]
    omega
  cases hdo : dupo g (f + 2) t q with
  | true =>
    refine ⟨fun _ => ⟨Ks.1, s_need0 Ks.1 (fun _ => ?_)⟩, fun c => absurd c (by decide)⟩
    rintro _ rfl
    refine stp _ (Or.inl ⟨MB.of X, by rw [rI3 (by decide)]; exact c45, by rw [rIrow hxm]; exact cx, ?_⟩)
    exact dupB_sub (k := k + 1) (by rw [dupB_take hq, hdo, Bool.or_true])
  | false =>
    refine ⟨fun c => absurd rfl c, fun _ => ⟨Ks.1, s_need1 (fun _ => ?_)⟩⟩
    rintro _ rfl
    refine stp _ ?_
    rcases hs with ⟨q1, q2⟩ | q
    · exact Or.inr ⟨q1, by rw [dupB_take hq, hdo, q2]; rfl⟩
    · exact Or.inl q
