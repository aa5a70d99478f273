set_option maxRecDepth 10000
def allB (p : Nat → Bool) (a : Nat) : Nat → Bool
  | 0 => true
  | k + 1 => allB p a k && p (a + k)
theorem allB_iff {p : Nat → Bool} {a : Nat} : ∀ {k : Nat}, allB p a k = true ↔ ∀ i, i < k → p (a + i) = true
  | 0 => by simp [allB]
  | k + 1 => by
    simp only [allB, Bool.and_eq_true, allB_iff (k := k)]
    constructor
    · rintro ⟨h1, h2⟩ i hi
      by_cases e : i = k
      · rw [e]; exact h2
      · exact h1 i (by omega)
    · intro h1
      exact ⟨fun i hi => h1 i (by omega), h1 k (by omega)⟩
theorem allB_no {p : Nat → Bool} {a k i : Nat} (hi : i < k) (hp : p (a + i) = false) : allB p a k = false := by
  cases h : allB p a k with
  | false => rfl
  | true => rw [allB_iff.mp h i hi] at hp; cases hp
def d_oidb (g : Nat → Nat) (f k : Nat) : Bool := !(g k == 128 && (k == f || decide (g (k - 1) < 128)))
def d_oid (g : Nat → Nat) (a e : Nat) : Option (Nat × Nat) := (d_in g 6 a e).bind fun p => if 1 ≤ p.2 - p.1 ∧ p.2 - p.1 ≤ 32 ∧ g (p.2 - 1) < 128 ∧ allB (d_oidb g p.1) p.1 (p.2 - p.1) = true then some p else none
theorem d_oid_in {g : Nat → Nat} {a e : Nat} {p : Nat × Nat} (h : d_oid g a e = some p) : d_in g 6 a e = some p ∧ 1 ≤ p.2 - p.1 := by
  unfold d_oid at h
  cases hd : d_in g 6 a e with
  | none => rw [hd] at h; cases h
  | some q =>
    rw [hd] at h
    simp only [Option.bind_some] at h
    split at h
    · rename_i c; cases h; exact ⟨rfl, c.1⟩
    · cases h
theorem d_oid_le {g : Nat → Nat} {a e f t : Nat} (h : d_oid g a e = some (f, t)) : a + 2 ≤ f ∧ f + 1 ≤ t ∧ t ≤ e := by
  obtain ⟨h1, h2⟩ := d_oid_in h
  have := d_in_le h1
  simp only at h2
  omega
def d_truth (g : Nat → Nat) (a e : Nat) : Option (Bool × Nat) := if a < e ∧ g a = 1 then (d_in g 1 a e).bind fun p => if p.2 - p.1 = 1 ∧ g p.1 = 255 then some (true, p.2) else none else some (false, a)
def d_is (g o : Nat → Nat) (len f a : Nat) : Bool := decide (a - f = len) && allB (fun j => g (f + j) == o j) 0 len
theorem s_leave {Q : AH → Prop} {E : Nat → AH → Prop} {h : AH} {r b n a e : Nat} {g : Nat → Nat} (R : RD h r b n a g) (he : e ≤ n) (ha : a ≤ n) (m : rm h 1 6) (kE : a ≠ e → ∀ q h1, bx 14 (Sr r) h h1 q → E q h1) (kQ : a = e → Q h) : m_Rd_leave Q E r (nI e) h := by
  obtain ⟨h1, h2, h3, h4, h5, h6, h7⟩ := R
  unfold m_Rd_leave
  simp (disch := omega) only [h3, lit_nI, nI_add, nI_sub, nI_mul, nI_neg, nI_leI, nI_ltI, nI_eq, nI_clamp, vp_iff, nI_negne, nI_l]
  exact ⟨h1, kQ, fun c => s_bad (Sr r) m (fun q h1 hb _ => kE c q h1 hb)⟩
theorem s_skip {Q : Int32 → AH → Prop} {E : Nat → AH → Prop} {h : AH} {r b n a e tag : Nat} {g : Nat → Nat} (R : RD h r b n a g) (hg : Gb g n) (he : e ≤ n) (ha : a ≤ n) (ht : tag < 256) (m : rm h 1 6) (kE : d_in g tag a e = none → ∀ q h1, bx 14 (Sr r) h h1 q → E q h1) (kQ : ∀ a' e', d_in g tag a e = some (a', e') → Q (nI a') (up_I h r 1 (nI e'))) : m_Rd_skip Q E r (nI tag) (nI e) h := by
  unfold m_Rd_skip
  refine ⟨R.1, s_enter R hg he ha ht m (fun hd q h1 hb _ => kE hd q h1 hb) (fun a' e' hd _ => ?_)⟩
  rintro _ rfl _ rfl
  simp only [rI1, uII]
  exact kQ a' e' hd
theorem s_oid {Q : Int32 → AH → Prop} {E : Nat → AH → Prop} {h : AH} {r b n a e : Nat} {g : Nat → Nat} (R : RD h r b n a g) (hg : Gb g n) (he : e ≤ n) (ha : a ≤ n) (m : rm h 1 6) (kE : d_oid g a e = none → ∀ q h1, bx 14 (Sr r) h h1 q → E q h1) (kQ : ∀ f t, d_oid g a e = some (f, t) → Q (nI f) (up_I h r 1 (nI t))) : m_Rd_oid Q E r (nI e) h := by
  have hne := R.ne
  unfold m_Rd_oid m_Rd_oid_39
  rw [show (6 : Int32) = nI 6 from rfl]
  refine ⟨R.1, s_enter R hg he ha (by decide) m (fun hd q h1 hb _ => kE (by unfold d_oid; rw [hd]; rfl) q h1 hb) (fun f t hd _ => ?_)⟩
  have hle := d_in_le hd
  obtain ⟨t1, t2, t3, t4, t5, t6, t7⟩ := R.to f
  have F : fm (Sr r) h (up_I h r 1 (nI f)) := fm.I ⟨rfl, rfl⟩
  have bad : d_oid g a e = none → m_Rd_bad (fun q1 h1 => fx_ext (up_I h r 1 (nI f)) h1 → E q1 h1) (up_I h r 1 (nI f)) := fun hd => s_bad (Sr r) (m.fm F) (fun q h1 hb _ => kE hd q h1 (hb.pre F))
  rintro _ rfl
  have hdo : d_oid g a e = if 1 ≤ t - f ∧ t - f ≤ 32 ∧ g (t - 1) < 128 ∧ allB (d_oidb g f) f (t - f) = true then some (f, t) else none := by unfold d_oid; rw [hd]; rfl
  simp (disch := omega) only [rI1, lit_nI, nI_add, nI_sub, nI_mul, nI_neg, nI_leI, nI_ltI, nI_eq, nI_clamp, vp_iff, nI_negne, nI_l]
  refine ⟨fun c => bad ?_, fun c => ⟨fun c2 => bad ?_, fun c2 => ⟨b, t2, t4, by omega, fun h8 => ?_⟩⟩⟩
  · rw [hdo, if_neg (by omega)]
  · rw [hdo, if_neg (by omega)]
  rw [show nI 0 = (0 : Int32) from rfl, b_ge0 h8, t7 _ (by omega)]
  refine ⟨fun c3 => ?_, fun c3 => bad ?_⟩
  rotate_left
  · rw [hdo, if_neg (by omega)]
  unfold m_Rd_oid_46
  refine ⟨fun st => ∃ k, f ≤ k ∧ k ≤ t ∧ st = (nI k, up_I h r 1 (nI f)) ∧ ∀ j, f ≤ j → j < k → d_oidb g f j = true, fun st => t - st.1.toNatClampNeg, ⟨f, by omega, by omega, rfl, fun j _ _ => by omega⟩, ?_⟩
  rintro _ ⟨k, hk1, hk2, rfl, hal⟩
  unfold m_Rd_oid_46_b m_Rd_oid_86 m_Rd_oid_82
  simp (disch := omega) only [lit_nI, nI_add, nI_sub, nI_mul, nI_neg, nI_leI, nI_ltI, nI_eq, nI_clamp, vp_iff, nI_negne, nI_l]
  refine ⟨fun c4 => ⟨t1, ?_⟩, fun c4 => ⟨t1, b, t2, t4, by omega, fun h9 => ?_⟩⟩
  · rintro _ rfl
    rw [uII]
    refine kQ f t ?_
    rw [hdo, if_pos ⟨by omega, by omega, c3, allB_iff.mpr fun i hi => hal (f + i) (by omega) (by omega)⟩]
  have hk : ub (hp_I (up_I h r 1 (nI f)) b k) = g k := t7 k (by omega)
  have no : d_oidb g f k = false → d_oid g a e = none := fun hb => by
    rw [hdo, if_neg]
    rintro ⟨-, -, -, hc⟩
    rw [allB_no (i := k - f) (by omega) (by rw [show f + (k - f) = k by omega]; exact hb)] at hc
    cases hc
  have step : d_oidb g f k = true → (∃ k', f ≤ k' ∧ k' ≤ t ∧ ((nI (k + 1), up_I h r 1 (nI f)) : Int32 × AH) = (nI k', up_I h r 1 (nI f)) ∧ ∀ j, f ≤ j → j < k' → d_oidb g f j = true) ∧ t - (nI (k + 1)).toNatClampNeg < t - k := fun hb => by
    refine ⟨⟨k + 1, by omega, by omega, rfl, fun j h1 h2 => ?_⟩, ?_⟩
    · by_cases hj : j = k
      · rw [hj]; exact hb
      · exact hal j h1 (by omega)
    · rw [nI_clamp (by omega)]; omega
  rw [show (-nI 128 : Int32) = -128 from rfl, b_m128 h9, hk]
  refine ⟨fun c5 => ?_, fun c5 => ⟨fun c6 => ?_, fun c6 => ⟨by omega, fun h10 => ?_⟩⟩⟩
  · rintro _ rfl
    exact step (by simp [d_oidb, c5])
  · exact bad (no (by unfold d_oidb; rw [c5]; simp [c6]))
  · have hk1 : ub (hp_I (up_I h r 1 (nI f)) b (k - 1)) = g (k - 1) := t7 _ (by omega)
    rw [show nI 0 = (0 : Int32) from rfl, b_lt0 h10, hk1]
    refine ⟨fun c7 => ?_, fun c7 => ?_⟩
    · rintro _ rfl
      exact step (by simp [d_oidb, c6]; omega)
    · exact bad (no (by simp [d_oidb, c5]; omega))
