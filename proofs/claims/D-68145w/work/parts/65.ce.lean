set_option maxRecDepth 10000
/-! a certificate: cell c, its reader r, bytes b -/
def CE (h : AH) (c r b n a : Nat) (g : Nat → Nat) : Prop := hp_k h c = 8 ∧ hp_R h c 1 = some r ∧ hp_R h c 2 = some b ∧ (∃ w, hp_R h c 0 = some w ∧ hp_k h w = 4) ∧ RD h r b n a g ∧ CON h ∧ Gb g n
def Sc (c r : Nat) : Nat → Nat → Prop := fun a j => (a = c ∧ 3 ≤ j) ∨ (a = r ∧ j = 1)
theorem Sr_c {c r : Nat} : ∀ a j, Sr r a j → Sc c r a j := fun _ _ h => Or.inr h
theorem CE.to {h : AH} {c r b n a : Nat} {g : Nat → Nat} (K : CE h c r b n a g) (a' : Nat) : CE (up_I h r 1 (nI a')) c r b n a' g := by
  obtain ⟨k1, k2, k3, k4, k5, k6, k7⟩ := K
  exact ⟨k1, k2, k3, k4, k5.to a', k5.con k6, k7⟩
theorem CE.I {h : AH} {c r b n a j : Nat} {v : Int32} {g : Nat → Nat} (K : CE h c r b n a g) : CE (up_I h c j v) c r b n a g := by
  obtain ⟨k1, k2, k3, k4, k5, k6, k7⟩ := K
  have n1 : r ≠ c := k_ne k5.1 k1 (by decide)
  have n2 : b ≠ c := by
    rintro rfl
    have := k5.2.2.2.1
    rcases this with q | q <;> omega
  obtain ⟨r1, r2, r3, r4, r5, r6, r7⟩ := k5
  refine ⟨k1, k2, k3, k4, ⟨r1, r2, by rw [rI2 n1]; exact r3, r4, r5, r6, fun i hi => by rw [rI2 n2]; exact r7 i hi⟩, ?_, k7⟩
  refine k6.fa (S := fun x _ => x = c) (dz := 0) (ds := 0) (fm.I (S := fun x _ => x = c) rfl).fa (fun x j hk hs => ?_)
  have : x = c := hs
  subst this
  omega
theorem CE.L {h : AH} {c r b n a j : Nat} {v : Int64} {g : Nat → Nat} (K : CE h c r b n a g) : CE (up_L h c j v) c r b n a g := by
  obtain ⟨k1, k2, k3, k4, k5, k6, k7⟩ := K
  obtain ⟨r1, r2, r3, r4, r5, r6, r7⟩ := k5
  refine ⟨k1, k2, k3, k4, ⟨r1, r2, r3, r4, r5, r6, fun i hi => r7 i hi⟩, ?_, k7⟩
  refine k6.fa (S := fun x _ => x = c) (dz := 0) (ds := 0) (fm.L (S := fun x _ => x = c) rfl).fa (fun x j hk hs => ?_)
  have : x = c := hs
  subst this
  omega
theorem by8_small {x : Int32} (h : by8 x) (hu : ub x < 128) : x = nI (ub x) := (b_eq h hu).mpr rfl
/-! digits -/
def d_dig (g : Nat → Nat) (a : Nat) : Nat → Option Nat
  | 0 => some 0
  | k + 1 => (d_dig g a k).bind fun v => if 48 ≤ g (a + k) ∧ g (a + k) ≤ 57 then some (v * 10 + g (a + k) - 48) else none
theorem d_dig_no {g : Nat → Nat} {a i : Nat} (h : d_dig g a i = none) : ∀ k, i ≤ k → d_dig g a k = none := by
  intro k hk
  induction k with
  | zero => have : i = 0 := by omega
            subst this; exact h
  | succ k ih =>
    by_cases e : i = k + 1
    · subst e; exact h
    · simp only [d_dig]; rw [ih (by omega)]; rfl
theorem d_dig_lt {g : Nat → Nat} {a : Nat} : ∀ {k v : Nat}, d_dig g a k = some v → v < 10 ^ k
  | 0, v, h => by cases h; decide
  | k + 1, v, h => by
    simp only [d_dig] at h
    cases hd : d_dig g a k with
    | none => rw [hd] at h; cases h
    | some u =>
      rw [hd] at h
      simp only [Option.bind_some] at h
      have := d_dig_lt hd
      split at h
      · cases h
        rw [Nat.pow_succ]
        omega
      · cases h
theorem s_digits {Q : Int32 → AH → Prop} {E : Nat → AH → Prop} {h : AH} {c r b n a p k : Nat} {g : Nat → Nat} (K : CE h c r b n a g) (m : rm h 1 6) (hp : p + k ≤ n) (hk : k ≤ 4) (kE : d_dig g p k = none → ∀ q h1, bx 14 (Sc c r) h h1 q → E q h1) (kQ : ∀ v, d_dig g p k = some v → v < 10000 → Q (nI v) h) : m_Cert_digits Q E c (nI p) (nI k) h := by
  obtain ⟨k1, k2, k3, k4, ⟨r1, r2, r3, r4, r5, r6, r7⟩, k6, k7⟩ := K
  unfold m_Cert_digits m_Cert_digits_5
  refine ⟨fun st => ∃ i v, i ≤ k ∧ st = (nI v, nI (p + i), h) ∧ d_dig g p i = some v, fun st => p + k - st.2.1.toNatClampNeg, ⟨0, 0, by omega, rfl, rfl⟩, ?_⟩
  rintro _ ⟨i, v, hi, rfl, hv⟩
  have hv2 := d_dig_lt hv
  have hpw : 10 ^ i ≤ 10 ^ 4 := Nat.pow_le_pow_right (by decide) (by omega)
  unfold m_Cert_digits_5_b m_Cert_digits_37
  simp (disch := omega) only [lit_nI, nI_add, nI_sub, nI_mul, nI_neg, nI_leI, nI_ltI, nI_eq, nI_clamp, vp_iff, nI_negne, nI_l]
  refine ⟨fun c1 => ?_, fun c1 => ⟨k1, b, k3, r4, by omega, fun h8 => ?_⟩⟩
  · have : i = k := by omega
    subst this
    exact kQ v hv (by omega)
  have e1 := r7 (p + i) (by omega)
  have hd1 : d_dig g p (i + 1) = if 48 ≤ g (p + i) ∧ g (p + i) ≤ 57 then some (v * 10 + g (p + i) - 48) else none := by simp only [d_dig]; rw [hv]; rfl
  rw [b_ltk h8 (by decide), b_lek h8 (by decide), e1]
  refine ⟨fun c2 => s_bad (Sc c r) m fun q h1 hb _ => kE (d_dig_no (i := i + 1) (by rw [hd1, if_neg (by omega)]) k (by omega)) q h1 hb, fun c2 => ⟨by omega, fun _ => ⟨fun c3 => ⟨by omega, fun _ => ?_⟩, fun c3 => s_bad (Sc c r) m fun q h1 hb _ => kE (d_dig_no (i := i + 1) (by rw [hd1, if_neg (by omega)]) k (by omega)) q h1 hb⟩⟩⟩
  rw [by8_small h8 (by omega), e1]
  simp (disch := omega) only [lit_nI, nI_add, nI_sub, nI_mul, nI_neg, nI_leI, nI_ltI, nI_eq, nI_clamp, vp_iff, nI_negne, nI_l]
  rintro _ rfl _ rfl
  refine ⟨⟨i + 1, v * 10 + g (p + i) - 48, by omega, ?_, by rw [hd1, if_pos (by omega)]⟩, ?_⟩
  · rfl
  · simp (disch := omega) only [lit_nI, nI_add, nI_sub, nI_mul, nI_neg, nI_leI, nI_ltI, nI_eq, nI_clamp, vp_iff, nI_negne, nI_l]
    omega
/-! days -/
theorem nI_div {a b : Nat} (ha : a < 2 ^ 31) (hb : b < 2 ^ 31) : nI a / nI b = nI (a / b) := by
  apply Int32.toInt_inj.mp
  have : a / b ≤ a := Nat.div_le_self _ _
  rw [Int32.toInt_div, nI_toInt ha, nI_toInt hb, nI_toInt (by omega)]
  have e : (a : Int).tdiv (b : Int) = ((a / b : Nat) : Int) := rfl
  have e2 : ((2 ^ 32 : Nat) : Int) = 4294967296 := rfl
  rw [e, Int.bmod_def, e2]
  have hx : a / b < 2 ^ 31 := Nat.lt_of_le_of_lt this ha
  generalize a / b = x at hx
  split <;> omega
def d_leap (y : Nat) : Bool := decide (y % 4 = 0) && (decide (y % 100 ≠ 0) || decide (y % 400 = 0))
def d_md (y mo : Nat) : Nat := if mo = 2 then (if d_leap y = true then 29 else 28) else if mo = 4 ∨ mo = 6 ∨ mo = 9 ∨ mo = 11 then 30 else 31
theorem s_monthDays {Q : Int32 → AH → Prop} {h : AH} {y mo : Nat} (hy : y < 10000) (hm : mo < 100) (k : Q (nI (d_md y mo)) h) : m_J_monthDays Q (nI y) (nI mo) h := by
  simp (disch := omega) only [m_J_monthDays, m_J_monthDays_64, m_J_monthDays_57, m_J_monthDays_33, m_J_monthDays_31, m_J_monthDays_26, lit_nI, nI_div, lit_nI, nI_add, nI_sub, nI_mul, nI_neg, nI_leI, nI_ltI, nI_eq, nI_clamp, vp_iff, nI_negne, nI_l]
  have e4 : y - y / 4 * 4 = y % 4 := by omega
  have e100 : y - y / 100 * 100 = y % 100 := by omega
  have e400 : y - y / 400 * 400 = y % 400 := by omega
  rw [e4, e100, e400]
  unfold d_md d_leap at k
  refine ⟨fun c1 => ⟨fun c2 => ?_, fun c2 => ⟨fun c3 => ?_, fun c3 => ⟨fun c4 => ?_, fun c4 => ⟨fun c5 => ?_, fun c5 => ?_⟩⟩⟩⟩, fun c1 => ⟨fun c2 => ?_, fun c2 => ⟨fun c3 => ?_, fun c3 => ⟨fun c4 => ?_, fun c4 => ?_⟩⟩⟩⟩ <;> simp_all
def lZ (z : Int) : Int64 := Int64.ofInt z
theorem lZ_add (a b : Int) : lZ a + lZ b = lZ (a + b) := (Int64.ofInt_add a b).symm
theorem lZ_sub (a b : Int) : lZ a - lZ b = lZ (a - b) := (Int64.ofInt_sub a b).symm
theorem lZ_mul (a b : Int) : lZ a * lZ b = lZ (a * b) := (Int64.ofInt_mul a b).symm
theorem lZ_nI {n : Nat} (h : n < 2 ^ 31) : (nI n).toInt64 = lZ n := by rw [nI_l h]; rfl
def d_days (y mo d : Nat) : Int := 365 * (if mo < 3 then y - 1 else y : Nat) + ((if mo < 3 then y - 1 else y) / 4 : Nat) - ((if mo < 3 then y - 1 else y) / 100 : Nat) + ((if mo < 3 then y - 1 else y) / 400 : Nat) + ((153 * (if mo < 3 then mo + 9 else mo - 3) + 2) / 5 : Nat) + d - 1 - 719468
theorem s_days {Q : Int64 → AH → Prop} {h : AH} {y mo d : Nat} (hy0 : 1 ≤ y) (hy : y < 100000) (hm : mo < 100) (hd : d < 1000) (k : Q (lZ (d_days y mo d)) h) : m_J_days Q (nI y) (nI mo) (nI d) h := by
  unfold m_J_days m_J_days_12 m_J_days_28
  rw [show (365 : Int64) = lZ 365 from rfl, show (1 : Int64) = lZ 1 from rfl, show (719468 : Int64) = lZ 719468 from rfl]
  unfold d_days at k
  refine ⟨fun c => ⟨fun _ => ?_, fun c2 => absurd c c2⟩, fun c => ⟨fun c2 => absurd c2 c, fun _ => ?_⟩⟩
  · simp (disch := omega) only [lit_nI, nI_div, lZ_nI, lit_nI, nI_add, nI_sub, nI_mul, nI_neg, nI_leI, nI_ltI, nI_eq, nI_clamp, vp_iff, nI_negne, nI_l] at c
    simp (disch := omega) only [lit_nI, nI_div, lZ_nI, lit_nI, nI_add, nI_sub, nI_mul, nI_neg, nI_leI, nI_ltI, nI_eq, nI_clamp, vp_iff, nI_negne, nI_l]
    simp only [lZ_add, lZ_sub, lZ_mul]
    rw [if_neg (by omega), if_neg (by omega)] at k
    exact k
  · simp (disch := omega) only [lit_nI, nI_div, lZ_nI, lit_nI, nI_add, nI_sub, nI_mul, nI_neg, nI_leI, nI_ltI, nI_eq, nI_clamp, vp_iff, nI_negne, nI_l] at c
    simp (disch := omega) only [lit_nI, nI_div, lZ_nI, lit_nI, nI_add, nI_sub, nI_mul, nI_neg, nI_leI, nI_ltI, nI_eq, nI_clamp, vp_iff, nI_negne, nI_l]
    simp only [lZ_add, lZ_sub, lZ_mul]
    rw [if_pos (by omega), if_pos (by omega)] at k
    exact k
