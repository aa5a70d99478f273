set_option maxRecDepth 10000
theorem vl_div {c : Nat → Nat} (hc : ∀ j, j < 8 → c j < 2 ^ 32) : ∀ {n k : Nat}, k ≤ n → n ≤ 8 → vl c n % 2 ^ (32 * k) = vl c k
  | 0, k, h, _ => by
    have : k = 0 := by omega
    subst this
    exact Nat.mod_one _
  | n + 1, k, h, hn => by
    by_cases hk : k = n + 1
    · subst hk
      exact Nat.mod_eq_of_lt (vl_lt (fun j hj => hc j (by omega)))
    · have ih := vl_div hc (n := n) (k := k) (by omega) (by omega)
      simp only [vl]
      have e : c n * 2 ^ (32 * n) = 2 ^ (32 * k) * (c n * 2 ^ (32 * (n - k))) := by
        rw [show 32 * n = 32 * k + 32 * (n - k) by omega, Nat.pow_add]
        ac_rfl
      rw [e, Nat.add_mul_mod_self_left]
      exact ih
/-- the part above k limbs -/
theorem vl_top2 {c : Nat → Nat} (hc : ∀ j, j < 8 → c j < 2 ^ 32) {k : Nat} (hk : k < 8) : vl c 8 / 2 ^ (32 * k) = vl c 8 / 2 ^ (32 * (k + 1)) * 2 ^ 32 + c k := by
  have e1 := vl_div hc (n := 8) (k := k) (by omega) (by omega)
  have e2 := vl_div hc (n := 8) (k := k + 1) (by omega) (by omega)
  have e2' : vl c (k + 1) = vl c k + c k * 2 ^ (32 * k) := rfl
  rw [e2'] at e2
  have hk0 := Nat.two_pow_pos (32 * k)
  have e3 : 2 ^ (32 * (k + 1)) = 2 ^ (32 * k) * 2 ^ 32 := by rw [← Nat.pow_add]; exact congrArg (fun z => 2 ^ z) (by omega)
  have d1 := Nat.div_add_mod (vl c 8) (2 ^ (32 * (k + 1)))
  have d2 := Nat.div_add_mod (vl c 8) (2 ^ (32 * k))
  rw [e1] at d2
  rw [e2, e3] at d1
  rw [e3]
  generalize vl c 8 = V at *
  generalize vl c k = W at *
  generalize 2 ^ (32 * k) = P at *
  generalize V / (P * 2 ^ 32) = q at *
  generalize V / P = r at *
  have : P * r = P * (q * 2 ^ 32 + c k) := by
    rw [Nat.mul_add]
    have e4 : P * (q * 2 ^ 32) = P * 2 ^ 32 * q := by ac_rfl
    have e5 : P * c k = c k * P := Nat.mul_comm _ _
    omega
  exact Nat.eq_of_mul_eq_mul_left hk0 this
theorem ll_step2 : ∀ (v u : Nat), v < 2 ^ 31 → u < 2 ^ 32 → (sh_ll (lN v) 32 ||| lN u) = lN (v * 2 ^ 32 + u) := by
  intro v u hv hu
  apply Int64.toBitVec_inj.mp
  have e1 : (sh_ll (lN v) 32).toBitVec = BitVec.ofNat 64 (v * 2 ^ 32) := by
    show (BitVec.ofNat 64 v) <<< _ = _
    apply BitVec.eq_of_toNat_eq
    simp [BitVec.toNat_shiftLeft, BitVec.toNat_ofNat, Nat.shiftLeft_eq]
  show (sh_ll (lN v) 32).toBitVec ||| BitVec.ofNat 64 u = BitVec.ofNat 64 (v * 2 ^ 32 + u)
  rw [e1]
  apply BitVec.eq_of_toNat_eq
  simp only [BitVec.toNat_or, BitVec.toNat_ofNat]
  rw [Nat.mod_eq_of_lt (by omega), Nat.mod_eq_of_lt (by omega), Nat.mod_eq_of_lt (by omega)]
  have := Nat.shiftLeft_add_eq_or_of_lt (i := 32) (b := u) hu v
  rw [Nat.shiftLeft_eq] at this
  exact this.symm
theorem ar_le {V p P : Nat} (hP : 0 < P) : (V ≤ p * P) ↔ (V / P < p ∨ (V / P = p ∧ V % P = 0)) := by
  have d := Nat.div_add_mod V P
  have hm := Nat.mod_lt V hP
  generalize V / P = q at *
  generalize V % P = r at *
  rw [Nat.mul_comm] at d
  constructor
  · intro h
    by_cases hq : q < p
    · exact Or.inl hq
    · have h1 : p * P ≤ q * P := Nat.mul_le_mul_right _ (by omega)
      have h2 : q * P = p * P := by omega
      have h3 : q = p := Nat.eq_of_mul_eq_mul_right hP h2
      exact Or.inr ⟨h3, by omega⟩
  · rintro (h | ⟨rfl, h⟩)
    · have h1 : (q + 1) * P ≤ p * P := Nat.mul_le_mul_right _ (by omega)
      rw [Nat.add_mul] at h1
      omega
    · omega
theorem vl_zero {c : Nat → Nat} {n : Nat} : vl c n = 0 ↔ ∀ j, j < n → c j = 0 := by
  induction n with
  | zero => exact ⟨fun _ j hj => by omega, fun _ => rfl⟩
  | succ n ih =>
    simp only [vl]
    have hp := Nat.two_pow_pos (32 * n)
    constructor
    · intro h j hj
      by_cases hjn : j = n
      · subst hjn
        apply Classical.byContradiction
        intro hc
        have : 1 * 2 ^ (32 * j) ≤ c j * 2 ^ (32 * j) := Nat.mul_le_mul_right _ (by omega)
        omega
      · exact ih.mp (by omega) j (by omega)
    · intro h
      rw [ih.mpr (fun j hj => h j (by omega)), h n (by omega)]
      omega
theorem s_fits {Q : Int32 → AH → Prop} {A : Nat → Nat} {h : AH} {hi lo p w : Nat} (M : ML A h) (hhi : hi < 8) (hlo : lo < 2 ^ 64) (hp : p < 1000) (hw : w = 2 ∨ w = 3) (hB : (hi * 2 ^ 64 + lo) ^ w < 2 ^ (64 * w) * 2 ^ 20) (kQ : ∀ h1, fm (SL A) h h1 → fmR h h1 → Q (b2 (decide ((hi * 2 ^ 64 + lo) ^ w ≤ p * 2 ^ (64 * w)))) h1) : m_M_fits Q (A 40) (lN hi) (lN lo) (nI p) (nI w) h := by
  have M0 := M
  have m6 := M.2.2.2.2.2
  have hw8 : 64 * w + 20 ≤ 32 * 8 := by omega
  have hB2 : ∀ i, i ≤ w → 1 ≤ (hi * 2 ^ 64 + lo) → (hi * 2 ^ 64 + lo) ^ i < 2 ^ (32 * 8) := fun i hi' h1 => by
    have e1 : (hi * 2 ^ 64 + lo) ^ i ≤ (hi * 2 ^ 64 + lo) ^ w := Nat.pow_le_pow_right h1 hi'
    have e2 : 2 ^ (64 * w) * 2 ^ 20 ≤ 2 ^ (32 * 8) := by rw [← Nat.pow_add]; exact Nat.pow_le_pow_right (by decide) hw8
    generalize 2 ^ (32 * 8) = Z at *
    omega
  -- the last loops
  have p3 : ∀ s l, fm (SL A) h s → fmR h s → LB s (A 58) l → vl l 8 = (hi * 2 ^ 64 + lo) ^ w → m_M_fits_62 Q (A 40) (nI p) (nI w) 0 7 s := fun s l F R L hv => by
    have hc : ∀ j, j < 8 → l j < 2 ^ 32 := fun j hj => (L j hj).1
    obtain ⟨q1, q2, q3, q4, q5, q6⟩ := M0.fm F R
    have kQ := kQ s F R
    rw [← hv] at kQ hB
    have hsm : ∀ k, 2 * w ≤ k → k ≤ 8 → vl l 8 / 2 ^ (32 * k) < 2 ^ 20 := fun k hk hk8 => by
      have e : 2 ^ (32 * k) = 2 ^ (64 * w) * 2 ^ (32 * k - 64 * w) := by rw [← Nat.pow_add]; exact congrArg (fun z => 2 ^ z) (by omega)
      have e2 := Nat.two_pow_pos (32 * k - 64 * w)
      apply Nat.div_lt_of_lt_mul
      rw [e]
      refine Nat.lt_of_lt_of_le hB ?_
      rw [Nat.mul_assoc]
      refine Nat.mul_le_mul_left _ ?_
      exact Nat.le_mul_of_pos_left _ e2
    refine ⟨fun st => ∃ k, 2 * w ≤ k ∧ k ≤ 8 ∧ st = (lN (vl l 8 / 2 ^ (32 * k)), nI k - 1, s), fun st => (st.2.1 + 1).toNatClampNeg, ⟨8, by omega, by decide, ?_⟩, ?_⟩
    · rw [Nat.div_eq_of_lt (vl_lt hc)]
      rfl
    rintro _ ⟨k, hk, hk8, rfl⟩
    simp only
    unfold m_M_fits_62_b
    rw [show (1 : Int32) = nI 1 from rfl, nI_sub (by omega), show (2 : Int32) = nI 2 from rfl, nI_mul, nI_ltI (by omega) (by omega), nI_l (by omega)]
    refine ⟨fun c => ?_, fun c => ⟨q1, A 58, q2, Or.inl q4.1, by rw [q4.2, vp_iff (by omega)]; omega, ?_⟩⟩
    · have hk2 : k = 2 * w := by omega
      subst hk2
      have hs := hsm (2 * w) (by omega) (by omega)
      have e64 : 32 * (2 * w) = 64 * w := by omega
      rw [e64] at hs ⊢
      have al := ar_le (V := vl l 8) (p := p) (P := 2 ^ (64 * w)) (Nat.two_pow_pos _)
      have em := vl_div hc (n := 8) (k := 2 * w) (by omega) (by omega)
      rw [e64] at em
      rw [em] at al
      generalize hq : vl l 8 / 2 ^ (64 * w) = q at *
      rw [lg_cmp_eq, lg_cmp_ge, lN_eq (by omega) (by omega), lN_le (by omega) (by omega)]
      refine ⟨fun c1 => ?_, fun c1 => ⟨fun c2 => ⟨Or.inl rfl, ?_⟩, fun c2 => ⟨Or.inr rfl, ?_⟩⟩⟩
      · refine ⟨fun st => ∃ j, j ≤ 2 * w ∧ st = (nI j, s) ∧ ∀ i, i < j → l i = 0, fun st => 2 * w - st.1.toNatClampNeg, ⟨0, by omega, rfl, fun i hi => by omega⟩, ?_⟩
        rintro _ ⟨j, hj, rfl, hz⟩
        simp only
        unfold m_M_fits_119_b
        rw [show (2 : Int32) = nI 2 from rfl, nI_mul, nI_leI (by omega) (by omega)]
        refine ⟨fun c2 => ?_, fun c2 => ⟨q1, A 58, q2, Or.inl q4.1, by rw [q4.2, vp_iff (by omega)]; omega, ?_⟩⟩
        · have : j = 2 * w := by omega
          subst this
          rw [decide_eq_true (al.mpr (Or.inr ⟨c1, vl_zero.mpr hz⟩))] at kQ
          exact kQ
        · rw [nI_clamp (by omega), (L j (by omega)).2, lg_cmp_eq, show (0 : Int64) = lN 0 from rfl]
          have e0 : lN (l j) = lN 0 ↔ l j = 0 := by
            constructor
            · intro e
              have e1 : (lN (l j)).toBitVec.toNat = (lN 0).toBitVec.toNat := by rw [e]
              have e2 : ∀ n, (lN n).toBitVec.toNat = n % 2 ^ 64 := fun n => by
                show (BitVec.ofNat 64 n).toNat = n % 2 ^ 64
                rw [BitVec.toNat_ofNat]
              rw [e2, e2] at e1
              have := hc j (by omega)
              omega
            · intro e; rw [e]
          rw [e0]
          refine ⟨fun c3 => ?_, fun c3 => ?_⟩
          · rintro _ rfl
            refine ⟨⟨j + 1, by omega, by rw [nI_1], fun i hi => ?_⟩, ?_⟩
            · by_cases hij : i = j
              · rw [hij]; exact c3
              · exact hz i (by omega)
            · simp (disch := omega) only [nI_1, nI_clamp]
              omega
          · rw [decide_eq_false (fun q => ?_)] at kQ
            · exact kQ
            · rcases al.mp q with q | q
              · omega
              · exact c3 (vl_zero.mp q.2 j (by omega))
      · rw [decide_eq_false (fun q => ?_)] at kQ
        · exact kQ
        · rcases al.mp q with q | q
          · omega
          · omega
      · rw [decide_eq_true (al.mpr (Or.inl (by omega)))] at kQ
        exact kQ
    · rw [nI_clamp (by omega), (L (k - 1) (by omega)).2]
      have hs := hsm k hk hk8
      have e := vl_top2 hc (k := k - 1) (by omega)
      rw [show k - 1 + 1 = k by omega] at e
      rw [ll_step2 _ _ (by omega) (hc _ (by omega)), ← e]
      rintro _ rfl _ rfl
      refine ⟨⟨k - 1, by omega, by omega, ?_⟩, ?_⟩
      · rw [← Int32.sub_eq_add_neg]
      · rw [← Int32.sub_eq_add_neg]
        simp (disch := omega) only [nI_sub, nI_add, nI_clamp]
        omega
  -- the raisings
  have p2 : ∀ s l, fm (SL A) h s → fmR h s → LB s (A 58) l → vl l 8 = 1 → m_M_fits_36 Q (A 40) (lN hi) (lN lo) (nI p) (nI w) 0 s := fun s0 l0 F0 R0 L0 hv0 => by
    refine ⟨fun st => ∃ i l, i ≤ w ∧ st.1 = nI i ∧ fm (SL A) h st.2 ∧ fmR h st.2 ∧ LB st.2 (A 58) l ∧ vl l 8 = (hi * 2 ^ 64 + lo) ^ i, fun st => w - st.1.toNatClampNeg, ⟨0, l0, by omega, rfl, F0, R0, L0, by rw [hv0, Nat.pow_zero]⟩, ?_⟩
    rintro ⟨v, s⟩ ⟨i, l, hi', hv, F, R, L, hl⟩
    simp only at hv F R L hl ⊢
    subst hv
    have Ms := M0.fm F R
    unfold m_M_fits_36_b
    rw [nI_leI (by omega) (by omega)]
    refine ⟨fun c => ?_, fun c => ⟨Ms.1, ?_⟩⟩
    · have : i = w := by omega
      subst this
      exact p3 s l F R L hl
    · refine s_raise Ms hhi hlo L ?_ (fun h1 l1 F1 R1 L1 hv1 _ => ?_)
      · rw [hl, ← Nat.pow_succ]
        by_cases h1 : 1 ≤ hi * 2 ^ 64 + lo
        · exact hB2 (i + 1) (by omega) h1
        · rw [show hi * 2 ^ 64 + lo = 0 by omega, Nat.zero_pow (by omega)]
          exact Nat.two_pow_pos _
      · rintro _ rfl
        refine ⟨⟨i + 1, l1, by omega, by simp only [nI_1], F.tr F1, R1.trans R, L1, by rw [hv1, hl]; exact (Nat.pow_succ _ _).symm⟩, ?_⟩
        simp (disch := omega) only [nI_1, nI_clamp]
        omega
  refine ⟨fun st => ∃ k, k ≤ 8 ∧ st.1 = nI k ∧ fm (SL A) h st.2 ∧ fmR h st.2 ∧ (∀ j, j < k → hp_L st.2 (A 58) j = lN (if j = 0 then 1 else 0)), fun st => 8 - st.1.toNatClampNeg, ⟨0, by decide, rfl, fm.rf, rfl, fun j hj => by omega⟩, ?_⟩
  rintro ⟨v, s⟩ ⟨k, hk, hv, F, R, hs⟩
  simp only at hv F R hs ⊢
  subst hv
  obtain ⟨q1, q2, q3, q4, q5, q6⟩ := M0.fm F R
  unfold m_M_fits_3_b
  rw [show (8 : Int32) = nI 8 from rfl, nI_leI (by omega) (by omega), show (0 : Int32) = nI 0 from rfl, nI_eq (by omega) (by omega)]
  have put : ∀ x, x = (if k = 0 then 1 else 0) → k < 8 → m_M_fits_26 Q (fun st => (∃ k, k ≤ 8 ∧ st.1 = nI k ∧ fm (SL A) h st.2 ∧ fmR h st.2 ∧ (∀ j, j < k → hp_L st.2 (A 58) j = lN (if j = 0 then 1 else 0))) ∧ 8 - st.1.toNatClampNeg < 8 - (nI k).toNatClampNeg) (A 40) (lN hi) (lN lo) (nI p) (nI w) (nI k) (A 58) (nI k) (lN x) s := fun x hx hk8 => by
    refine ⟨q4.1, by rw [q4.2, vp_iff (by omega)]; omega, ?_⟩
    rw [nI_clamp (by omega)]
    rintro _ rfl _ rfl
    refine ⟨⟨k + 1, by omega, by simp only [nI_1], F.tr (fm.L (Or.inl rfl)), R, fun j hj => ?_⟩, ?_⟩
    · simp only
      by_cases hjk : j = k
      · rw [hjk, rL1, hx]
      · rw [rL3 hjk]; exact hs j (by omega)
    · simp (disch := omega) only [nI_1, nI_clamp]
      omega
  refine ⟨fun c => ?_, fun c => ⟨q1, A 58, q2, fun c2 => put 0 (by rw [if_neg c2]) (by omega), fun c2 => put 1 (by rw [if_pos c2]) (by omega)⟩⟩
  have : k = 8 := by omega
  subst this
  refine p2 s (fun j => if j = 0 then 1 else 0) F R (fun j hj => ⟨?_, hs j hj⟩) ?_
  · simp only
    split <;> decide
  · have : ∀ n, vl (fun j => if j = 0 then 1 else 0) (n + 1) = 1 := fun n => by
      induction n with
      | zero => rfl
      | succ n ih =>
        rw [show vl (fun j => if j = 0 then 1 else 0) (n + 1 + 1) = vl (fun j => if j = 0 then 1 else 0) (n + 1) + (if n + 1 = 0 then 1 else 0) * 2 ^ (32 * (n + 1)) from rfl, ih, if_neg (by omega)]
        omega
    exact this 7
