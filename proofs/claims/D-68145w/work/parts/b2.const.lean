set_option maxRecDepth 10000
/-! the root, bit by bit -/
def h_root (p w : Nat) : Nat → Nat → Nat
  | 0, B => B
  | n + 1, B => h_root p w n (if (B + 2 ^ n) ^ w ≤ p * 2 ^ (64 * w) then B + 2 ^ n else B)
theorem or_pow {x b : Nat} (hb : b < 64) (hx : x < 2 ^ 64) (h : x % 2 ^ (b + 1) = 0) : lN x ||| sh_ll (1 : Int64) (nI b) = lN (x + 2 ^ b) := by
  apply Int64.toBitVec_inj.mp
  have e1 : (sh_ll (1 : Int64) (nI b)).toBitVec = BitVec.ofNat 64 (2 ^ b) := by
    have : ∀ b, b < 64 → (sh_ll (1 : Int64) (nI b)).toBitVec = BitVec.ofNat 64 (2 ^ b) := by decide +kernel
    exact this b hb
  show BitVec.ofNat 64 x ||| (sh_ll (1 : Int64) (nI b)).toBitVec = BitVec.ofNat 64 (x + 2 ^ b)
  rw [e1]
  apply BitVec.eq_of_toNat_eq
  simp only [BitVec.toNat_or, BitVec.toNat_ofNat]
  have hp : 2 ^ b < 2 ^ 64 := Nat.pow_lt_pow_right (by decide) hb
  have hq : 2 ^ b < 2 ^ (b + 1) := Nat.pow_lt_pow_right (by decide) (by omega)
  obtain ⟨q, rfl⟩ : ∃ q, x = 2 ^ (b + 1) * q := ⟨x / 2 ^ (b + 1), by have := Nat.div_add_mod x (2 ^ (b + 1)); omega⟩
  have e2 := Nat.two_pow_add_eq_or_of_lt hq q
  have hs : 2 ^ (b + 1) * q + 2 ^ b < 2 ^ 64 := by
    obtain ⟨r, hr⟩ : ∃ r, 2 ^ 64 = 2 ^ (b + 1) * r := ⟨2 ^ (64 - (b + 1)), by rw [← Nat.pow_add]; exact congrArg (fun z => 2 ^ z) (by omega)⟩
    rw [hr] at hx ⊢
    have hqr : q < r := Nat.lt_of_mul_lt_mul_left hx
    have : 2 ^ (b + 1) * (q + 1) ≤ 2 ^ (b + 1) * r := Nat.mul_le_mul_left _ (by omega)
    rw [Nat.mul_add] at this
    omega
  rw [Nat.mod_eq_of_lt hx, Nat.mod_eq_of_lt hp, Nat.mod_eq_of_lt hs]
  exact e2.symm
theorem h_bound {w B : Nat} (hw : w = 2 ∨ w = 3) (hB : B < 2 ^ 67) : B ^ w < 2 ^ (64 * w) * 2 ^ 20 := by
  have h1 : B ^ w < (2 ^ 67) ^ w := Nat.pow_lt_pow_left hB (by omega)
  have h2 : (2 ^ 67) ^ w ≤ 2 ^ (64 * w) * 2 ^ 20 := by
    rw [← Nat.pow_mul, ← Nat.pow_add]
    exact Nat.pow_le_pow_right (by decide) (by omega)
  exact Nat.lt_of_lt_of_le h1 h2
theorem s_root {Q : Int64 → AH → Prop} {A : Nat → Nat} {h : AH} {p w : Nat} (M : ML A h) (hp : p < 1000) (hw : w = 2 ∨ w = 3) (kQ : ∀ h1, fm (SL A) h h1 → fmR h h1 → Q (lN (h_root p w 67 0 % 2 ^ 64)) h1) : m_M_root Q (A 40) (nI p) (nI w) h := by
  have M0 := M
  generalize hRR : h_root p w 67 0 = RR at kQ
  refine ⟨fun st => ∃ n B, n ≤ 67 ∧ st.1 = lN (B / 2 ^ 64) ∧ st.2.1 = lN (B % 2 ^ 64) ∧ st.2.2.1 = nI n - 1 ∧ fm (SL A) h st.2.2.2 ∧ fmR h st.2.2.2 ∧ B % 2 ^ n = 0 ∧ B < 2 ^ 67 ∧ h_root p w n B = RR, fun st => (st.2.2.1 + 1).toNatClampNeg, ⟨67, 0, by decide, rfl, rfl, rfl, fm.rf, rfl, rfl, Nat.two_pow_pos 67, hRR⟩, ?_⟩
  rintro ⟨w3, w5, x7, s⟩ ⟨n, B, hn, e1, e2, e3, F, R, hB, hB2, hr⟩
  simp only at e1 e2 e3 F R ⊢
  subst e1
  subst e2
  subst e3
  have Ms := M0.fm F R
  unfold m_M_root_9_b
  cases n with
  | zero =>
    refine ⟨fun _ => ?_, fun c => absurd (by decide) c⟩
    have := kQ s F R
    rw [← hr] at this
    exact this
  | succ n =>
    rw [show (1 : Int32) = nI 1 from rfl, nI_sub (by omega), show n + 1 - 1 = n by omega, show (0 : Int32) = nI 0 from rfl, nI_ltI (by omega) (by omega)]
    refine ⟨fun c => by omega, fun _ => ?_⟩
    have hB3 : B + 2 ^ n < 2 ^ 67 := by
      obtain ⟨r, hr'⟩ : ∃ r, 2 ^ 67 = 2 ^ (n + 1) * r := ⟨2 ^ (67 - (n + 1)), by rw [← Nat.pow_add]; exact congrArg (fun z => 2 ^ z) (by omega)⟩
      obtain ⟨q, rfl⟩ : ∃ q, B = 2 ^ (n + 1) * q := ⟨B / 2 ^ (n + 1), by have := Nat.div_add_mod B (2 ^ (n + 1)); omega⟩
      rw [hr'] at hB2 ⊢
      have hqr : q < r := Nat.lt_of_mul_lt_mul_left hB2
      have h1 : 2 ^ (n + 1) * (q + 1) ≤ 2 ^ (n + 1) * r := Nat.mul_le_mul_left _ (by omega)
      have h2 : 2 ^ n < 2 ^ (n + 1) := Nat.pow_lt_pow_right (by decide) (by omega)
      rw [Nat.mul_add] at h1
      omega
    simp only [h_root] at hr
    have go : ∀ h2 B2, fm (SL A) h h2 → fmR h h2 → B2 < 2 ^ 67 → B2 % 2 ^ n = 0 → h_root p w n B2 = RR → ((∃ n' B, n' ≤ 67 ∧ lN (B2 / 2 ^ 64) = lN (B / 2 ^ 64) ∧ lN (B2 % 2 ^ 64) = lN (B % 2 ^ 64) ∧ nI n + -1 = nI n' - 1 ∧ fm (SL A) h h2 ∧ fmR h h2 ∧ B % 2 ^ n' = 0 ∧ B < 2 ^ 67 ∧ h_root p w n' B = RR) ∧ (nI n + -1 + 1).toNatClampNeg < (nI n + 1).toNatClampNeg) := fun h2 B2 F2 R2 b1 b2 b3 => by
      have em : (-1 : Int32) = - 1 := rfl
      refine ⟨⟨n, B2, by omega, rfl, rfl, by rw [em, ← Int32.sub_eq_add_neg], F2, R2, b2, b1, b3⟩, ?_⟩
      have e4 : nI n + -1 + 1 = nI n := by rw [em, ← Int32.sub_eq_add_neg, Int32.sub_add_cancel]
      rw [e4, nI_1, nI_clamp (by omega), nI_clamp (by omega)]
      omega
    have fin : ∀ x y, lN x = lN (B / 2 ^ 64) → lN y = lN (B % 2 ^ 64) → m_M_root_55 Q (fun st => (∃ n B, n ≤ 67 ∧ st.1 = lN (B / 2 ^ 64) ∧ st.2.1 = lN (B % 2 ^ 64) ∧ st.2.2.1 = nI n - 1 ∧ fm (SL A) h st.2.2.2 ∧ fmR h st.2.2.2 ∧ B % 2 ^ n = 0 ∧ B < 2 ^ 67 ∧ h_root p w n B = RR) ∧ (st.2.2.1 + 1).toNatClampNeg < (nI n + 1).toNatClampNeg) (A 40) (nI p) (nI w) (lN x) (lN y) (nI n) (lN ((B + 2 ^ n) / 2 ^ 64)) (lN ((B + 2 ^ n) % 2 ^ 64)) s := fun x y hx hy => by
      have eB : (B + 2 ^ n) / 2 ^ 64 * 2 ^ 64 + (B + 2 ^ n) % 2 ^ 64 = B + 2 ^ n := by
        have := Nat.div_add_mod (B + 2 ^ n) (2 ^ 64)
        rw [Nat.mul_comm] at this
        exact this
      have b7 : (B + 2 ^ n) / 2 ^ 64 < 8 := by
        apply Nat.div_lt_of_lt_mul
        rw [show 2 ^ 64 * 8 = 2 ^ 67 from by decide]
        exact hB3
      refine ⟨Ms.1, s_fits Ms b7 (Nat.mod_lt _ (Nat.two_pow_pos 64)) hp hw (by rw [eB]; exact h_bound hw hB3) (fun h2 F2 R2 _ _ => ?_)⟩
      rw [eB]
      have hBn : B % 2 ^ n = 0 := by
        obtain ⟨q, rfl⟩ : ∃ q, B = 2 ^ (n + 1) * q := ⟨B / 2 ^ (n + 1), by have := Nat.div_add_mod B (2 ^ (n + 1)); omega⟩
        rw [show 2 ^ (n + 1) * q = 2 ^ n * (2 * q) by rw [Nat.pow_succ]; ac_rfl]
        exact Nat.mul_mod_right _ _
      by_cases hc : (B + 2 ^ n) ^ w ≤ p * 2 ^ (64 * w)
      · rw [if_pos hc] at hr
        rw [decide_eq_true hc]
        refine ⟨fun c => absurd c (by decide), fun _ => ?_⟩
        rintro _ rfl
        exact go h2 (B + 2 ^ n) (F.tr F2) (R2.trans R) hB3 (by rw [Nat.add_mod_right]; exact hBn) hr
      · rw [if_neg hc] at hr
        rw [decide_eq_false hc]
        refine ⟨fun _ => ?_, fun c => absurd rfl c⟩
        rintro _ rfl
        rw [hx, hy]
        exact go h2 B (F.tr F2) (R2.trans R) hB2 hBn hr
    unfold m_M_root_34
    rw [show (63 : Int32) = nI 63 from rfl, nI_leI (by omega) (by omega)]
    have pp := Nat.two_pow_pos n
    refine ⟨fun c => ⟨fun _ => ?_, fun c2 => absurd c c2⟩, fun c => ⟨fun c2 => absurd c2 c, fun _ => ?_⟩⟩
    · have h64 : 2 ^ 64 = 2 ^ (n + 1) * 2 ^ (64 - (n + 1)) := by rw [← Nat.pow_add]; exact congrArg (fun z => 2 ^ z) (by omega)
      have hm : B % 2 ^ 64 % 2 ^ (n + 1) = 0 := by
        rw [Nat.mod_mod_of_dvd _ ⟨2 ^ (64 - (n + 1)), h64⟩]; exact hB
      have hlt : B % 2 ^ 64 + 2 ^ n < 2 ^ 64 := by
        have h1 := Nat.mod_lt B (Nat.two_pow_pos 64)
        obtain ⟨q, hq⟩ : ∃ q, B % 2 ^ 64 = 2 ^ (n + 1) * q := ⟨B % 2 ^ 64 / 2 ^ (n + 1), by have := Nat.div_add_mod (B % 2 ^ 64) (2 ^ (n + 1)); omega⟩
        rw [hq] at h1 ⊢
        rw [h64] at h1 ⊢
        have hqr := Nat.lt_of_mul_lt_mul_left h1
        have h2 : 2 ^ (n + 1) * (q + 1) ≤ 2 ^ (n + 1) * 2 ^ (64 - (n + 1)) := Nat.mul_le_mul_left _ (by omega)
        have h3 : 2 ^ n < 2 ^ (n + 1) := Nat.pow_lt_pow_right (by decide) (by omega)
        rw [Nat.mul_add] at h2
        omega
      rw [or_pow (by omega) (Nat.mod_lt _ (Nat.two_pow_pos 64)) hm]
      have d := Nat.div_add_mod B (2 ^ 64)
      have e5 : (B + 2 ^ n) / 2 ^ 64 = B / 2 ^ 64 := by
        rw [← d, Nat.add_assoc, Nat.mul_add_div (Nat.two_pow_pos 64), Nat.div_eq_of_lt hlt, Nat.mul_add_div (Nat.two_pow_pos 64), Nat.div_eq_of_lt (Nat.mod_lt _ (Nat.two_pow_pos 64))]
      have e6 : (B + 2 ^ n) % 2 ^ 64 = B % 2 ^ 64 + 2 ^ n := by
        have d2 := Nat.div_add_mod (B + 2 ^ n) (2 ^ 64)
        rw [e5] at d2
        omega
      have := fin (B / 2 ^ 64) (B % 2 ^ 64) rfl rfl
      rw [e5, e6] at this
      exact this
    · have h64 : 2 ^ n = 2 ^ 64 * 2 ^ (n - 64) := by rw [← Nat.pow_add]; exact congrArg (fun z => 2 ^ z) (by omega)
      have hB0 : B % 2 ^ 64 = 0 := by
        have : 2 ^ (n + 1) = 2 ^ 64 * 2 ^ (n + 1 - 64) := by rw [← Nat.pow_add]; exact congrArg (fun z => 2 ^ z) (by omega)
        rw [this] at hB
        have d := Nat.div_add_mod B (2 ^ 64 * 2 ^ (n + 1 - 64))
        rw [hB, Nat.add_zero, Nat.mul_assoc] at d
        rw [← d]
        exact Nat.mul_mod_right _ _
      have hdv : B / 2 ^ 64 % 2 ^ (n - 64 + 1) = 0 := by
        have : 2 ^ (n + 1) = 2 ^ 64 * 2 ^ (n - 64 + 1) := by rw [← Nat.pow_add]; exact congrArg (fun z => 2 ^ z) (by omega)
        rw [this] at hB
        have d := Nat.div_add_mod B (2 ^ 64 * 2 ^ (n - 64 + 1))
        rw [hB, Nat.add_zero, Nat.mul_assoc] at d
        rw [← d, Nat.mul_div_cancel_left _ (Nat.two_pow_pos 64)]
        exact Nat.mul_mod_right _ _
      have hlt : B / 2 ^ 64 < 2 ^ 64 := by
        apply Nat.div_lt_of_lt_mul
        refine Nat.lt_of_lt_of_le hB2 ?_
        rw [← Nat.pow_add]
        exact Nat.pow_le_pow_right (by decide) (by decide)
      rw [show (64 : Int32) = nI 64 from rfl, nI_sub (by omega), or_pow (by omega) hlt hdv]
      have e5 : (B + 2 ^ n) / 2 ^ 64 = B / 2 ^ 64 + 2 ^ (n - 64) := by
        rw [h64, Nat.add_mul_div_left _ _ (Nat.two_pow_pos 64)]
      have e6 : (B + 2 ^ n) % 2 ^ 64 = B % 2 ^ 64 := by
        rw [h64, Nat.add_mul_mod_self_left]
      have := fin (B / 2 ^ 64) (B % 2 ^ 64) rfl rfl
      rw [e5, e6] at this
      exact this
