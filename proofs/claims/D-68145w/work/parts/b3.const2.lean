set_option maxRecDepth 10000
def h_pr : List Nat := [2, 3, 5, 7, 11, 13, 17, 19, 23, 29, 31, 37, 41, 43, 47, 53, 59, 61, 67, 71, 73, 79, 83, 89, 97, 101, 103, 107, 109, 113, 127, 131, 137, 139, 149, 151, 157, 163, 167, 173, 179, 181, 191, 193, 197, 199, 211, 223, 227, 229, 233, 239, 241, 251, 257, 263, 269, 271, 277, 281, 283, 293, 307, 311]
def h_p (k : Nat) : Nat := h_pr.getD k 0
theorem hK_ok : ∀ k, k < 64 → (sh_lu (lN (h_root (h_p k) 3 67 0 % 2 ^ 64)) 32).toInt32 = hK k := by decide +kernel
theorem hH_ok : ∀ k, k < 8 → (sh_lu (lN (h_root (h_p k) 2 67 0 % 2 ^ 64)) 32).toInt32 = hH k := by decide +kernel
/-- q has a divisor -/
def h_div (q : Nat) : Bool := (List.range 20).any fun d => decide (2 ≤ d) && (decide (d * d ≤ q) && decide (q % d = 0))
theorem h_div_iff {q : Nat} (hq : q < 400) : h_div q = true ↔ ∃ d, 2 ≤ d ∧ d * d ≤ q ∧ q % d = 0 := by
  unfold h_div
  rw [List.any_eq_true]
  constructor
  · rintro ⟨d, -, h⟩
    simp only [Bool.and_eq_true, decide_eq_true_eq] at h
    exact ⟨d, h.1, h.2.1, h.2.2⟩
  · rintro ⟨d, h1, h2, h3⟩
    refine ⟨d, ?_, by simp only [Bool.and_eq_true, decide_eq_true_eq]; exact ⟨h1, h2, h3⟩⟩
    rw [List.mem_range]
    apply Classical.byContradiction
    intro hc
    have : 20 * 20 ≤ d * d := Nat.mul_le_mul (by omega) (by omega)
    omega
theorem h_p_ok : ∀ k, k < 64 → h_p k < 312 ∧ h_div (h_p k) = false ∧ (if k = 0 then 1 else h_p (k - 1)) < h_p k ∧ ∀ q, q < h_p k → (if k = 0 then 1 else h_p (k - 1)) < q → h_div q = true := by decide +kernel
theorem s_prime {Q : Int32 → AH → Prop} {h : AH} {a t : Nat} (ha : a < t) (ht : t < 312) (hy : h_div t = false) (hn : ∀ q, q < t → a < q → h_div q = true) (k : Q (nI t) h) : m_M_prime Q (nI a) h := by
  refine ⟨fun s => s.2.2 = h ∧ ((s.2.1 = 0 ∧ ∃ p, s.1 = nI p ∧ a ≤ p ∧ p < t) ∨ (s.2.1 = 1 ∧ s.1 = nI t)), fun s => if s.2.1 = 0 then t + 1 - s.1.toNatClampNeg else 0, ⟨rfl, Or.inl ⟨rfl, a, rfl, by omega, ha⟩⟩, ?_⟩
  rintro ⟨x1, x2, s⟩ ⟨hs, hc⟩
  simp only at hs hc ⊢
  subst hs
  rcases hc with ⟨rfl, p, rfl, p1, p2⟩ | ⟨rfl, rfl⟩
  rotate_left
  · exact ⟨fun _ => k, fun c => absurd c (by decide)⟩
  refine ⟨fun c => absurd rfl c, fun _ => ?_⟩
  rw [nI_1]
  rintro _ rfl
  refine ⟨fun st => st.2.2 = s ∧ ∃ d, 2 ≤ d ∧ (d - 1) * (d - 1) ≤ p + 1 ∧ st.2.1 = nI d ∧ ((st.1 = 1 ∧ ∀ e, 2 ≤ e → e < d → (p + 1) % e ≠ 0) ∨ (st.1 = 0 ∧ ∃ e, 2 ≤ e ∧ e < d ∧ e * e ≤ p + 1 ∧ (p + 1) % e = 0)), fun st => 1000 - st.2.1.toNatClampNeg, ⟨rfl, 2, by decide, by omega, rfl, Or.inl ⟨rfl, fun e h1 h2 => by omega⟩⟩, ?_⟩
  rintro ⟨x2, x3, s'⟩ ⟨hs, d, d1, d2, hd, hc⟩
  simp only at hs hd hc ⊢
  subst hs
  subst hd
  have d3 : d < 20 := by
    apply Classical.byContradiction
    intro hc
    have : 19 * 19 ≤ (d - 1) * (d - 1) := Nat.mul_le_mul (by omega) (by omega)
    omega
  have dd : d * d ≤ 19 * 19 := Nat.mul_le_mul (by omega) (by omega)
  unfold m_M_prime_15_b
  rw [nI_mul, nI_ltI (by omega) (by omega)]
  refine ⟨fun c => ?_, fun c => ⟨?_, ?_⟩⟩
  · have sm : ∀ e, e * e ≤ p + 1 → e < d := fun e he => by
      apply Classical.byContradiction
      intro hc
      have : d * d ≤ e * e := Nat.mul_le_mul (by omega) (by omega)
      omega
    rcases hc with ⟨rfl, hc⟩ | ⟨rfl, e, e1, e2, e3, e4⟩
    · have hpt : p + 1 = t := by
        apply Classical.byContradiction
        intro hne
        obtain ⟨e, e1, e2, e3⟩ := (h_div_iff (by omega)).mp (hn (p + 1) (by omega) (by omega))
        exact hc e e1 (sm e e2) e3
      refine ⟨⟨rfl, Or.inr ⟨rfl, by rw [hpt]⟩⟩, ?_⟩
      simp (disch := omega) only [nI_clamp]
      rw [if_neg (by decide), if_pos trivial]
      omega
    · have hpt : p + 1 ≠ t := fun hpt => by
        rw [← hpt] at hy
        rw [(h_div_iff (by omega)).mpr ⟨e, e1, e3, e4⟩] at hy
        cases hy
      refine ⟨⟨rfl, Or.inl ⟨rfl, p + 1, rfl, by omega, by omega⟩⟩, ?_⟩
      simp (disch := omega) only [nI_clamp, if_true]
      omega
  · rw [show (0 : Int32) = nI 0 from rfl, nI_eq (by omega) (by omega)]
    omega
  · have e : p + 1 - (p + 1) / d * d = (p + 1) % d := by
      have := Nat.div_add_mod (p + 1) d
      rw [Nat.mul_comm] at this
      omega
    have el : (p + 1) / d * d ≤ p + 1 := Nat.div_mul_le_self _ _
    have em : (p + 1) % d ≤ p + 1 := Nat.mod_le _ _
    rw [nI_div (by omega) (by omega), nI_mul, nI_sub el, e, show (0 : Int32) = nI 0 from rfl, nI_eq (by omega) (by omega)]
    have nx : ∀ y : Int32, ((y = 1 ∧ ∀ e, 2 ≤ e → e < d + 1 → (p + 1) % e ≠ 0) ∨ (y = 0 ∧ ∃ e, 2 ≤ e ∧ e < d + 1 ∧ e * e ≤ p + 1 ∧ (p + 1) % e = 0)) → (s' = s' ∧ ∃ d', 2 ≤ d' ∧ (d' - 1) * (d' - 1) ≤ p + 1 ∧ nI d + 1 = nI d' ∧ ((y = 1 ∧ ∀ e, 2 ≤ e → e < d' → (p + 1) % e ≠ 0) ∨ (y = 0 ∧ ∃ e, 2 ≤ e ∧ e < d' ∧ e * e ≤ p + 1 ∧ (p + 1) % e = 0))) ∧ 1000 - (nI d + 1).toNatClampNeg < 1000 - (nI d).toNatClampNeg := fun y hy' => by
      refine ⟨⟨rfl, d + 1, by omega, by rw [show d + 1 - 1 = d by omega]; omega, nI_1 d, hy'⟩, ?_⟩
      simp (disch := omega) only [nI_1, nI_clamp]
      omega
    refine ⟨fun c2 => ?_, fun c2 => ?_⟩
    · rintro _ rfl
      refine nx x2 ?_
      rcases hc with ⟨rfl, hc⟩ | ⟨rfl, e, e1, e2, e3⟩
      · refine Or.inl ⟨rfl, fun e e1 e2 => ?_⟩
        by_cases hed : e = d
        · rw [hed]; exact c2
        · exact hc e e1 (by omega)
      · exact Or.inr ⟨rfl, e, e1, by omega, e3⟩
    · rintro _ rfl
      exact nx 0 (Or.inr ⟨rfl, d, d1, by omega, by omega, c2⟩)
def SN (A : Nat → Nat) : Nat → Nat → Prop := fun x _ => x = A 54 ∨ x = A 55 ∨ x = A 58 ∨ x = A 59
theorem SL_N {A : Nat → Nat} : ∀ x j, SL A x j → SN A x j := fun x j e => by rcases e with e | e; exact Or.inr (Or.inr (Or.inl e)); exact Or.inr (Or.inr (Or.inr e))
theorem ML.n {A : Nat → Nat} {h h1 : AH} (M : ML A h) (x : frm (SN A) h h1) (r : fmR h h1) : ML A h1 := by
  obtain ⟨m1, m2, m3, m4, m5, m6⟩ := M
  obtain ⟨x1, x2, x3, -⟩ := x
  unfold fmR at r
  exact ⟨by rw [x2]; exact m1, by rw [r]; exact m2, by rw [r]; exact m3, by rw [x2, x3]; exact m4, by rw [x2, x3]; exact m5, m6⟩
theorem s_const {Q : AH → Prop} {A : Nat → Nat} {h : AH} (M : ML A h) (h50 : hp_R h (A 40) 50 = some (A 54)) (h51 : hp_R h (A 40) 51 = some (A 55)) (k54 : hp_k h (A 54) = 103 ∧ hp_n h (A 54) = 80) (k55 : hp_k h (A 55) = 103 ∧ hp_n h (A 55) = 8) (n45 : A 54 ≠ A 55) (n48 : A 54 ≠ A 58) (n49 : A 54 ≠ A 59) (n58 : A 55 ≠ A 58) (n59 : A 55 ≠ A 59) (kQ : ∀ h1, fm (SN A) h h1 → fmR h h1 → (∀ k, k < 64 → (sh_lu (hp_L h1 (A 54) k) 32).toInt32 = hK k) → (∀ k, k < 8 → (sh_lu (hp_L h1 (A 55) k) 32).toInt32 = hH k) → Q h1) : m_M_constants Q (A 40) h := by
  have n4 : ∀ j, ¬ SL A (A 54) j := fun j e => by rcases e with e | e; exact n48 e; exact n49 e
  have n5 : ∀ j, ¬ SL A (A 55) j := fun j e => by rcases e with e | e; exact n58 e; exact n59 e
  refine ⟨fun s => ∃ k, k ≤ 64 ∧ s.1 = nI (if k = 0 then 1 else h_p (k - 1)) ∧ s.2.1 = nI k ∧ fm (SN A) h s.2.2 ∧ fmR h s.2.2 ∧ (∀ j, j < k → (sh_lu (hp_L s.2.2 (A 54) j) 32).toInt32 = hK j) ∧ (∀ j, j < k → j < 8 → (sh_lu (hp_L s.2.2 (A 55) j) 32).toInt32 = hH j), fun s => 64 - s.2.1.toNatClampNeg, ⟨0, by decide, rfl, rfl, fm.rf, rfl, fun j hj => by omega, fun j hj => by omega⟩, ?_⟩
  rintro ⟨x1, x2, s⟩ ⟨k, hk, hv1, hv2, F, R, hK', hH'⟩
  simp only at hv1 hv2 F R hK' hH' ⊢
  subst hv1
  subst hv2
  unfold m_M_constants_4_b
  rw [show (64 : Int32) = nI 64 from rfl, nI_leI (by omega) (by omega)]
  refine ⟨fun c => ?_, fun c => ?_⟩
  · exact kQ s F R (fun j hj => hK' j (by omega)) (fun j hj => hH' j (by omega) hj)
  obtain ⟨o1, o2, o3, o4⟩ := h_p_ok k (by omega)
  have Ms := M.n F R
  refine s_prime o3 o1 o2 o4 (fun _ => ⟨Ms.1, A 54, by rw [R]; exact h50, ?_⟩)
  rw [show (3 : Int32) = nI 3 from rfl]
  refine s_root Ms (by omega) (Or.inr rfl) (fun h2 F2 R2 _ => ⟨by rw [F2.2.1, F.2.1]; exact k54.1, by rw [F2.2.2.1, F.2.2.1, k54.2, vp_iff (by omega)]; omega, ?_⟩)
  rw [nI_clamp (by omega)]
  rintro h3 hh3
  have F3 : fm (SN A) h h3 := by rw [hh3]; exact (F.tr (F2.wk SL_N)).tr (fm.L (Or.inl rfl))
  have R3' : fmR h h3 := by rw [hh3]; exact R2.trans R
  have k3 : ∀ j, j < k + 1 → (sh_lu (hp_L h3 (A 54) j) 32).toInt32 = hK j := fun j hj => by
    rw [hh3]
    by_cases hjk : j = k
    · rw [hjk, rL1]
      exact hK_ok k (by omega)
    · rw [rL3 hjk, (F2.1 _ j (n4 j)).2.1]
      exact hK' j (by omega)
  have q3 : ∀ j, j < k → j < 8 → (sh_lu (hp_L h3 (A 55) j) 32).toInt32 = hH j := fun j hj h8 => by
    rw [hh3, rL2 n45.symm, (F2.1 _ j (n5 j)).2.1]
    exact hH' j hj h8
  clear hh3
  have fin : ∀ h5, fm (SN A) h h5 → fmR h h5 → (∀ j, j < k + 1 → (sh_lu (hp_L h5 (A 54) j) 32).toInt32 = hK j) → (∀ j, j < k + 1 → j < 8 → (sh_lu (hp_L h5 (A 55) j) 32).toInt32 = hH j) → m_M_constants_45 Q (fun s' => (∃ k, k ≤ 64 ∧ s'.1 = nI (if k = 0 then 1 else h_p (k - 1)) ∧ s'.2.1 = nI k ∧ fm (SN A) h s'.2.2 ∧ fmR h s'.2.2 ∧ (∀ j, j < k → (sh_lu (hp_L s'.2.2 (A 54) j) 32).toInt32 = hK j) ∧ (∀ j, j < k → j < 8 → (sh_lu (hp_L s'.2.2 (A 55) j) 32).toInt32 = hH j)) ∧ 64 - s'.2.1.toNatClampNeg < 64 - k) (A 40) (nI (h_p k)) (nI k) h5 := fun h5 F5 R5 e1 e2 => by
    rintro _ rfl
    refine ⟨⟨k + 1, by omega, ?_, by simp only [nI_1], F5, R5, e1, e2⟩, ?_⟩
    · rw [if_neg (by omega), show k + 1 - 1 = k by omega]
    · simp (disch := omega) only [nI_1, nI_clamp]
      omega
  rw [show (8 : Int32) = nI 8 from rfl, nI_leI (by omega) (by omega)]
  have M3 := M.n F3 R3'
  refine ⟨fun c8 => fin h3 F3 R3' k3 (fun j hj h8 => q3 j (by omega) h8), fun c8 => ⟨A 55, by rw [R3']; exact h51, ?_⟩⟩
  rw [show (2 : Int32) = nI 2 from rfl]
  refine s_root M3 (by omega) (Or.inl rfl) (fun h4 F4 R4 _ => ⟨by rw [F4.2.1, F3.2.1]; exact k55.1, by rw [F4.2.2.1, F3.2.2.1, k55.2, vp_iff (by omega)]; omega, ?_⟩)
  rintro h5 hh5
  refine fin h5 ?_ ?_ (fun j hj => ?_) (fun j hj h8 => ?_)
  · rw [hh5]; exact (F3.tr (F4.wk SL_N)).tr (fm.L (Or.inr (Or.inl rfl)))
  · rw [hh5]; exact R4.trans R3'
  · rw [hh5, rL2 n45, (F4.1 _ j (n4 j)).2.1]
    exact k3 j hj
  · rw [hh5]
    by_cases hjk : j = k
    · rw [hjk, rL1]
      exact hH_ok k (by omega)
    · rw [rL3 hjk, (F4.1 _ j (n5 j)).2.1]
      exact q3 j (by omega) h8
