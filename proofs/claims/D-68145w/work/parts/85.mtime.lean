set_option maxRecDepth 10000
theorem d_dig2 {g : Nat → Nat} {i : Nat} : d_dig g i 2 = if (48 ≤ g i ∧ g i ≤ 57) ∧ 48 ≤ g (i + 1) ∧ g (i + 1) ≤ 57 then some ((g i - 48) * 10 + (g (i + 1) - 48)) else none := by
  simp only [d_dig, Option.bind_some, Nat.add_zero, Nat.zero_mul, Nat.zero_add]
  by_cases h1 : 48 ≤ g i ∧ g i ≤ 57
  · rw [if_pos h1]
    simp only [Option.bind_some]
    by_cases h2 : 48 ≤ g (i + 1) ∧ g (i + 1) ≤ 57
    · rw [if_pos h2, if_pos ⟨h1, h2⟩, show (g i - 48) * 10 + g (i + 1) - 48 = (g i - 48) * 10 + (g (i + 1) - 48) by omega]
    · rw [if_neg h2, if_neg (fun q => h2 q.2)]
  · rw [if_neg h1, if_neg (fun q => h1 q.1)]
    rfl
theorem s_Mtwo {Q : Int32 → AH → Prop} {h : AH} {m st x bs n i : Nat} {g : Nat → Nat} (K : ME h m st x bs n g) (hi : i + 2 ≤ n) (k1 : ∀ v, d_dig g i 2 = some v → v < 100 → Q (nI v) h) (k0 : d_dig g i 2 = none → ∀ w, Q w (up_I h m 21 1)) : m_M_two Q m (nI i) h := by
  have k5 := K.2.2.2.2.1
  have hg := K.2.2.2.2.2.2.2.1
  have g0 := hg i (by omega)
  have g1 := hg (i + 1) (by omega)
  rw [d_dig2] at k1 k0
  unfold m_M_two m_M_two_40 m_M_two_45
  refine ⟨K.1, s_here K (by omega) (fun _ => ?_)⟩
  rintro _ rfl
  rw [show (1 : Int32) = nI 1 from rfl, nI_add]
  refine s_here K (by omega) (fun _ => ?_)
  rintro _ rfl
  have sub : ∀ a : Nat, a < 256 → (nI a - 48).toInt = (a : Int) - 48 := fun a ha => (by decide +kernel : ∀ a, a < 256 → (nI a - 48).toInt = (a : Int) - 48) a ha
  have s0 := sub _ g0
  have s1 := sub _ g1
  have z0 : (0 : Int32).toInt = 0 := rfl
  have z9 : (9 : Int32).toInt = 9 := rfl
  simp only [Int32.lt_iff_toInt_lt, Int32.le_iff_toInt_le, s0, s1, z0, z9]
  have bad : ¬ ((48 ≤ g i ∧ g i ≤ 57) ∧ 48 ≤ g (i + 1) ∧ g (i + 1) ≤ 57) → hp_k h m = 13 ∧ ∀ h1 : AH, h1 = up_I h m 21 (nI 1) → Q (10 * (nI (g i) - 48) + (nI (g (i + 1)) - 48)) h1 := fun hn => ⟨K.1, by rintro _ rfl; exact k0 (by rw [if_neg hn]) _⟩
  refine ⟨fun c1 => bad (by omega), fun c1 => ⟨fun c2 => bad (by omega), fun c2 => ⟨fun c3 => bad (by omega), fun c3 => ⟨fun c4 => ?_, fun c4 => bad (by omega)⟩⟩⟩⟩
  rw [show (48 : Int32) = nI 48 from rfl, show (10 : Int32) = nI 10 from rfl, nI_sub (by omega), nI_sub (by omega), nI_mul, nI_add, Nat.mul_comm]
  exact k1 _ (by rw [if_pos (by omega)]) (by omega)
