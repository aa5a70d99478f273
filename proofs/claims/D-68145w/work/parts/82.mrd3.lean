set_option maxRecDepth 10000
theorem s_stands {Q : Int32 → AH → Prop} {h : AH} {m st x bs n f k : Nat} {w : Int64} {g o : Nat → Nat} (K : ME h m st x bs n g) (hf : f + k ≤ n) (hk : k ≤ 8) (ho : ∀ i, i < k → ((sh_lr w (nI (8 * (k - 1 - i)))) &&& 255).toInt32 = nI (o i) ∧ o i < 256) (k1 : allB (fun i => g (f + i) == o i) 0 k = true → Q 1 h) (k0 : allB (fun i => g (f + i) == o i) 0 k = false → Q 0 h) : m_M_stands Q m (nI f) (nI k) w h := by
  have k5 := K.2.2.2.2.1
  have hg := K.2.2.2.2.2.2.2.1
  unfold m_M_stands m_M_stands_3
  refine ⟨fun s => ∃ i, i ≤ k ∧ s = (nI i, h) ∧ ∀ j, j < i → g (f + j) = o j, fun s => k - s.1.toNatClampNeg, ⟨0, by omega, rfl, fun j hj => by omega⟩, ?_⟩
  rintro _ ⟨i, hi, rfl, hal⟩
  unfold m_M_stands_3_b
  simp only
  rw [nI_leI (by omega) (by omega)]
  refine ⟨fun c1 => k1 (allB_iff.mpr fun j hj => by rw [Nat.zero_add, hal j (by omega)]; exact beq_self_eq_true _), fun c1 => ⟨K.1, ?_⟩⟩
  obtain ⟨o1, o2⟩ := ho i (by omega)
  have e8 : (8 : Int32) * ((nI k - 1) - nI i) = nI (8 * (k - 1 - i)) := by
    rw [show (8 : Int32) = nI 8 from rfl, show (1 : Int32) = nI 1 from rfl, nI_sub (by omega), nI_sub (by omega), nI_mul]
  rw [e8, o1, nI_add]
  have hgk := hg (f + i) (by omega)
  refine s_here K (by omega) (fun _ => ?_)
  rw [nI_eq (by omega) (by omega)]
  refine ⟨fun c2 => ?_, fun c2 => k0 (allB_no (i := i) (by omega) (by rw [Nat.zero_add]; exact beq_eq_false_iff_ne.mpr c2))⟩
  rintro _ rfl
  refine ⟨⟨i + 1, by omega, by rw [nI_1], fun j hj => ?_⟩, ?_⟩
  · by_cases e : j = i
    · rw [e]; exact c2
    · exact hal j (by omega)
  · simp only [nI_1]
    rw [nI_clamp (by omega), nI_clamp (by omega)]
    omega
theorem ko8 : ∀ i, i < 8 → ((sh_lr (3064216340979843593 : Int64) (nI (8 * (8 - 1 - i)))) &&& 255).toInt32 = nI (ko 8 i) ∧ ko 8 i < 256 := by decide +kernel
def k0608 (i : Nat) : Nat := if i = 0 then 6 else 8
theorem k0608_ok : ∀ i, i < 2 → ((sh_lr (1544 : Int64) (nI (8 * (2 - 1 - i)))) &&& 255).toInt32 = nI (k0608 i) ∧ k0608 i < 256 := by decide +kernel
def algA (g : Nat → Nat) (a e : Nat) : Bool := decide (e - a = 10) && (allB (fun i => g (a + i) == k0608 i) 0 2 && allB (fun i => g (a + 2 + i) == ko 8 i) 0 8)
theorem alg_eq {g : Nat → Nat} {a e : Nat} (hae : a ≤ e) : ((d_oid g a e).bind fun q => if d_is g (ko 8) 8 q.1 q.2 = true ∧ q.2 = e then some e else none) = if algA g a e = true then some e else none := by
  by_cases hA : algA g a e = true
  · rw [if_pos hA]
    unfold algA at hA
    simp only [Bool.and_eq_true, decide_eq_true_eq] at hA
    obtain ⟨h1, h2, h3⟩ := hA
    have h2 := allB_iff.mp h2
    have h3 := allB_iff.mp h3
    have b0 : g a = 6 := by have := h2 0 (by decide); simpa [k0608] using this
    have b1 : g (a + 1) = 8 := by have := h2 1 (by decide); simpa [k0608] using this
    have bj : ∀ j, j < 8 → g (a + 2 + j) = ko 8 j := fun j hj => by have := h3 j hj; simpa using this
    have hin : d_in g 6 a e = some (a + 2, a + 10) := by
      unfold d_in d_hd
      rw [if_pos ⟨by omega, b0⟩, b1, if_pos (by decide), if_pos (by omega)]
    have hk : ∀ j, j < 8 → ko 8 j ≠ 128 := by decide +kernel
    have hall : allB (d_oidb g (a + 2)) (a + 2) 8 = true := allB_iff.mpr fun i hi => by
      unfold d_oidb
      rw [bj i hi]
      simp [hk i hi]
    have h9 : g (a + 10 - 1) < 128 := by
      rw [show a + 10 - 1 = a + 2 + 7 by omega, bj 7 (by decide)]
      decide +kernel
    have ho : d_oid g a e = some (a + 2, a + 10) := by
      unfold d_oid
      rw [hin]
      simp only [Option.bind_some]
      rw [if_pos ⟨by omega, by omega, h9, by rw [show a + 10 - (a + 2) = 8 by omega]; exact hall⟩]
    rw [ho]
    simp only [Option.bind_some]
    rw [if_pos]
    refine ⟨?_, by omega⟩
    unfold d_is
    rw [show a + 10 - (a + 2) = 8 by omega, decide_eq_true rfl, Bool.true_and]
    exact allB_iff.mpr fun i hi => by rw [Nat.zero_add, bj i hi]; exact beq_self_eq_true _
  · rw [if_neg hA]
    cases ho : d_oid g a e with
    | none => rfl
    | some q =>
      simp only [Option.bind_some]
      rw [if_neg]
      rintro ⟨hi, he⟩
      apply hA
      obtain ⟨hin, -⟩ := d_oid_in ho
      unfold d_is at hi
      simp only [Bool.and_eq_true, decide_eq_true_eq] at hi
      obtain ⟨h8, hb⟩ := hi
      have hb := allB_iff.mp hb
      unfold d_in d_hd at hin
      split at hin
      · rename_i c1
        split at hin
        · split at hin
          · cases hin
            simp only at h8 he hb
            unfold algA
            simp only [Bool.and_eq_true, decide_eq_true_eq]
            refine ⟨by omega, allB_iff.mpr fun i hi => ?_, allB_iff.mpr fun i hi => ?_⟩
            · rw [Nat.zero_add]
              obtain rfl | rfl : i = 0 ∨ i = 1 := by omega
              · simp [k0608, c1.2]
              · have : g (a + 1) = 8 := by omega
                simp [k0608, this]
            · exact hb i hi
          · cases hin
        · split at hin
          · rename_i c3
            cases hin
            simp only at h8
            omega
          · cases hin
      · cases hin
