set_option maxRecDepth 10000
theorem dec1 (x : Int32) : x + (-1) = x - nI 1 := by rw [Int32.sub_eq_add_neg]; rfl
theorem dec1b (x : Int32) : x + (-1) + nI 1 = x := by rw [dec1, Int32.sub_add_cancel]
/-- the state in the midst of a shift: p stands in front, what is to be moved (c) stands from p on in its first i bytes, the moved ones k further -/
def SHF (h0 h : AH) (m o : Nat) (p c : List Nat) (k i : Nat) : Prop := fm (So m o) h0 h ∧ fmR h0 h ∧ (∀ j, j < p.length → ub (hp_I h o j) = p.getD j 0) ∧ (∀ j, j < i → ub (hp_I h o (p.length + j)) = c.getD j 0) ∧ (∀ j, i ≤ j → j < c.length → ub (hp_I h o (p.length + k + j)) = c.getD j 0)
theorem SHF.of {h0 h : AH} {m o k : Nat} {p c : List Nat} (O : OS h0 h m o (p ++ c)) : SHF h0 h m o p c k c.length := by
  obtain ⟨o1, o2, o3, o4, o5, o6, o7, o8, o9, o10, o11⟩ := O
  refine ⟨o1, o2, fun j hj => ?_, fun j hj => ?_, fun j h1 h2 => by omega⟩
  · rw [o10 j (by rw [List.length_append]; omega), gd_app, if_pos hj]
  · rw [o10 _ (by rw [List.length_append]; omega), gd_app, if_neg (by omega), Nat.add_sub_cancel_left]
theorem SHF.step {h0 h : AH} {m o k i : Nat} {p c : List Nat} {v : Int32} (S : SHF h0 h m o p c k (i + 1)) (hk : 1 ≤ k) (hi : i + 1 ≤ c.length) (hv : ub v = c.getD i 0) : SHF h0 (up_I h o (p.length + k + i) v) m o p c k i := by
  obtain ⟨s1, s2, s3, s4, s5⟩ := S
  refine ⟨s1.tr (fm.I (Or.inr rfl)), s2, fun j hj => ?_, fun j hj => ?_, fun j h1 h2 => ?_⟩
  · rw [rI3 (by omega)]; exact s3 j hj
  · rw [rI3 (by omega)]; exact s4 j (by omega)
  · by_cases hj : j = i
    · rw [hj, rI1]; exact hv
    · rw [rI3 (by omega)]; exact s5 j (by omega) h2
/-- behind the shift the place is set back -/
theorem SHF.back {h0 h h1 : AH} {m o k : Nat} {p c : List Nat} (S : SHF h0 h m o p c k 0) (O : hp_k h0 m = 13 ∧ hp_R h0 m 46 = some o ∧ hp_k h0 o = 101 ∧ hp_n h0 o = 140000) (hl : p.length + k + c.length ≤ 140000) (hh : h1 = up_I h m 47 (nI p.length)) : OT h0 h1 m o p (p.length + k) c := by
  obtain ⟨s1, s2, s3, s4, s5⟩ := S
  obtain ⟨o1, o2, o3, o4⟩ := O
  have hmo : o ≠ m := k_ne o3 o1 (by decide)
  rw [hh]
  refine ⟨s1.tr (fm.I (Or.inl ⟨rfl, rfl⟩)), s2, o1, o2, o3, o4, rI1, by omega, hl, fun j hj => ?_, fun j hj => ?_⟩
  · rw [rI2 hmo]; exact s3 j hj
  · rw [rI2 hmo]; exact s5 j (by omega) hj
/-- and forth -/
theorem OT.join {h0 h h1 : AH} {m o : Nat} {l c : List Nat} (O : OT h0 h m o l l.length c) (hh : h1 = up_I h m 47 (nI (l.length + c.length))) : OS h0 h1 m o (l ++ c) := by
  obtain ⟨k1, k2, k3, k4, k5⟩ := O.k
  obtain ⟨o1, o2, o3, o4, o5, o6, o7, o8, o9, o10, o11⟩ := O
  rw [hh]
  refine ⟨o1.tr (fm.I (Or.inl ⟨rfl, rfl⟩)), o2, o3, o4, o5, o6, by rw [rI1, List.length_append], by rw [List.length_append]; exact o9, by simp, fun j hj => ?_, fun j hj => by simp at hj⟩
  rw [rI2 k5.symm, gd_app]
  rw [List.length_append] at hj
  by_cases hjl : j < l.length
  · rw [if_pos hjl]; exact o10 j hjl
  · rw [if_neg hjl]
    have := o11 (j - l.length) (by omega)
    rw [show l.length + (j - l.length) = j by omega] at this
    exact this
theorem e_len_sz {n : Nat} : (n < 128 → e_len n = [n]) ∧ (128 ≤ n → n < 256 → e_len n = 129 :: e_b n 1) ∧ (256 ≤ n → n < 65536 → e_len n = 130 :: e_b n 2) ∧ (65536 ≤ n → n < 2 ^ 24 → e_len n = 131 :: e_b n 3) := by
  refine ⟨fun h => ?_, fun h1 h2 => ?_, fun h1 h2 => ?_, fun h1 h2 => ?_⟩
  · unfold e_len; rw [if_pos h]
  · exact e_len_b (k := 1) h1 (by omega) (by rw [Nat.pow_one]; omega) (Or.inr (by simp; omega))
  · exact e_len_b (k := 2) (by omega) (by omega) (by rw [show 256 ^ 2 = 65536 from rfl]; omega) (Or.inr (by simp; omega))
  · exact e_len_b (k := 3) (by omega) (by omega) (by rw [show 256 ^ 3 = 16777216 from rfl]; omega) (Or.inr (by simp; omega))
theorem s_owrap40 {Q : AH → Prop} {h0 h : AH} {m o tag sz : Nat} {p c : List Nat} (O : OS h0 h m o (p ++ c)) (hl : p.length + c.length < 139900) (ht : tag < 256) (hsz : sz ≤ 3) (he : e_len c.length = (if sz = 0 then c.length else 128 + sz) :: e_b c.length sz) (hc0 : (if sz = 0 then c.length else 128 + sz) < 256) (k : ∀ h1, OS h0 h1 m o (p ++ e_tlv tag c) → Q h1) : m_M_wrap_40 Q m (nI tag) (nI p.length) (nI c.length) (nI sz) h := by
  obtain ⟨k1, k2, k3, k4, k5⟩ := O.k
  have O3 : hp_k h0 m = 13 ∧ hp_R h0 m 46 = some o ∧ hp_k h0 o = 101 ∧ hp_n h0 o = 140000 := ⟨O.2.2.1, O.2.2.2.1, O.2.2.2.2.1, O.2.2.2.2.2.1⟩
  have o7 : hp_I h m 47 = nI (p.length + c.length) := by rw [← List.length_append]; exact O.2.2.2.2.2.2.1
  refine ⟨k1, ?_⟩
  rw [o7]
  rintro _ rfl
  refine ⟨fun s => ∃ i, i ≤ c.length ∧ s.1 = nI (p.length + i) - 1 ∧ SHF h0 s.2 m o p c (2 + sz) i, fun s => (s.1 + 1).toNatClampNeg, ⟨c.length, Nat.le_refl _, rfl, SHF.of O⟩, ?_⟩
  rintro ⟨v, s⟩ ⟨i, hi, hv, S⟩
  simp only at hv S ⊢
  subst hv
  have ks : hp_k s m = 13 ∧ hp_R s m 46 = some o ∧ hp_k s o = 101 ∧ hp_n s o = 140000 := ⟨by rw [S.1.2.1]; exact O3.1, by rw [S.2.1]; exact O3.2.1, by rw [S.1.2.1]; exact O3.2.2.1, by rw [S.1.2.2.1]; exact O3.2.2.2⟩
  cases i with
  | succ i =>
    rw [show (1 : Int32) = nI 1 from rfl, nI_sub (by omega), show p.length + (i + 1) - 1 = p.length + i by omega]
    unfold m_M_wrap_50_b
    rw [nI_ltI (by omega) (by omega)]
    refine ⟨fun c' => by omega, fun _ => ⟨ks.1, o, ks.2.1, Or.inl ks.2.2.1, by rw [ks.2.2.2, vp_iff (by omega)]; omega, fun h8 => ⟨ks.2.2.1, ?_⟩⟩⟩
    rw [show (2 : Int32) = nI 2 from rfl, nI_add, nI_add, nI_clamp (by omega), nI_clamp (by omega), ks.2.2.2, vp_iff (by omega)]
    refine ⟨by omega, ?_⟩
    rw [nI_clamp (by omega)] at h8
    rintro _ rfl _ rfl
    refine ⟨⟨i, by omega, ?_, ?_⟩, ?_⟩
    · exact dec1 _
    · rw [cut_id h8, show p.length + i + 2 + sz = p.length + (2 + sz) + i by omega]
      exact S.step (by omega) hi (S.2.2.2.1 i (by omega))
    · simp only
      rw [dec1b, nI_add, nI_clamp (by omega), nI_clamp (by omega)]
      omega
  | zero =>
    have stop : nI (p.length + 0) - 1 < nI p.length := by
      by_cases hp : p.length = 0
      · rw [hp]; decide
      · rw [show (1 : Int32) = nI 1 from rfl, nI_sub (by omega), nI_ltI (by omega) (by omega)]; omega
    unfold m_M_wrap_50_b
    refine ⟨fun _ => ⟨ks.1, ?_⟩, fun c' => absurd stop c'⟩
    rintro h1 hh1
    have T1 : OT h0 h1 m o p (p.length + (2 + sz)) c := S.back O3 (by omega) hh1
    refine s_oput (u := tag) T1 (by omega) (Or.inr (by omega)) (by rw [cut_nI]; exact Nat.mod_eq_of_lt ht) (fun h2 T2 _ => ?_)
    have l2 : (p ++ [tag]).length = p.length + 1 := by simp
    have h107 : m_M_wrap_107 Q m (nI p.length) (nI c.length) (nI sz) m (nI (if sz = 0 then c.length else 128 + sz)) h2 := by
      refine ⟨T2.k.1, s_oput (u := if sz = 0 then c.length else 128 + sz) T2 (by omega) (Or.inr (by omega)) (by rw [cut_nI]; exact Nat.mod_eq_of_lt hc0) (fun h3 T3 _ => ?_)⟩
      rintro _ rfl
      generalize hz : (if sz = 0 then c.length else 128 + sz) = z at *
      have l3 : (p ++ [tag] ++ [z]).length = p.length + 2 := by simp
      -- the length's bytes
      refine ⟨fun st => ∃ i d, i ≤ sz ∧ st.1 = nI i - 1 ∧ d ++ e_b c.length i = e_b c.length sz ∧ OT h0 st.2 m o (p ++ [tag] ++ [z] ++ d) (p.length + (2 + sz)) c, fun st => (st.1 + 1).toNatClampNeg, ⟨sz, [], Nat.le_refl _, rfl, rfl, by simpa using T3⟩, ?_⟩
      rintro ⟨v, s4⟩ ⟨i, d, hi, hv, hd, T4⟩
      simp only at hv T4 ⊢
      subst hv
      have dl : d.length + i = sz := by have := congrArg List.length hd; rw [List.length_append, e_b_len, e_b_len] at this; exact this
      have l4 : (p ++ [tag] ++ [z] ++ d).length = p.length + 2 + d.length := by rw [List.length_append, l3]
      cases i with
      | zero =>
        refine ⟨fun _ => ⟨T4.k.1, ?_⟩, fun c' => absurd (by decide) c'⟩
        rw [show (2 : Int32) = nI 2 from rfl, nI_add, nI_add, nI_add]
        rintro h5 hh5
        have e4 : p.length + (2 + sz) = (p ++ [tag] ++ [z] ++ d).length := by rw [l4]; omega
        rw [e4] at T4
        have J := T4.join (h1 := h5) (by rw [hh5]; congr 2; rw [l4]; omega)
        refine k h5 ?_
        have hd' : d = e_b c.length sz := by simpa [e_b] using hd
        unfold e_tlv
        rw [he, ← hd']
        simpa using J
      | succ i =>
        unfold m_M_wrap_116_b
        rw [show (1 : Int32) = nI 1 from rfl, nI_sub (by omega), Nat.add_sub_cancel, show (0 : Int32) = nI 0 from rfl, nI_ltI (by omega) (by omega)]
        refine ⟨fun c' => by omega, fun _ => ⟨T4.k.1, ?_⟩⟩
        rw [show (8 : Int32) = nI 8 from rfl, nI_mul, sr_nI (by omega) (by omega), nI_and255]
        refine s_oput (u := c.length / 256 ^ i % 256) T4 (by omega) (Or.inr (by omega)) ?_ (fun h5 T5 _ => ?_)
        · rw [cut_nI, Nat.mod_mod, show 256 ^ i = 2 ^ (8 * i) by rw [Nat.pow_mul]]
        · rintro _ rfl
          refine ⟨⟨i, d ++ [c.length / 256 ^ i % 256], by omega, ?_, ?_, ?_⟩, ?_⟩
          · exact dec1 _
          · rw [← hd]
            simp [e_b]
          · simpa using T5
          · simp only
            rw [← Int32.sub_eq_add_neg, Int32.sub_add_cancel, nI_add, nI_clamp (by omega), nI_clamp (by omega)]
            omega
    rw [show (128 : Int32) = nI 128 from rfl, nI_add, show (0 : Int32) = nI 0 from rfl, nI_eq (by omega) (by omega)]
    refine ⟨fun c' => ?_, fun c' => ?_⟩
    · rw [if_neg c'] at h107; exact h107
    · rw [if_pos c'] at h107; exact h107
theorem s_owrap {Q : AH → Prop} {h0 h : AH} {m o tag fr : Nat} {p c : List Nat} (O : OS h0 h m o (p ++ c)) (hfr : fr = p.length) (hl : p.length + c.length < 139900) (ht : tag < 256) (k : ∀ h1, OS h0 h1 m o (p ++ e_tlv tag c) → Q h1) : m_M_wrap Q m (nI tag) (nI fr) h := by
  subst hfr
  obtain ⟨k1, k2, k3, k4, k5⟩ := O.k
  have o7 : hp_I h m 47 = nI (p.length + c.length) := by rw [← List.length_append]; exact O.2.2.2.2.2.2.1
  obtain ⟨z0, z1, z2, z3⟩ := e_len_sz (n := c.length)
  refine ⟨k1, ?_⟩
  rw [o7, nI_sub (by omega), Nat.add_sub_cancel_left]
  rintro _ rfl
  simp (disch := omega) only [lit_nI, nI_leI]
  refine ⟨fun c1 => ⟨fun c2 => ⟨fun c3 => ?_, fun c3 => ?_⟩, fun c2 => ?_⟩, fun c1 => ?_⟩
  · exact s_owrap40 (sz := 3) O hl ht (by decide) (z3 c3 (by omega)) (by simp) k
  · exact s_owrap40 (sz := 2) O hl ht (by decide) (z2 c2 (by omega)) (by simp) k
  · exact s_owrap40 (sz := 1) O hl ht (by decide) (z1 c1 (by omega)) (by simp) k
  · exact s_owrap40 (sz := 0) O hl ht (by decide) (z0 (by omega)) (by rw [if_pos rfl]; omega) k
