set_option maxRecDepth 10000
/-! the model writes: cell m, bytes o; the list l stands in front, from q on there stands c -/
def So (m o : Nat) : Nat → Nat → Prop := fun a j => (a = m ∧ j = 47) ∨ a = o
def OT (h0 h : AH) (m o : Nat) (l : List Nat) (q : Nat) (c : List Nat) : Prop := fm (So m o) h0 h ∧ fmR h0 h ∧ hp_k h0 m = 13 ∧ hp_R h0 m 46 = some o ∧ hp_k h0 o = 101 ∧ hp_n h0 o = 140000 ∧ hp_I h m 47 = nI l.length ∧ l.length ≤ 140000 ∧ q + c.length ≤ 140000 ∧ (∀ j, j < l.length → ub (hp_I h o j) = l.getD j 0) ∧ (∀ j, j < c.length → ub (hp_I h o (q + j)) = c.getD j 0)
def OS (h0 h : AH) (m o : Nat) (l : List Nat) : Prop := OT h0 h m o l 0 []
theorem OT.k {h0 h : AH} {m o q : Nat} {l c : List Nat} (O : OT h0 h m o l q c) : hp_k h m = 13 ∧ hp_R h m 46 = some o ∧ hp_k h o = 101 ∧ hp_n h o = 140000 ∧ m ≠ o := by
  obtain ⟨o1, o2, o3, o4, o5, o6, -⟩ := O
  exact ⟨by rw [o1.2.1]; exact o3, by rw [o2]; exact o4, by rw [o1.2.1]; exact o5, by rw [o1.2.2.1]; exact o6, k_ne o3 o5 (by decide)⟩
theorem s_oput {Q : AH → Prop} {h0 h : AH} {m o q u : Nat} {v : Int32} {l c : List Nat} (O : OT h0 h m o l q c) (hl : l.length < 139990) (hq : c = [] ∨ l.length < q) (hv : ub v.toInt8.toInt32 = u) (k : ∀ h1, OT h0 h1 m o (l ++ [u]) q c → Q h1) : m_M_put_I Q m v h := by
  obtain ⟨k1, k2, k3, k4, k5⟩ := O.k
  obtain ⟨o1, o2, o3, o4, o5, o6, o7, o8, o9, o10, o11⟩ := O
  refine ⟨k1, o, k2, k3, ?_⟩
  rw [o7, k4, vp_iff (by omega), nI_clamp (by omega)]
  refine ⟨by omega, ?_⟩
  rintro h1 hh1 h2 hh2
  have e1 : hp_I h1 m 47 = nI l.length := by rw [hh1, rI2 k5]; exact o7
  rw [e1, nI_1] at hh2
  refine k h2 ⟨?_, ?_, o3, o4, o5, o6, ?_, by rw [List.length_append]; simp; omega, o9, fun j hj => ?_, fun j hj => ?_⟩
  · rw [hh2, hh1]; exact (o1.tr (fm.I (Or.inr rfl))).tr (fm.I (Or.inl ⟨rfl, rfl⟩))
  · rw [hh2, hh1]; exact o2
  · rw [hh2, rI1, List.length_append]; rfl
  · rw [hh2, rI2 k5.symm, hh1]
    rw [List.length_append] at hj
    simp only [List.length_cons, List.length_nil] at hj
    rw [gd_app]
    by_cases hjl : j < l.length
    · rw [rI3 (by omega), if_pos hjl]; exact o10 j hjl
    · have : j = l.length := by omega
      subst this
      rw [rI1, by8_cut, if_neg (by omega), Nat.sub_self]
      exact hv
  · rw [hh2, rI2 k5.symm, hh1]
    rcases hq with rfl | hq
    · simp at hj
    · rw [rI3 (by omega)]; exact o11 j hj
theorem s_oputJ {Q : AH → Prop} {h0 h : AH} {m o q n : Nat} {w : Int64} {f : Nat → Nat} {l c : List Nat} (O : OT h0 h m o l q c) (hl : l.length + n < 139990) (hq : c = [] ∨ l.length + n ≤ q) (hn : n ≤ 8) (ho : ∀ i, i < n → ((sh_lr w (nI (8 * (n - 1 - i)))) &&& 255).toInt32 = nI (f i) ∧ f i < 256) (k : ∀ h1, OT h0 h1 m o (l ++ e_sub f 0 n) q c → Q h1) : m_M_put_IJ Q m (nI n) w h := by
  rintro _ rfl
  refine ⟨fun s => ∃ i, i ≤ n ∧ s.1 = nI (n - i) - 1 ∧ OT h0 s.2 m o (l ++ e_sub f 0 i) q c, fun s => (s.1 + 1).toNatClampNeg, ⟨0, by omega, rfl, by simpa [e_sub] using O⟩, ?_⟩
  rintro ⟨v, s⟩ ⟨i, hi, hv, Os⟩
  simp only at hv Os ⊢
  subst hv
  have ll : (l ++ e_sub f 0 i).length = l.length + i := by rw [List.length_append, e_sub_len]
  by_cases hin : i = n
  · subst hin
    rw [Nat.sub_self]
    exact ⟨fun _ => k s Os, fun c => absurd (by decide) c⟩
  · unfold m_M_put_IJ_5_b
    rw [show (1 : Int32) = nI 1 from rfl, nI_sub (by omega), show (0 : Int32) = nI 0 from rfl, nI_ltI (by omega) (by omega)]
    refine ⟨fun c => by omega, fun _ => ⟨Os.k.1, ?_⟩⟩
    rw [show (8 : Int32) = nI 8 from rfl, nI_mul, show n - i - 1 = n - 1 - i by omega, (ho i (by omega)).1]
    refine s_oput (u := f i) Os (by rw [ll]; omega) (by rw [ll]; rcases hq with e | e; exact Or.inl e; exact Or.inr (by omega)) (by rw [cut_nI, Nat.mod_eq_of_lt (ho i (by omega)).2]) (fun h1 O1 _ => ?_)
    rintro _ rfl
    refine ⟨⟨i + 1, by omega, ?_, ?_⟩, ?_⟩
    · simp only
      rw [← Int32.sub_eq_add_neg, show n - 1 - i = n - (i + 1) by omega]
    · have e : e_sub f 0 (i + 1) = e_sub f 0 i ++ [f i] := by
        unfold e_sub
        rw [List.range_succ, List.map_append]
        simp
      rw [e, ← List.append_assoc]
      exact O1
    · simp only
      rw [← Int32.sub_eq_add_neg, Int32.sub_add_cancel, nI_add, nI_clamp (by omega), nI_clamp (by omega)]
      omega
theorem sr_nI {v i : Nat} (hv : v < 2 ^ 31) (hi : i < 32) : nI v >>> ((nI i) &&& 31) = nI (v / 2 ^ i) := by
  apply Int32.toBitVec_inj.mp
  have e : ∀ i, i < 32 → ((nI i &&& 31).toBitVec.smod 32).toNat = i := by decide +kernel
  show (BitVec.ofNat 32 v).sshiftRight' ((nI i &&& 31).toBitVec.smod 32) = BitVec.ofNat 32 (v / 2 ^ i)
  rw [BitVec.sshiftRight', e i hi, BitVec.sshiftRight_eq_of_msb_false]
  · apply BitVec.eq_of_toNat_eq
    have h1 : v / 2 ^ i ≤ v := Nat.div_le_self _ _
    rw [BitVec.toNat_ushiftRight, BitVec.toNat_ofNat, BitVec.toNat_ofNat, Nat.mod_eq_of_lt (by omega), Nat.mod_eq_of_lt (by omega), Nat.shiftRight_eq_div_pow]
  · rw [BitVec.msb_eq_false_iff_two_mul_lt, BitVec.toNat_ofNat]
    omega
