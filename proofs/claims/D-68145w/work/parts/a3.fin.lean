set_option maxRecDepth 10000
def h_all (n : Nat) : Nat := (n + 72) / 64 * 64
def h_pd (t : Nat → Nat) (n i : Nat) : Nat := if i < n then t i else if i = n then 128 else if i < h_all n - 8 then 0 else 8 * n / 2 ^ (8 * (h_all n - 1 - i)) % 256
def h_ob (s : Nat → Int32) (k : Nat) : Int32 := (sh_iu (s (k / 4)) (nI (24 - 8 * (k % 4)))).toInt8.toInt32
def h_out (t : Nat → Nat) (n k : Nat) : Int32 := h_ob (h_state (h_pd t n) (h_all n / 64)) k
theorem h_pd_lt {t : Nat → Nat} {n : Nat} (ht : ∀ i, i < n → t i < 256) : Gt (h_pd t n) := fun i => by
  unfold h_pd
  split
  · exact ht i (by assumption)
  · split
    · decide
    · split
      · decide
      · exact Nat.mod_lt _ (by decide)
theorem shk : ∀ k, k < 64 → (((nI k).toInt64.toUInt64 &&& Int64.toUInt64 63).mod 64).toNat = k := by decide +kernel
theorem lu_lN {b k : Nat} (hb : b < 2 ^ 63) (hk : k < 64) : sh_lu (lN b) (nI k) = lN (b / 2 ^ k) := by
  apply Int64.toBitVec_inj.mp
  show (BitVec.ofNat 64 b) >>> _ = BitVec.ofNat 64 _
  apply BitVec.eq_of_toNat_eq
  simp only [BitVec.ushiftRight_eq', BitVec.toNat_ushiftRight, BitVec.toNat_ofNat, Nat.shiftRight_eq_div_pow]
  have e : ((((nI k).toInt64.toUInt64 &&& Int64.toUInt64 63).toBitVec % 64#64).toNat) = k := shk k hk
  have h1 : b / 2 ^ k ≤ b := Nat.div_le_self _ _
  rw [Nat.mod_eq_of_lt (by omega), Nat.mod_eq_of_lt (by omega)]
  exact congrArg (fun z => b / 2 ^ z) e
theorem s_put {Q : AH → Prop} {h : AH} {d gb hb wb r a : Nat} (D : DC h d gb hb wb) (hr : hp_k h r = 101) (hrn : a + 32 ≤ hp_n h r) (ha : a < 2 ^ 30) (kQ : ∀ h1, fm (fun x j => x = r ∧ a ≤ j ∧ j < a + 32) h h1 → fmR h h1 → (∀ k, k < 32 → hp_I h1 r (a + k) = h_ob (hp_I h hb) k) → Q h1) : m_Sha_put Q d r (nI a) h := by
  obtain ⟨d1, d2, d3, d4, d5, d6, d7, d8, d9, d10, d11, d12, d13⟩ := D
  have hrh : hb ≠ r := k_ne d7 hr (by decide)
  refine ⟨fun s => ∃ k, k ≤ 32 ∧ s.1 = nI k ∧ fm (fun x j => x = r ∧ a ≤ j ∧ j < a + 32) h s.2 ∧ fmR h s.2 ∧ ∀ i, i < k → hp_I s.2 r (a + i) = h_ob (hp_I h hb) i, fun s => 32 - s.1.toNatClampNeg, ⟨0, by decide, rfl, fm.rf, rfl, fun i hi => by omega⟩, ?_⟩
  rintro ⟨v, s⟩ ⟨k, hk, hv, F, R, hs⟩
  simp only at hv F R hs ⊢
  subst hv
  unfold m_Sha_put_2_b
  rw [show (32 : Int32) = nI 32 from rfl, nI_leI (by omega) (by omega)]
  refine ⟨fun c => ?_, fun c => ⟨by rw [F.2.1]; exact d1, hb, by rw [R]; exact d2, Or.inl (by rw [F.2.1]; exact d7), ?_⟩⟩
  · have : k = 32 := by omega
    subst this
    exact kQ s F R hs
  rw [F.2.1, F.2.2.1, show (4 : Int32) = nI 4 from rfl, show (8 : Int32) = nI 8 from rfl, show (24 : Int32) = nI 24 from rfl, nI_div (by omega) (by omega), nI_mul, nI_sub (by omega), nI_mul, nI_sub (by omega), nI_add, nI_clamp (by omega), nI_clamp (by omega), vp_iff (by omega), vp_iff (by omega), d8]
  refine ⟨by omega, hr, by omega, ?_⟩
  rintro _ rfl _ rfl
  have e : k - k / 4 * 4 = k % 4 := by omega
  refine ⟨⟨k + 1, by omega, by simp only [nI_1], F.tr (fm.I ⟨rfl, by omega, by omega⟩), R, fun i hi => ?_⟩, ?_⟩
  · simp only
    by_cases hik : i = k
    · subst hik
      rw [rI1, by8_cut, e, (F.1 hb _ (fun q => hrh q.1)).1]
      rfl
    · rw [rI3 (by omega)]
      exact hs i (by omega)
  · simp (disch := omega) only [nI_1, nI_clamp]
    omega
theorem s_dfin {Q : AH → Prop} {h : AH} {d gb hb wb r a n : Nat} {t : Nat → Nat} (D : DC h d gb hb wb) (C : CON h) (ht : ∀ i, i < n → t i < 256) (hn : n < 2 ^ 28) (g1 : hp_L h d 6 = lN n) (G : DG h d gb hb (h_pd t n) n) (hr : hp_k h r = 101) (hrg : r ≠ gb) (hrn : a + 32 ≤ hp_n h r) (ha : a < 2 ^ 30) (kQ : ∀ h1, fm (fun x j => Sd d gb hb wb x j ∨ (x = r ∧ a ≤ j ∧ j < a + 32)) h h1 → fmR h h1 → (∀ k, k < 32 → hp_I h1 r (a + k) = h_out t n k) → Q h1) : m_Dig_finish Q d r (nI a) h := by
  have D0 := D
  have hG : Gt (h_pd t n) := h_pd_lt ht
  obtain ⟨q, hq⟩ : ∃ q, h_all n = 64 * q := ⟨(n + 72) / 64, by unfold h_all; omega⟩
  have hq2 : n + 9 ≤ h_all n ∧ h_all n ≤ n + 72 := by unfold h_all; omega
  refine ⟨D.1, ?_⟩
  rw [g1, show (8 : Int64) = lN 8 from rfl, lN_mul]
  rintro _ rfl
  refine s_done D0 C hG g1 G ?_ (fun h1 F1 R1 G1 l1 _ => ?_)
  · unfold h_pd; rw [if_neg (by omega), if_pos rfl]; decide
  -- the bytes of the length
  have tail : ∀ s, fm (Sd d gb hb wb) h s → fmR h s → DG s d gb hb (h_pd t n) (h_all n - 8) → hp_L s d 6 = lN (h_all n - 8) → m_Dig_finish_69 Q d r (nI a) (lN (n * 8)) 56 s := fun s F R Gs ls => by
    refine ⟨fun st => ∃ k, k ≤ 8 ∧ st.1 = nI 56 - nI (8 * k) ∧ fm (Sd d gb hb wb) h st.2 ∧ fmR h st.2 ∧ DG st.2 d gb hb (h_pd t n) (h_all n - 8 + k) ∧ hp_L st.2 d 6 = lN (h_all n - 8 + k), fun st => (st.1 + 8).toNatClampNeg, ⟨0, by decide, rfl, F, R, Gs, ls⟩, ?_⟩
    rintro ⟨v, s⟩ ⟨k, hk, hv, F, R, Gs, ls⟩
    simp only at hv F R Gs ls ⊢
    subst hv
    have Ds := D0.fm F R
    by_cases hk8 : k = 8
    · subst hk8
      refine ⟨fun _ => ⟨Ds.1, s_put Ds (by rw [F.2.1]; exact hr) (by rw [F.2.2.1]; exact hrn) ha (fun h2 F2 R2 hv2 _ => kQ h2 ((F.wk (fun a j hs => Or.inl hs)).tr (F2.wk (fun a j hs => Or.inr hs))) (R2.trans R) (fun k hk => ?_))⟩, fun c => absurd (by decide) c⟩
      rw [hv2 k hk]
      unfold h_out h_ob
      rw [Gs.2.2 (k / 4) (by omega), show (h_all n - 8 + 8) / 64 = h_all n / 64 by omega]
    · rw [nI_sub (by omega)]
      refine ⟨fun c => ?_, fun _ => ⟨Ds.1, ?_⟩⟩
      · rw [show (0 : Int32) = nI 0 from rfl, nI_ltI (by omega) (by omega)] at c
        omega
      rw [lu_lN (by omega) (by omega), lN_i]
      refine s_done Ds (C.d D0 F) hG ls Gs ?_ (fun h2 F2 R2 G2 l2 _ => ?_)
      · rw [cut_nI]
        unfold h_pd
        rw [if_neg (by omega), if_neg (by omega), if_neg (by omega), show h_all n - 1 - (h_all n - 8 + k) = 7 - k by omega, show 8 * (7 - k) = 56 - 8 * k by omega, Nat.mul_comm]
      · rintro _ rfl
        refine ⟨⟨k + 1, by omega, ?_, F.tr F2, R2.trans R, G2, l2⟩, ?_⟩
        · simp only
          rw [show (-8 : Int32) = - nI 8 from by decide, ← Int32.sub_eq_add_neg]
          by_cases h7 : k = 7
          · subst h7; decide
          · rw [nI_sub (by omega), nI_sub (by omega)]; congr 1
        · simp only
          by_cases h7 : k = 7
          · subst h7; decide
          · rw [show (-8 : Int32) = - nI 8 from by decide, ← Int32.sub_eq_add_neg, nI_sub (by omega), show (8 : Int32) = nI 8 from rfl, nI_add, nI_add, nI_clamp (by omega), nI_clamp (by omega)]
            omega
  have inv : ∀ s i, fm (Sd d gb hb wb) h s → fmR h s → DG s d gb hb (h_pd t n) i → hp_L s d 6 = lN i → n < i → i ≤ h_all n - 8 → (hp_I s d 5 = nI (i % 64) ∧ hp_I s d 3 = nI 64 ∧ (i % 64 = 56 ↔ i = h_all n - 8)) := fun s i F R Gs ls h1 h2 => ⟨Gs.1, (D0.fm F R).2.2.2.2.2.2.2.2.2.2.2.1, by omega⟩
  refine ⟨fun s => ∃ i, fm (Sd d gb hb wb) h s ∧ fmR h s ∧ DG s d gb hb (h_pd t n) i ∧ hp_L s d 6 = lN i ∧ n < i ∧ i ≤ h_all n - 8, fun s => h_all n - (hp_L s d 6).toInt.toNat, ⟨n + 1, F1, R1, G1, l1, by omega, by omega⟩, ?_⟩
  rintro s ⟨i, F, R, Gs, ls, i1, i2⟩
  have Ds := D0.fm F R
  obtain ⟨e1, e2, e3⟩ := inv s i F R Gs ls i1 i2
  refine ⟨Ds.1, ?_⟩
  rw [e1, e2, show (8 : Int32) = nI 8 from rfl, nI_div (by omega) (by omega), nI_sub (by omega), nI_eq (by omega) (by omega)]
  refine ⟨fun c => ?_, fun c => ?_⟩
  · refine ⟨fun s' => s' = s, fun _ => 0, rfl, ?_⟩
    rintro _ rfl
    refine ⟨Ds.1, ?_⟩
    rw [e1, e2, show (8 : Int32) = nI 8 from rfl, nI_sub (by omega), nI_eq (by omega) (by omega)]
    refine ⟨fun _ => ?_, fun c2 => absurd c c2⟩
    have : i = h_all n - 8 := e3.mp c
    subst this
    exact tail _ F R Gs ls
  · refine s_done Ds (C.d D0 F) hG ls Gs ?_ (fun h2 F2 R2 G2 l2 _ => ⟨⟨i + 1, F.tr F2, R2.trans R, G2, l2, by omega, ?_⟩, ?_⟩)
    · unfold h_pd
      rw [if_neg (by omega), if_neg (by omega), if_pos (by omega)]
      decide
    · have : ¬ i = h_all n - 8 := fun q => c (e3.mpr q)
      omega
    · simp only
      rw [l2, ls, lN_toInt (by omega), lN_toInt (by omega)]
      omega
