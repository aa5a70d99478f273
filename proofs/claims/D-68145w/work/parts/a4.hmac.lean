set_option maxRecDepth 10000
/-! ROLES: A i is the cell that plays role i -/
def AI (A : Nat → Nat) (h : AH) : Prop := (∀ i j, A i = A j → i = j) ∧ (∀ j, A j < hp_z h ∨ hp_t h ≤ A j) ∧ (∀ j, j < 61 → j ≠ 7 → j ≠ 24 → j ≠ 26 → j ≠ 38 → j ≠ 39 → A j < hp_z h)
theorem AI.ne {A : Nat → Nat} {h : AH} (a : AI A h) {i j k : Nat} (_hk : hp_k h (A i) = k + 1) (hij : i ≠ j) : A i ≠ A j := fun e => hij (a.1 i j e)
theorem AI.fm {A : Nat → Nat} {h h1 : AH} {S : Nat → Nat → Prop} (a : AI A h) (x : fm S h h1) : AI A h1 := by
  obtain ⟨-, x2, -, x4, -, x6, -⟩ := x
  refine ⟨a.1, fun j => ?_, ?_⟩
  · rw [x4, x6]
    exact a.2.1 j
  · rw [x4]
    exact a.2.2
/-- the cells of the roles in R -/
def Rl (A : Nat → Nat) (R : Nat → Prop) : Nat → Nat → Prop := fun a _ => ∃ i, R i ∧ a = A i
abbrev frm (S : Nat → Nat → Prop) (h h1 : AH) : Prop := fm S h h1
theorem DC.off {h h1 : AH} {S : Nat → Nat → Prop} {d gb hb wb : Nat} (D : DC h d gb hb wb) (x : frm S h h1) (r : fmR h h1) (hS : ∀ j, ¬ S d j) : DC h1 d gb hb wb := by
  obtain ⟨d1, d2, d3, d4, d5, d6, d7, d8, d9, d10, d11, d12, d13⟩ := D
  obtain ⟨x1, x2, x3, -⟩ := x
  unfold fmR at r
  exact ⟨by rw [x2]; exact d1, by rw [r]; exact d2, by rw [r]; exact d3, by rw [r]; exact d4, by rw [x2]; exact d5, by rw [x3]; exact d6, by rw [x2]; exact d7, by rw [x3]; exact d8, by rw [x2]; exact d9, by rw [x3]; exact d10, d11, by rw [(x1 d 3 (hS 3)).1]; exact d12, by rw [(x1 d 2 (hS 2)).1]; exact d13⟩
theorem DG.off {h h1 : AH} {S : Nat → Nat → Prop} {d gb hb n : Nat} {T : Nat → Nat} (G : DG h d gb hb T n) (x : fm S h h1) (h0 : ∀ j, ¬ S d j) (h1' : ∀ j, ¬ S gb j) (h2 : ∀ j, ¬ S hb j) : DG h1 d gb hb T n := by
  obtain ⟨g1, g2, g3⟩ := G
  obtain ⟨x1, -⟩ := x
  exact ⟨by rw [(x1 d 5 (h0 5)).1]; exact g1, fun j hj => by rw [(x1 gb j (h1' j)).1]; exact g2 j hj, fun j hj => by rw [(x1 hb j (h2 j)).1]; exact g3 j hj⟩
theorem ub_lt (x : Int32) : ub x < 256 := by
  unfold ub
  have h1 : x = nI x.toBitVec.toNat := by
    apply Int32.toBitVec_inj.mp
    show x.toBitVec = BitVec.ofNat 32 x.toBitVec.toNat
    rw [BitVec.ofNat_toNat, BitVec.setWidth_eq]
  have h2 : x &&& 255 = nI (x.toBitVec.toNat % 256) := by
    rw [h1]
    apply Int32.toBitVec_inj.mp
    show BitVec.ofNat 32 x.toBitVec.toNat &&& BitVec.ofNat 32 255 = BitVec.ofNat 32 (_ % 256)
    apply BitVec.eq_of_toNat_eq
    simp only [BitVec.toNat_and, BitVec.toNat_ofNat]
    rw [show 255 % 2 ^ 32 = 2 ^ 8 - 1 from rfl, Nat.and_two_pow_sub_one_eq_mod, ← h1]
    have := x.toBitVec.isLt
    omega
  rw [h2, nI_clamp (by omega)]
  omega
/-- the marks' cells -/
def KC (A : Nat → Nat) (h : AH) : Prop := hp_k h (A 8) = 4 ∧ hp_R h (A 8) 0 = some (A 9) ∧ hp_R h (A 8) 1 = some (A 21) ∧ hp_k h (A 21) = 101 ∧ hp_n h (A 21) = 32 ∧ hp_k h (A 9) = 5 ∧ hp_R h (A 9) 1 = some (A 10) ∧ hp_R h (A 9) 2 = some (A 14) ∧ hp_R h (A 9) 3 = some (A 18) ∧ hp_R h (A 9) 4 = some (A 19) ∧ hp_I h (A 9) 0 = 32 ∧ hp_k h (A 18) = 101 ∧ hp_n h (A 18) = 64 ∧ hp_k h (A 19) = 101 ∧ hp_n h (A 19) = 32 ∧ DC h (A 10) (A 11) (A 12) (A 13) ∧ DC h (A 14) (A 15) (A 16) (A 17)
def SK (A : Nat → Nat) : Nat → Nat → Prop := Rl A (fun i => 10 ≤ i ∧ i ≤ 21 ∧ i ≠ 20)
theorem KC.off {A : Nat → Nat} {h h1 : AH} {S : Nat → Nat → Prop} (k : KC A h) (x : fm S h h1) (r : fmR h h1) (h9 : ∀ j, ¬ S (A 9) j) (h10 : DC h1 (A 10) (A 11) (A 12) (A 13)) (h14 : DC h1 (A 14) (A 15) (A 16) (A 17)) : KC A h1 := by
  obtain ⟨k1, k2, k3, k4, k5, k6, k7, k8, k9, k10, k11, k12, k13, k14, k15, k16, k17⟩ := k
  obtain ⟨x1, x2, x3, -⟩ := x
  unfold fmR at r
  exact ⟨by rw [x2]; exact k1, by rw [r]; exact k2, by rw [r]; exact k3, by rw [x2]; exact k4, by rw [x3]; exact k5, by rw [x2]; exact k6, by rw [r]; exact k7, by rw [r]; exact k8, by rw [r]; exact k9, by rw [r]; exact k10, by rw [(x1 _ 0 (h9 0)).1]; exact k11, by rw [x2]; exact k12, by rw [x3]; exact k13, by rw [x2]; exact k14, by rw [x3]; exact k15, h10, h14⟩
def h_ipad (kb tb : Nat → Nat) (i : Nat) : Nat := if i < 64 then (if i < 32 then kb i else 0) ^^^ 54 else tb (i - 64)
def h_opad (kb tb : Nat → Nat) (i : Nat) : Nat := if i < 64 then (if i < 32 then kb i else 0) ^^^ 92 else tb (i - 64)
/-- the keyed hash -/
def h_mac (kb tb : Nat → Nat) (n k : Nat) : Int32 := h_out (h_opad kb (fun i => ub (h_out (h_ipad kb tb) (64 + n) i))) 96 k
theorem x54 : ∀ u, u < 256 → ub ((bI u ^^^ 54).toInt8.toInt32) = u ^^^ 54 ∧ u ^^^ 54 < 256 ∧ ub ((bI u ^^^ 92).toInt8.toInt32) = u ^^^ 92 ∧ u ^^^ 92 < 256 := by decide +kernel
theorem h_out_by8 {t : Nat → Nat} {n k : Nat} : by8 (h_out t n k) := by8_cut _
theorem h_ipad_lt {kb tb : Nat → Nat} {n : Nat} (hk : ∀ i, i < 32 → kb i < 256) (ht : ∀ i, i < n → tb i < 256) : ∀ i, i < 64 + n → h_ipad kb tb i < 256 := fun i hi => by
  unfold h_ipad
  split
  · split
    · exact (x54 _ (hk i (by assumption))).2.1
    · decide
  · exact ht _ (by omega)
theorem h_opad_lt {kb tb : Nat → Nat} {n : Nat} (hk : ∀ i, i < 32 → kb i < 256) (ht : ∀ i, i < n → tb i < 256) : ∀ i, i < 64 + n → h_opad kb tb i < 256 := fun i hi => by
  unfold h_opad
  split
  · split
    · exact (x54 _ (hk i (by assumption))).2.2.2
    · decide
  · exact ht _ (by omega)
theorem s_fill {Q : AH → Prop} {h : AH} {r n : Nat} {v : Int32} (hr : hp_k h r = 101) (hn : hp_n h r = n) (hn2 : n < 2 ^ 30) (kQ : ∀ h1, fm (fun a _ => a = r) h h1 → fmR h h1 → (∀ j, j < n → hp_I h1 r j = v.toInt8.toInt32) → Q h1) : m_Arrs_fill Q r v h := by
  refine ⟨Or.inl hr, ?_⟩
  rw [hn]
  rintro _ rfl
  refine ⟨fun s => ∃ k, k ≤ n ∧ s.1 = nI k ∧ fm (fun a _ => a = r) h s.2 ∧ fmR h s.2 ∧ ∀ j, j < k → hp_I s.2 r j = v.toInt8.toInt32, fun s => n - s.1.toNatClampNeg, ⟨0, by omega, rfl, fm.rf, rfl, fun j hj => by omega⟩, ?_⟩
  rintro ⟨w, s⟩ ⟨k, hk, hv, F, R, hs⟩
  simp only at hv F R hs ⊢
  subst hv
  unfold m_Arrs_fill_5_b
  rw [nI_leI (by omega) (by omega)]
  refine ⟨fun c => ?_, fun c => ⟨by rw [F.2.1]; exact hr, by rw [F.2.2.1, hn, vp_iff (by omega)]; omega, ?_⟩⟩
  · have : k = n := by omega
    subst this
    exact kQ s F R hs
  · rw [nI_clamp (by omega)]
    rintro _ rfl _ rfl
    refine ⟨⟨k + 1, by omega, by simp only [nI_1], F.tr (fm.I rfl), R, fun j hj => ?_⟩, ?_⟩
    · simp only
      by_cases hjk : j = k
      · rw [hjk, rI1]
      · rw [rI3 hjk]; exact hs j (by omega)
    · simp (disch := omega) only [nI_1, nI_clamp]
      omega
