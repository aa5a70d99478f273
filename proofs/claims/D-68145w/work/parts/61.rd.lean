set_option maxRecDepth 10000
/-! DER, plain: g gives the bytes -/
def d_num (g : Nat → Nat) (a : Nat) : Nat → Nat
  | 0 => 0
  | k + 1 => d_num g a k * 256 + g (a + k)
def d_hd (g : Nat → Nat) (a e : Nat) : Option (Nat × Nat) :=
  if g (a + 1) < 128 then (if a + 2 + g (a + 1) ≤ e then some (a + 2, a + 2 + g (a + 1)) else none)
  else if 129 ≤ g (a + 1) ∧ g (a + 1) ≤ 131 ∧ a + 2 + (g (a + 1) - 128) ≤ e ∧ g (a + 2) ≠ 0 ∧ 128 ≤ d_num g (a + 2) (g (a + 1) - 128) ∧ a + 2 + (g (a + 1) - 128) + d_num g (a + 2) (g (a + 1) - 128) ≤ e then
    some (a + 2 + (g (a + 1) - 128), a + 2 + (g (a + 1) - 128) + d_num g (a + 2) (g (a + 1) - 128)) else none
/-- behind the head of a part with a tag: where its content begins, where it ends -/
def d_in (g : Nat → Nat) (tag a e : Nat) : Option (Nat × Nat) := if a + 2 ≤ e ∧ g a = tag then d_hd g a e else none
theorem d_in_le {g : Nat → Nat} {tag a e a' e' : Nat} (h : d_in g tag a e = some (a', e')) : a + 2 ≤ a' ∧ a' ≤ e' ∧ e' ≤ e := by
  unfold d_in d_hd at h
  split at h
  · split at h
    · split at h
      · cases h; omega
      · cases h
    · split at h
      · cases h; omega
      · cases h
  · cases h
theorem d_num_lt {g : Nat → Nat} {a : Nat} (hg : ∀ i, g i < 256) : ∀ k, d_num g a k < 256 ^ k
  | 0 => by simp [d_num]
  | k + 1 => by
    have h1 := d_num_lt hg (a := a) k
    have h2 := hg (a + k)
    simp only [d_num, Nat.pow_succ]
    omega
/-! room, throws -/
def rm (h : AH) (z s : Nat) : Prop := hp_z h + z ≤ hp_t h ∧ hp_s h + s ≤ 7293034
theorem rm.fm {S : Nat → Nat → Prop} {h h1 : AH} {z s : Nat} (r : rm h z s) (x : fm S h h1) : rm h1 z s := by
  obtain ⟨-, -, -, x4, x5, x6, -⟩ := x
  unfold rm at *
  rw [x4, x5, x6]
  exact r
theorem rm.fa {S : Nat → Nat → Prop} {h h1 : AH} {z s dz ds z' s' : Nat} (r : rm h z s) (x : fa S dz ds h h1) (hz : z' + dz ≤ z) (hs : s' + ds ≤ s) : rm h1 z' s' := by
  obtain ⟨-, -, x3, x4, x5, x6, x7, -⟩ := x
  unfold rm at *
  rw [x7]
  omega
/-- an exception of kind K was made, only S was written -/
def bx (K : Nat) (S : Nat → Nat → Prop) (h h1 : AH) (q : Nat) : Prop := hp_k h1 q = K ∧ fa S 1 6 h h1
theorem bx.pre {K : Nat} {S : Nat → Nat → Prop} {h h1 h2 : AH} {q : Nat} (x : fm S h h1) (y : bx K S h1 h2 q) : bx K S h h2 q := ⟨y.1, x.fa.tr y.2 (dz := 0) (ds := 0) (by omega) (by omega)⟩
theorem bx.wk {K : Nat} {S S' : Nat → Nat → Prop} {h h1 : AH} {q : Nat} (x : bx K S h h1 q) (hS : ∀ a j, S a j → S' a j) : bx K S' h h1 q := ⟨x.1, x.2.wk (fun a j _ => hS a j) (by omega) (by omega)⟩
theorem s_bad {Q : Nat → AH → Prop} {h : AH} (S : Nat → Nat → Prop) (r : rm h 1 6) (k : ∀ q h1, bx 14 S h h1 q → Q q h1) : m_Rd_bad Q h := by
  refine ⟨r, ?_⟩
  rintro w _ rfl _ rfl
  exact k _ _ ⟨rkN1, fa.N w⟩
/-! the reader: cell r, bytes b (n of them, g), place a -/
def RD (h : AH) (r b n a : Nat) (g : Nat → Nat) : Prop := hp_k h r = 9 ∧ hp_R h r 0 = some b ∧ hp_I h r 1 = nI a ∧ bk (hp_k h b) ∧ hp_n h b = n ∧ n < 1000000 ∧ (∀ i, i < n → ub (hp_I h b i) = g i)
theorem RD.ne {h : AH} {r b n a : Nat} {g : Nat → Nat} (R : RD h r b n a g) : b ≠ r := by
  rintro rfl
  obtain ⟨h1, -, -, h2, -⟩ := R
  rcases h2 with h2 | h2 <;> omega
theorem RD.to {h : AH} {r b n a : Nat} {g : Nat → Nat} (R : RD h r b n a g) (a' : Nat) : RD (up_I h r 1 (nI a')) r b n a' g := by
  have hne := R.ne
  obtain ⟨h1, h2, h3, h4, h5, h6, h7⟩ := R
  exact ⟨h1, h2, rI1, h4, h5, h6, fun i hi => by rw [rI2 hne]; exact h7 i hi⟩
def Sr (r : Nat) : Nat → Nat → Prop := fun a j => a = r ∧ j = 1
theorem s_tag {Q : Int32 → AH → Prop} {h : AH} {r b n a e : Nat} {g : Nat → Nat} (R : RD h r b n a g) (he : e ≤ n) (ha : a < 2 ^ 30) (k1 : a < e → g a < 256 → Q (nI (g a)) h) (k2 : e ≤ a → Q (-1) h) : m_Rd_tag Q r (nI e) h := by
  obtain ⟨h1, h2, h3, h4, h5, h6, h7⟩ := R
  unfold m_Rd_tag m_Rd_tag_25
  simp (disch := omega) only [h3, lit_nI, nI_add, nI_sub, nI_mul, nI_neg, nI_leI, nI_ltI, nI_eq, nI_clamp, vp_iff, nI_negne, nI_l]
  refine ⟨h1, fun c => k2 c, fun c => ⟨b, h2, h4, by omega, fun h8 => ?_⟩⟩
  have e1 := by8_and h8
  have e2 := by8_lt h8
  rw [h7 a (by omega)] at e1 e2
  rw [show nI 255 = (255 : Int32) from rfl, e1]
  exact k1 (by omega) e2
theorem ll_step : ∀ (v u : Nat), v < 2 ^ 32 → u < 256 → (sh_ll (lN v) 8 ||| (nI u).toInt64) = lN (v * 256 + u) := by
  intro v u hv hu
  rw [nI_l (by omega)]
  apply Int64.toBitVec_inj.mp
  have e1 : (sh_ll (lN v) 8).toBitVec = BitVec.ofNat 64 (v * 256) := by
    show (BitVec.ofNat 64 v) <<< _ = _
    apply BitVec.eq_of_toNat_eq
    simp [BitVec.toNat_shiftLeft, BitVec.toNat_ofNat, Nat.shiftLeft_eq]
  show (sh_ll (lN v) 8).toBitVec ||| BitVec.ofNat 64 u = BitVec.ofNat 64 (v * 256 + u)
  rw [e1]
  apply BitVec.eq_of_toNat_eq
  simp only [BitVec.toNat_or, BitVec.toNat_ofNat]
  rw [Nat.mod_eq_of_lt (by omega), Nat.mod_eq_of_lt (by omega), Nat.mod_eq_of_lt (by omega)]
  have := Nat.shiftLeft_add_eq_or_of_lt (i := 8) (b := u) hu v
  rw [Nat.shiftLeft_eq] at this
  exact this.symm
theorem s_number {Q : Int64 → AH → Prop} {h : AH} {b a k : Nat} {g : Nat → Nat} (hb : bk (hp_k h b)) (hn : a + k ≤ hp_n h b) (hn2 : hp_n h b < 2 ^ 30) (hk : k ≤ 4) (hg : ∀ i, i < hp_n h b → ub (hp_I h b i) = g i) (kQ : Q (lN (d_num g a k)) h) : m_J_number Q b (nI a) (nI k) h := by
  have hlt : ∀ i, i ≤ k → d_num g a i < 256 ^ i ∨ True := fun _ _ => Or.inr trivial
  unfold m_J_number m_J_number_5
  refine ⟨fun st => ∃ i, i ≤ k ∧ st = (lN (d_num g a i), nI i, h) ∧ d_num g a i < 256 ^ i, fun st => k - st.2.1.toNatClampNeg, ⟨0, Nat.zero_le _, rfl, by simp [d_num]⟩, ?_⟩
  rintro _ ⟨i, hi, rfl, hd⟩
  unfold m_J_number_5_b
  simp (disch := omega) only [lit_nI, nI_add, nI_sub, nI_mul, nI_neg, nI_leI, nI_ltI, nI_eq, nI_clamp, vp_iff, nI_negne, nI_l]
  refine ⟨fun c => ?_, fun c => ⟨hb, by omega, fun h8 => ?_⟩⟩
  · have : i = k := by omega
    subst this
    exact kQ
  · rintro _ rfl _ rfl
    have e2 := by8_lt h8
    have e1 := by8_and h8
    have e3 := hg (a + i) (by omega)
    rw [e3] at e1 e2
    have hp : 256 ^ i ≤ 256 ^ 3 := Nat.pow_le_pow_right (by decide) (by omega)
    refine ⟨⟨i + 1, by omega, ?_, ?_⟩, ?_⟩
    · rw [show nI 255 = (255 : Int32) from rfl, show nI 8 = (8 : Int32) from rfl, e1, ll_step _ _ (by omega) e2]
      rfl
    · simp only [d_num, Nat.pow_succ]
      omega
    · simp (disch := omega) only [nI_clamp]
      omega
