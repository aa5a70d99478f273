set_option maxRecDepth 10000
/-! PLAIN (no machine): ints as naturals -/
theorem lit_nI (n : Nat) : (OfNat.ofNat n : Int32) = nI (OfNat.ofNat n) := rfl
theorem nI_sub {a b : Nat} (h : b ≤ a) : nI a - nI b = nI (a - b) := by
  have e : nI (a - b) + nI b = nI a := by
    rw [nI_add]
    congr 1
    omega
  rw [← e, Int32.add_sub_cancel]
theorem nI_mul (a b : Nat) : nI a * nI b = nI (a * b) := (Int32.ofNat_mul a b).symm
theorem nI_neg {a b : Nat} (h : b ≤ a) : nI a + -nI b = nI (a - b) := by rw [← Int32.sub_eq_add_neg, nI_sub h]
theorem vp_iff {c N : Nat} (h : c < 2 ^ 31) : vp_in (nI c) N ↔ c < N := by
  rw [vp_in_iff, nI_toInt h]
  omega
theorem nI_negne {a b : Nat} (ha : a < 2 ^ 31) (hb : 0 < b) (hb2 : b < 2 ^ 31) : (nI a = -nI b) ↔ False := by
  constructor
  · intro e
    have h1 : nI (a + b) = nI 0 := by
      rw [← nI_add, e, Int32.add_left_neg]
      rfl
    have h2 : (nI (a + b)).toBitVec.toNat = (nI 0).toBitVec.toNat := by rw [h1]
    have h3 : ∀ n, (nI n).toBitVec.toNat = n % 4294967296 := fun n => by
      show (BitVec.ofNat 32 n).toNat = n % 4294967296
      rw [BitVec.toNat_ofNat]
    rw [h3, h3] at h2
    omega
  · exact False.elim
/-! bytes -/
def ub (x : Int32) : Nat := (x &&& 255).toNatClampNeg
def bI (u : Nat) : Int32 := (Int8.ofNat u).toInt32
theorem by8_of {x : Int32} (h : by8 x) : ∃ u, u < 256 ∧ x = bI u := by
  refine ⟨x.toInt8.toBitVec.toNat, x.toInt8.toBitVec.isLt, ?_⟩
  have e : Int8.ofNat x.toInt8.toBitVec.toNat = x.toInt8 := by
    apply Int8.toBitVec_inj.mp
    show BitVec.ofNat 8 x.toInt8.toBitVec.toNat = x.toInt8.toBitVec
    exact BitVec.ofNat_toNat _ _ |>.trans (BitVec.setWidth_eq _)
  unfold bI
  rw [e]
  exact h.symm
theorem bI_ub : ∀ u, u < 256 → ub (bI u) = u := by decide +kernel
theorem bI_by8 : ∀ u, u < 256 → by8 (bI u) := by unfold by8; decide +kernel
theorem by8_eq {x : Int32} (h : by8 x) : x = bI (ub x) := by
  obtain ⟨u, hu, rfl⟩ := by8_of h
  rw [bI_ub u hu]
theorem by8_lt {x : Int32} (h : by8 x) : ub x < 256 := by
  obtain ⟨u, hu, rfl⟩ := by8_of h
  rw [bI_ub u hu]; exact hu
theorem by8_and {x : Int32} (h : by8 x) : x &&& 255 = nI (ub x) := by
  obtain ⟨u, hu, rfl⟩ := by8_of h
  rw [bI_ub u hu]
  exact (by decide +kernel : ∀ u, u < 256 → bI u &&& 255 = nI u) u hu
theorem bI_int : ∀ u, u < 256 → (bI u).toInt = if u < 128 then (u : Int) else (u : Int) - 256 := by decide +kernel
theorem by8_int {x : Int32} (h : by8 x) : x.toInt = if ub x < 128 then (ub x : Int) else (ub x : Int) - 256 := by
  obtain ⟨u, hu, rfl⟩ := by8_of h
  rw [bI_ub u hu, bI_int u hu]
theorem b_lt0 {x : Int32} (h : by8 x) : x < 0 ↔ 128 ≤ ub x := by
  rw [Int32.lt_iff_toInt_lt, by8_int h, Int32.toInt_zero]
  have := by8_lt h
  split <;> omega
theorem b_ge0 {x : Int32} (h : by8 x) : 0 ≤ x ↔ ub x < 128 := by
  rw [Int32.le_iff_toInt_le, by8_int h, Int32.toInt_zero]
  have := by8_lt h
  split <;> omega
theorem b_eq {x : Int32} (h : by8 x) {k : Nat} (hk : k < 128) : x = nI k ↔ ub x = k := by
  rw [← Int32.toInt_inj, by8_int h, nI_toInt (by omega)]
  have := by8_lt h
  split <;> omega
theorem b_m128 {x : Int32} (h : by8 x) : x = -128 ↔ ub x = 128 := by
  rw [← Int32.toInt_inj, by8_int h, show (-128 : Int32).toInt = -128 from by decide]
  have := by8_lt h
  split <;> omega
theorem b_m1 {x : Int32} (h : by8 x) : x = -1 ↔ ub x = 255 := by
  rw [← Int32.toInt_inj, by8_int h, show (-1 : Int32).toInt = -1 from by decide]
  have := by8_lt h
  split <;> omega
theorem b_ltk {x : Int32} (h : by8 x) {k : Nat} (hk : k < 2 ^ 31) : x < nI k ↔ (128 ≤ ub x ∨ ub x < k) := by
  rw [Int32.lt_iff_toInt_lt, by8_int h, nI_toInt hk]
  have := by8_lt h
  split <;> omega
theorem b_lek {x : Int32} (h : by8 x) {k : Nat} (hk : k < 2 ^ 31) : x ≤ nI k ↔ (128 ≤ ub x ∨ ub x ≤ k) := by
  rw [Int32.le_iff_toInt_le, by8_int h, nI_toInt hk]
  have := by8_lt h
  split <;> omega
theorem b_inj {x y : Int32} (h : by8 x) (h' : by8 y) : x = y ↔ ub x = ub y := by
  constructor
  · intro e; rw [e]
  · intro e; rw [by8_eq h, by8_eq h', e]
theorem by8_cut (x : Int32) : by8 x.toInt8.toInt32 := by
  unfold by8
  rw [Int8.toInt8_toInt32]
theorem cut_id {x : Int32} (h : by8 x) : x.toInt8.toInt32 = x := h
theorem cut_nI (n : Nat) : ub (nI n).toInt8.toInt32 = n % 256 := by
  have e : (nI n).toInt8 = Int8.ofNat (n % 256) := by
    apply Int8.toBitVec_inj.mp
    show ((BitVec.ofNat 32 n).signExtend 8) = BitVec.ofNat 8 (n % 256)
    apply BitVec.eq_of_toNat_eq
    rw [BitVec.signExtend_eq_setWidth_of_le _ (by decide)]
    simp [BitVec.toNat_setWidth, BitVec.toNat_ofNat]
  rw [e]
  exact bI_ub (n % 256) (Nat.mod_lt _ (by decide))
/-! reads of a written heap -/
section RW
variable {h : AH} {a i x j k n m a0 sp dp : Nat} {v : Int32} {w : Int64} {o : Option Nat}
theorem rI1 : hp_I (up_I h a i v) a i = v := by simp [hp_I, up_I]
theorem rI2 (hx : x ≠ a) : hp_I (up_I h a i v) x j = hp_I h x j := by simp [hp_I, up_I, hx]
theorem rI3 (hj : j ≠ i) : hp_I (up_I h a i v) x j = hp_I h x j := by simp [hp_I, up_I, hj]
theorem rIL : hp_I (up_L h a i w) = hp_I h := rfl
theorem rIR : hp_I (up_R h a i o) = hp_I h := rfl
theorem rICR : hp_I (up_CR h a0 sp a dp n) = hp_I h := rfl
theorem rIC2 (hx : x ≠ a) : hp_I (up_CI h a0 sp a dp n) x j = hp_I h x j := by simp [hp_I, up_CI, hx]
theorem rIC3 (hj : j < dp ∨ dp + n ≤ j) : hp_I (up_CI h a0 sp a dp n) x j = hp_I h x j := by
  simp only [hp_I, up_CI]
  rw [if_neg]
  omega
theorem rIC1 (h1 : dp ≤ j) (h2 : j < dp + n) : hp_I (up_CI h a0 sp a dp n) a j = hp_I h a0 (sp + (j - dp)) := by simp [hp_I, up_CI, h1, h2]
theorem rIN1 : hp_I (up_N h k n m) (hp_z h) j = 0 := by simp [hp_I, up_N]
theorem rIN2 (hx : x ≠ hp_z h) : hp_I (up_N h k n m) x j = hp_I h x j := by simp [hp_I, up_N, hx]
theorem rL1 : hp_L (up_L h a i w) a i = w := by simp [hp_L, up_L]
theorem rL2 (hx : x ≠ a) : hp_L (up_L h a i w) x j = hp_L h x j := by simp [hp_L, up_L, hx]
theorem rL3 (hj : j ≠ i) : hp_L (up_L h a i w) x j = hp_L h x j := by simp [hp_L, up_L, hj]
theorem rLI : hp_L (up_I h a i v) = hp_L h := rfl
theorem rLR : hp_L (up_R h a i o) = hp_L h := rfl
theorem rLCI : hp_L (up_CI h a0 sp a dp n) = hp_L h := rfl
theorem rLCR : hp_L (up_CR h a0 sp a dp n) = hp_L h := rfl
theorem rLN1 : hp_L (up_N h k n m) (hp_z h) j = 0 := by simp [hp_L, up_N]
theorem rLN2 (hx : x ≠ hp_z h) : hp_L (up_N h k n m) x j = hp_L h x j := by simp [hp_L, up_N, hx]
theorem rR1 : hp_R (up_R h a i o) a i = o := by simp [hp_R, up_R]
theorem rR2 (hx : x ≠ a) : hp_R (up_R h a i o) x j = hp_R h x j := by simp [hp_R, up_R, hx]
theorem rR3 (hj : j ≠ i) : hp_R (up_R h a i o) x j = hp_R h x j := by simp [hp_R, up_R, hj]
theorem rRI : hp_R (up_I h a i v) = hp_R h := rfl
theorem rRL : hp_R (up_L h a i w) = hp_R h := rfl
theorem rRCI : hp_R (up_CI h a0 sp a dp n) = hp_R h := rfl
theorem rRC2 (hx : x ≠ a) : hp_R (up_CR h a0 sp a dp n) x j = hp_R h x j := by simp [hp_R, up_CR, hx]
theorem rRC3 (hj : j < dp ∨ dp + n ≤ j) : hp_R (up_CR h a0 sp a dp n) x j = hp_R h x j := by
  simp only [hp_R, up_CR]
  rw [if_neg]
  omega
theorem rRC1 (h1 : dp ≤ j) (h2 : j < dp + n) : hp_R (up_CR h a0 sp a dp n) a j = hp_R h a0 (sp + (j - dp)) := by simp [hp_R, up_CR, h1, h2]
theorem rRN1 : hp_R (up_N h k n m) (hp_z h) j = none := by simp [hp_R, up_N]
theorem rRN2 (hx : x ≠ hp_z h) : hp_R (up_N h k n m) x j = hp_R h x j := by simp [hp_R, up_N, hx]
theorem rkI : hp_k (up_I h a i v) = hp_k h := rfl
theorem rkL : hp_k (up_L h a i w) = hp_k h := rfl
theorem rkR : hp_k (up_R h a i o) = hp_k h := rfl
theorem rkCI : hp_k (up_CI h a0 sp a dp n) = hp_k h := rfl
theorem rkCR : hp_k (up_CR h a0 sp a dp n) = hp_k h := rfl
theorem rkN1 : hp_k (up_N h k n m) (hp_z h) = k := by simp [hp_k, up_N]
theorem rkN2 (hx : x ≠ hp_z h) : hp_k (up_N h k n m) x = hp_k h x := by simp [hp_k, up_N, hx]
theorem rnI : hp_n (up_I h a i v) = hp_n h := rfl
theorem rnL : hp_n (up_L h a i w) = hp_n h := rfl
theorem rnR : hp_n (up_R h a i o) = hp_n h := rfl
theorem rnCI : hp_n (up_CI h a0 sp a dp n) = hp_n h := rfl
theorem rnCR : hp_n (up_CR h a0 sp a dp n) = hp_n h := rfl
theorem rnN1 : hp_n (up_N h k n m) (hp_z h) = n := by simp [hp_n, up_N]
theorem rnN2 (hx : x ≠ hp_z h) : hp_n (up_N h k n m) x = hp_n h x := by simp [hp_n, up_N, hx]
theorem rzI : hp_z (up_I h a i v) = hp_z h := rfl
theorem rzL : hp_z (up_L h a i w) = hp_z h := rfl
theorem rzR : hp_z (up_R h a i o) = hp_z h := rfl
theorem rzCI : hp_z (up_CI h a0 sp a dp n) = hp_z h := rfl
theorem rzCR : hp_z (up_CR h a0 sp a dp n) = hp_z h := rfl
theorem rzN : hp_z (up_N h k n m) = hp_z h + 1 := rfl
theorem rsI : hp_s (up_I h a i v) = hp_s h := rfl
theorem rsL : hp_s (up_L h a i w) = hp_s h := rfl
theorem rsR : hp_s (up_R h a i o) = hp_s h := rfl
theorem rsCI : hp_s (up_CI h a0 sp a dp n) = hp_s h := rfl
theorem rsCR : hp_s (up_CR h a0 sp a dp n) = hp_s h := rfl
theorem rsN : hp_s (up_N h k n m) = hp_s h + m := rfl
theorem rtI : hp_t (up_I h a i v) = hp_t h := rfl
theorem rtL : hp_t (up_L h a i w) = hp_t h := rfl
theorem rtR : hp_t (up_R h a i o) = hp_t h := rfl
theorem rtCI : hp_t (up_CI h a0 sp a dp n) = hp_t h := rfl
theorem rtCR : hp_t (up_CR h a0 sp a dp n) = hp_t h := rfl
theorem rtN : hp_t (up_N h k n m) = hp_t h := rfl
theorem rcI : hp_c (up_I h a i v) = hp_c h := rfl
theorem rcL : hp_c (up_L h a i w) = hp_c h := rfl
theorem rcR : hp_c (up_R h a i o) = hp_c h := rfl
theorem rcCI : hp_c (up_CI h a0 sp a dp n) = hp_c h := rfl
theorem rcCR : hp_c (up_CR h a0 sp a dp n) = hp_c h := rfl
theorem rcN : hp_c (up_N h k n m) = hp_c h := rfl
theorem uII {v' : Int32} : up_I (up_I h a i v) a i v' = up_I h a i v' := by
  simp only [up_I, hp_I]
  congr 1
  funext x j
  split <;> simp_all
end RW
theorem k_ne {h : AH} {a b i j : Nat} (ha : hp_k h a = i) (hb : hp_k h b = j) (hij : i ≠ j) : a ≠ b := by
  rintro rfl
  exact hij (ha.symm.trans hb)
theorem w_lt {h : AH} {a : Nat} (w : fx_wf h) (ha : hp_k h a ≠ 0) : a < hp_z h := by
  by_cases hz : hp_z h ≤ a
  · exact absurd (w a hz) ha
  · omega
theorem w_ne {h : AH} {a i : Nat} (w : fx_wf h) (ha : hp_k h a = i + 1) : a ≠ hp_z h := by
  have := w_lt w (a := a) (by omega)
  omega
/-! FRAMES. fm S: what isn't in S (cell, place) stays, nothing is made; fa S dz ds: at most dz cells, ds slots are made -/
def fm (S : Nat → Nat → Prop) (h h1 : AH) : Prop := (∀ a j, ¬ S a j → hp_I h1 a j = hp_I h a j ∧ hp_L h1 a j = hp_L h a j ∧ hp_R h1 a j = hp_R h a j) ∧ hp_k h1 = hp_k h ∧ hp_n h1 = hp_n h ∧ hp_z h1 = hp_z h ∧ hp_s h1 = hp_s h ∧ hp_t h1 = hp_t h ∧ hp_c h1 = hp_c h
def fa (S : Nat → Nat → Prop) (dz ds : Nat) (h h1 : AH) : Prop := (∀ a j, hp_k h a ≠ 0 → ¬ S a j → hp_I h1 a j = hp_I h a j ∧ hp_L h1 a j = hp_L h a j ∧ hp_R h1 a j = hp_R h a j) ∧ (∀ a, hp_k h a ≠ 0 → hp_k h1 a = hp_k h a ∧ hp_n h1 a = hp_n h a) ∧ hp_z h ≤ hp_z h1 ∧ hp_z h1 ≤ hp_z h + dz ∧ hp_s h ≤ hp_s h1 ∧ hp_s h1 ≤ hp_s h + ds ∧ hp_t h1 = hp_t h ∧ hp_c h1 = hp_c h
theorem fm.rf {S : Nat → Nat → Prop} {h : AH} : fm S h h := ⟨fun _ _ _ => ⟨rfl, rfl, rfl⟩, rfl, rfl, rfl, rfl, rfl, rfl⟩
theorem fm.tr {S : Nat → Nat → Prop} {h h1 h2 : AH} (x : fm S h h1) (y : fm S h1 h2) : fm S h h2 := by
  obtain ⟨x1, x2, x3, x4, x5, x6, x7⟩ := x
  obtain ⟨y1, y2, y3, y4, y5, y6, y7⟩ := y
  refine ⟨fun a j hn => ?_, y2.trans x2, y3.trans x3, y4.trans x4, y5.trans x5, y6.trans x6, y7.trans x7⟩
  obtain ⟨p1, p2, p3⟩ := x1 a j hn
  obtain ⟨q1, q2, q3⟩ := y1 a j hn
  exact ⟨q1.trans p1, q2.trans p2, q3.trans p3⟩
theorem fm.wk {S S' : Nat → Nat → Prop} {h h1 : AH} (x : fm S h h1) (hS : ∀ a j, S a j → S' a j) : fm S' h h1 := ⟨fun a j hn => x.1 a j (fun hs => hn (hS a j hs)), x.2⟩
theorem fm.I {S : Nat → Nat → Prop} {h : AH} {a i : Nat} {v : Int32} (hs : S a i) : fm S h (up_I h a i v) := by
  refine ⟨fun x j hn => ?_, rfl, rfl, rfl, rfl, rfl, rfl⟩
  refine ⟨?_, rfl, rfl⟩
  by_cases hx : x = a
  · by_cases hj : j = i
    · subst hx; subst hj; exact absurd hs hn
    · rw [rI3 hj]
  · rw [rI2 hx]
theorem fm.L {S : Nat → Nat → Prop} {h : AH} {a i : Nat} {v : Int64} (hs : S a i) : fm S h (up_L h a i v) := by
  refine ⟨fun x j hn => ?_, rfl, rfl, rfl, rfl, rfl, rfl⟩
  refine ⟨rfl, ?_, rfl⟩
  by_cases hx : x = a
  · by_cases hj : j = i
    · subst hx; subst hj; exact absurd hs hn
    · rw [rL3 hj]
  · rw [rL2 hx]
theorem fm.R {S : Nat → Nat → Prop} {h : AH} {a i : Nat} {v : Option Nat} (hs : S a i) : fm S h (up_R h a i v) := by
  refine ⟨fun x j hn => ?_, rfl, rfl, rfl, rfl, rfl, rfl⟩
  refine ⟨rfl, rfl, ?_⟩
  by_cases hx : x = a
  · by_cases hj : j = i
    · subst hx; subst hj; exact absurd hs hn
    · rw [rR3 hj]
  · rw [rR2 hx]
theorem fm.fa {S : Nat → Nat → Prop} {h h1 : AH} {dz ds : Nat} (x : fm S h h1) : fa S dz ds h h1 := by
  obtain ⟨x1, x2, x3, x4, x5, x6, x7⟩ := x
  exact ⟨fun a j _ hn => x1 a j hn, fun a _ => ⟨by rw [x2], by rw [x3]⟩, by omega, by omega, by omega, by omega, x6, x7⟩
theorem fa.tr {S : Nat → Nat → Prop} {h h1 h2 : AH} {dz ds dz' ds' DZ DS : Nat} (x : fa S dz ds h h1) (y : fa S dz' ds' h1 h2) (hz : dz + dz' ≤ DZ) (hs : ds + ds' ≤ DS) : fa S DZ DS h h2 := by
  obtain ⟨x1, x2, x3, x4, x5, x6, x7, x8⟩ := x
  obtain ⟨y1, y2, y3, y4, y5, y6, y7, y8⟩ := y
  refine ⟨fun a j hk hn => ?_, fun a hk => ?_, by omega, by omega, by omega, by omega, y7.trans x7, y8.trans x8⟩
  · obtain ⟨p1, p2, p3⟩ := x1 a j hk hn
    obtain ⟨q1, q2, q3⟩ := y1 a j (by rw [(x2 a hk).1]; exact hk) hn
    exact ⟨q1.trans p1, q2.trans p2, q3.trans p3⟩
  · obtain ⟨p1, p2⟩ := x2 a hk
    obtain ⟨q1, q2⟩ := y2 a (by rw [p1]; exact hk)
    exact ⟨q1.trans p1, q2.trans p2⟩
theorem fa.wk {S S' : Nat → Nat → Prop} {h h1 : AH} {dz ds dz' ds' : Nat} (x : fa S dz ds h h1) (hS : ∀ a j, hp_k h a ≠ 0 → S a j → S' a j) (hz : dz ≤ dz') (hs : ds ≤ ds') : fa S' dz' ds' h h1 := by
  obtain ⟨x1, x2, x3, x4, x5, x6, x7, x8⟩ := x
  exact ⟨fun a j hk hn => x1 a j hk (fun q => hn (hS a j hk q)), x2, x3, by omega, x5, by omega, x7, x8⟩
theorem fa.N {S : Nat → Nat → Prop} {h : AH} {k n m : Nat} (w : fx_wf h) : fa S 1 m h (up_N h k n m) := by
  have hne : ∀ a, hp_k h a ≠ 0 → a ≠ hp_z h := fun a ha => by have := w_lt w ha; omega
  refine ⟨fun a j hk _ => ⟨rIN2 (hne a hk), rLN2 (hne a hk), rRN2 (hne a hk)⟩, fun a hk => ⟨rkN2 (hne a hk), rnN2 (hne a hk)⟩, ?_, ?_, ?_, ?_, rfl, rfl⟩ <;> (simp only [rzN, rsN]; omega)
theorem fa.k {S : Nat → Nat → Prop} {h h1 : AH} {dz ds a i : Nat} (x : fa S dz ds h h1) (ha : hp_k h a = i + 1) : hp_k h1 a = i + 1 := ((x.2.1 a (by omega)).1).trans ha
theorem fa.n {S : Nat → Nat → Prop} {h h1 : AH} {dz ds a i : Nat} (x : fa S dz ds h h1) (ha : hp_k h a = i + 1) : hp_n h1 a = hp_n h a := (x.2.1 a (by omega)).2
theorem fa.I {S : Nat → Nat → Prop} {h h1 : AH} {dz ds a j : Nat} (x : fa S dz ds h h1) (ha : hp_k h a ≠ 0) (hs : ¬ S a j) : hp_I h1 a j = hp_I h a j := (x.1 a j ha hs).1
theorem fa.L {S : Nat → Nat → Prop} {h h1 : AH} {dz ds a j : Nat} (x : fa S dz ds h h1) (ha : hp_k h a ≠ 0) (hs : ¬ S a j) : hp_L h1 a j = hp_L h a j := (x.1 a j ha hs).2.1
theorem fa.R {S : Nat → Nat → Prop} {h h1 : AH} {dz ds a j : Nat} (x : fa S dz ds h h1) (ha : hp_k h a ≠ 0) (hs : ¬ S a j) : hp_R h1 a j = hp_R h a j := (x.1 a j ha hs).2.2
