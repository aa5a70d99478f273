set_option maxRecDepth 10000
/-! numbers of limbs of 32 bits -/
def vl (c : Nat → Nat) : Nat → Nat
  | 0 => 0
  | n + 1 => vl c n + c n * 2 ^ (32 * n)
def upN (c : Nat → Nat) (j v : Nat) : Nat → Nat := fun x => if x = j then v else c x
theorem vl_cg {c c' : Nat → Nat} : ∀ {n}, (∀ j, j < n → c j = c' j) → vl c n = vl c' n
  | 0, _ => rfl
  | n + 1, h => by simp only [vl]; rw [vl_cg (n := n) (fun j hj => h j (by omega)), h n (by omega)]
theorem vl_up {c : Nat → Nat} {j v : Nat} : ∀ {n}, j < n → vl (upN c j v) n + c j * 2 ^ (32 * j) = vl c n + v * 2 ^ (32 * j)
  | 0, h => by omega
  | n + 1, h => by
    simp only [vl]
    by_cases hj : j = n
    · subst hj
      have e : vl (upN c j v) j = vl c j := vl_cg (fun i hi => by unfold upN; rw [if_neg (by omega)])
      rw [e]
      unfold upN
      rw [if_pos rfl]
      omega
    · have ih := vl_up (c := c) (j := j) (v := v) (n := n) (by omega)
      have e : upN c j v n = c n := by unfold upN; rw [if_neg (by omega)]
      rw [e]
      omega
theorem vl_lt {c : Nat → Nat} : ∀ {n}, (∀ j, j < n → c j < 2 ^ 32) → vl c n < 2 ^ (32 * n)
  | 0, _ => by simp [vl]
  | n + 1, h => by
    simp only [vl]
    have ih := vl_lt (n := n) (fun j hj => h j (by omega))
    have h1 := h n (by omega)
    have h2 : c n * 2 ^ (32 * n) ≤ (2 ^ 32 - 1) * 2 ^ (32 * n) := Nat.mul_le_mul_right _ (by omega)
    have h3 : 2 ^ (32 * (n + 1)) = 2 ^ 32 * 2 ^ (32 * n) := by rw [Nat.mul_add, Nat.pow_add, Nat.mul_comm]
    rw [h3]
    rw [Nat.sub_mul] at h2
    omega
theorem vl_le {c : Nat → Nat} {n m : Nat} (h : n ≤ m) : vl c n ≤ vl c m := by
  induction m with
  | zero => have : n = 0 := by omega
            subst this; exact Nat.le_refl _
  | succ m ih =>
    by_cases hn : n = m + 1
    · subst hn; exact Nat.le_refl _
    · have := ih (by omega)
      simp only [vl]
      omega
/-- the upper limbs are nought if the number is small -/
theorem vl_top {c : Nat → Nat} {n m : Nat} (h : n ≤ m) (hv : vl c m < 2 ^ (32 * n)) : vl c n = vl c m := by
  induction m with
  | zero => have : n = 0 := by omega
            subst this; rfl
  | succ m ih =>
    by_cases hn : n = m + 1
    · subst hn; rfl
    · simp only [vl] at hv ⊢
      have h0 : c m = 0 := by
        apply Classical.byContradiction
        intro hc
        have h1 : 1 * 2 ^ (32 * m) ≤ c m * 2 ^ (32 * m) := Nat.mul_le_mul_right _ (by omega)
        have h2 : 2 ^ (32 * n) ≤ 2 ^ (32 * m) := Nat.pow_le_pow_right (by decide) (by omega)
        omega
      rw [h0] at hv ⊢
      have := ih (by omega) (by omega)
      omega
theorem lu_lN2 {b k : Nat} (hb : b < 2 ^ 64) (hk : k < 64) : sh_lu (lN b) (nI k) = lN (b / 2 ^ k) := by
  apply Int64.toBitVec_inj.mp
  show (BitVec.ofNat 64 b) >>> _ = BitVec.ofNat 64 _
  apply BitVec.eq_of_toNat_eq
  simp only [BitVec.ushiftRight_eq', BitVec.toNat_ushiftRight, BitVec.toNat_ofNat, Nat.shiftRight_eq_div_pow]
  have e : ((((nI k).toInt64.toUInt64 &&& Int64.toUInt64 63).toBitVec % 64#64).toNat) = k := shk k hk
  have h1 : b / 2 ^ k ≤ b := Nat.div_le_self _ _
  rw [Nat.mod_eq_of_lt (by omega), Nat.mod_eq_of_lt (by omega)]
  exact congrArg (fun z => b / 2 ^ z) e
theorem lN_mask (v : Nat) : lN v &&& 4294967295 = lN (v % 2 ^ 32) := by
  apply Int64.toBitVec_inj.mp
  show BitVec.ofNat 64 v &&& BitVec.ofNat 64 4294967295 = BitVec.ofNat 64 (v % 2 ^ 32)
  apply BitVec.eq_of_toNat_eq
  simp only [BitVec.toNat_and, BitVec.toNat_ofNat]
  rw [show 4294967295 % 2 ^ 64 = 2 ^ 32 - 1 from rfl, Nat.and_two_pow_sub_one_eq_mod]
  omega
def ML (A : Nat → Nat) (h : AH) : Prop := hp_k h (A 40) = 13 ∧ hp_R h (A 40) 54 = some (A 58) ∧ hp_R h (A 40) 55 = some (A 59) ∧ (hp_k h (A 58) = 103 ∧ hp_n h (A 58) = 8) ∧ (hp_k h (A 59) = 103 ∧ hp_n h (A 59) = 8) ∧ A 58 ≠ A 59
def SL (A : Nat → Nat) : Nat → Nat → Prop := fun x _ => x = A 58 ∨ x = A 59
theorem ML.fm {A : Nat → Nat} {h h1 : AH} (M : ML A h) (x : fm (SL A) h h1) (r : fmR h h1) : ML A h1 := by
  obtain ⟨m1, m2, m3, m4, m5, m6⟩ := M
  obtain ⟨x1, x2, x3, -⟩ := x
  unfold fmR at r
  exact ⟨by rw [x2]; exact m1, by rw [r]; exact m2, by rw [r]; exact m3, by rw [x2, x3]; exact m4, by rw [x2, x3]; exact m5, m6⟩
/-- the limbs of a cell -/
def LB (h : AH) (b : Nat) (c : Nat → Nat) : Prop := ∀ j, j < 8 → c j < 2 ^ 32 ∧ hp_L h b j = lN (c j)
theorem LB.fm {S : Nat → Nat → Prop} {h h1 : AH} {b : Nat} {c : Nat → Nat} (l : LB h b c) (x : fm S h h1) (hS : ∀ j, ¬ S b j) : LB h1 b c := fun j hj => ⟨(l j hj).1, by rw [(x.1 b j (hS j)).2.1]; exact (l j hj).2⟩
theorem LB.up {h : AH} {b j v : Nat} {c : Nat → Nat} (l : LB h b c) (hv : v < 2 ^ 32) : LB (up_L h b j (lN v)) b (upN c j v) := fun i hi => by
  unfold upN
  by_cases hij : i = j
  · rw [if_pos hij, hij, rL1]; exact ⟨hv, rfl⟩
  · rw [if_neg hij, rL3 hij]; exact l i hi
theorem ar_carry {C X cy P : Nat} (h : C + cy * P = X) (hx : X < P) : C = X := by
  have h0 : cy = 0 := by
    apply Classical.byContradiction
    intro hc
    have h1 : 1 * P ≤ cy * P := Nat.mul_le_mul_right _ (by omega)
    omega
  subst h0
  omega
theorem ar_step {V1 V0 c1v b l D E P sm cy T r : Nat} (e2 : V1 + c1v * P = V0 + sm % 2 ^ 32 * P) (he : V0 + cy * P = T + b * D * r) (hS : c1v + b * l + cy = sm) (hP : P = D * E) : V1 + sm / 2 ^ 32 * (2 ^ 32 * P) = T + b * D * (r + l * E) := by
  have e4 : sm / 2 ^ 32 * (2 ^ 32 * P) + sm % 2 ^ 32 * P = sm * P := by
    rw [← Nat.mul_assoc, ← Nat.add_mul]
    congr 1
    omega
  have e5 : sm * P = c1v * P + b * D * (l * E) + cy * P := by
    rw [← hS, Nat.add_mul, Nat.add_mul]
    congr 2
    rw [hP]
    ac_rfl
  rw [Nat.mul_add]
  omega
theorem ar_top {b l D n m : Nat} {c : Nat → Nat} (hn : n ≤ 8) (hD : D * 2 ^ (32 * n) = 2 ^ (32 * 8)) (h : m + b * D * vl c 8 < 2 ^ (32 * 8)) : b * D * vl c n = b * D * vl c 8 := by
  by_cases hb0 : b = 0
  · subst hb0; simp
  · have : vl c 8 < 2 ^ (32 * n) := by
      apply Classical.byContradiction
      intro hc
      have h1 : 1 * D * 2 ^ (32 * n) ≤ b * D * vl c 8 := Nat.mul_le_mul (Nat.mul_le_mul_right _ (by omega)) (by omega)
      rw [Nat.one_mul, hD] at h1
      generalize 2 ^ (32 * 8) = Z at *
      omega
    rw [vl_top hn this]
theorem s_raise68 {Q : AH → Prop} {X : Int32 × AH → Prop} {A : Nat → Nat} {h : AH} {w1 w3 : Int64} {i by' : Nat} {l c : Nat → Nat} (M : ML A h) (hi : i < 3) (hby : by' < 2 ^ 32) (L : LB h (A 58) l) (C : LB h (A 59) c) (hlt : vl c 8 + by' * 2 ^ (32 * i) * vl l 8 < 2 ^ (32 * 8)) (kX : ∀ h1 c1, fm (fun x _ => x = A 59) h h1 → fmR h h1 → LB h1 (A 59) c1 → vl c1 8 = vl c 8 + by' * 2 ^ (32 * i) * vl l 8 → X (nI (i + 1), h1)) : m_M_raise_60 Q X (A 40) w1 w3 (nI i) (lN by') h := by
  have M0 := M
  obtain ⟨m1, m2, m3, m4, m5, m6⟩ := M
  refine ⟨fun s => ∃ k c1 cy, k ≤ 8 - i ∧ s.2.1 = nI k ∧ s.1 = lN cy ∧ cy < 2 ^ 32 ∧ fm (fun x _ => x = A 59) h s.2.2 ∧ fmR h s.2.2 ∧ LB s.2.2 (A 59) c1 ∧ (vl c1 8 + cy * 2 ^ (32 * (i + k)) = vl c 8 + by' * 2 ^ (32 * i) * vl l k), fun s => 8 - s.2.1.toNatClampNeg, ⟨0, c, 0, by omega, rfl, rfl, by decide, fm.rf, rfl, C, by rw [Nat.zero_mul, show vl l 0 = 0 from rfl, Nat.mul_zero]⟩, ?_⟩
  rintro ⟨w, v, s⟩ ⟨k, c1, cy, hk, hv, hw, hcy, F, R, C1, he⟩
  simp only at hv hw F R C1 he ⊢
  subst hv
  subst hw
  have Ms := M0.fm (F.wk (fun x j e => Or.inr e)) R
  have Ls := L.fm F (fun j e => m6 e)
  obtain ⟨q1, q2, q3, q4, q5, q6⟩ := Ms
  unfold m_M_raise_68_b
  rw [nI_add, show (8 : Int32) = nI 8 from rfl, nI_leI (by omega) (by omega), nI_clamp (by omega), nI_clamp (by omega)]
  refine ⟨fun cc => ?_, fun cc => ⟨q1, A 59, q3, Or.inl q5.1, by rw [q5.2, vp_iff (by omega)]; omega, A 58, q2, Or.inl q4.1, by rw [q4.2, vp_iff (by omega)]; omega, ?_⟩⟩
  · rintro _ rfl
    have hk8 : k = 8 - i := by omega
    subst hk8
    rw [nI_1]
    refine kX s c1 F R C1 ?_
    have e8 : i + (8 - i) = 8 := by omega
    rw [ar_top (l := 0) (by omega) (by rw [← Nat.pow_add]; exact congrArg (fun z => 2 ^ z) (by omega)) hlt, e8] at he
    exact ar_carry he hlt
  · obtain ⟨c2, c3⟩ := C1 (i + k) (by omega)
    obtain ⟨l2, l3⟩ := Ls k (by omega)
    rw [c3, l3, lN_mul, lN_add, lN_add]
    rintro _ rfl
    have hs : c1 (i + k) + by' * l k + cy < 2 ^ 64 := by
      have h1 : by' * l k ≤ (2 ^ 32 - 1) * (2 ^ 32 - 1) := Nat.mul_le_mul (by omega) (by omega)
      omega
    refine ⟨q5.1, by rw [q5.2, vp_iff (by omega)]; omega, ?_⟩
    rw [lN_mask, show (32 : Int32) = nI 32 from rfl, lu_lN2 hs (by decide)]
    generalize hS : c1 (i + k) + by' * l k + cy = sm at hs ⊢
    rintro _ rfl _ rfl _ rfl
    have C2 := C1.up (h := s) (j := i + k) (v := sm % 2 ^ 32) (Nat.mod_lt _ (by decide))
    refine ⟨⟨k + 1, _, sm / 2 ^ 32, by omega, by simp only [nI_1], rfl, by omega, F.tr (fm.L rfl), R, C2, ?_⟩, ?_⟩
    · have e3 : 2 ^ (32 * (i + (k + 1))) = 2 ^ 32 * 2 ^ (32 * (i + k)) := by rw [← Nat.pow_add]; exact congrArg (fun z => 2 ^ z) (by omega)
      rw [e3]
      exact ar_step (vl_up (c := c1) (j := i + k) (v := sm % 2 ^ 32) (n := 8) (by omega)) he hS (by rw [← Nat.pow_add]; exact congrArg (fun z => 2 ^ z) (by omega))
    · simp (disch := omega) only [nI_1, nI_clamp]
      omega
theorem s_raise {Q : AH → Prop} {A : Nat → Nat} {h : AH} {hi lo : Nat} {l : Nat → Nat} (M : ML A h) (hhi : hi < 8) (hlo : lo < 2 ^ 64) (L : LB h (A 58) l) (hlt : vl l 8 * (hi * 2 ^ 64 + lo) < 2 ^ (32 * 8)) (kQ : ∀ h1 l1, fm (SL A) h h1 → fmR h h1 → LB h1 (A 58) l1 → vl l1 8 = vl l 8 * (hi * 2 ^ 64 + lo) → Q h1) : m_M_raise Q (A 40) (lN hi) (lN lo) h := by
  have M0 := M
  have m6 := M.2.2.2.2.2
  -- the last copy
  have p3 : ∀ s c, fm (SL A) h s → fmR h s → LB s (A 59) c → vl c 8 = vl l 8 * (hi * 2 ^ 64 + lo) → m_M_raise_142 Q (A 40) 0 s := fun s0 c F0 R0 C0 hv0 => by
    refine ⟨fun s => ∃ k, k ≤ 8 ∧ s.1 = nI k ∧ fm (SL A) h s.2 ∧ fmR h s.2 ∧ LB s.2 (A 59) c ∧ (∀ j, j < k → hp_L s.2 (A 58) j = lN (c j)), fun s => 8 - s.1.toNatClampNeg, ⟨0, by decide, rfl, F0, R0, C0, fun j hj => by omega⟩, ?_⟩
    rintro ⟨v, s⟩ ⟨k, hk, hv, F, R, C, hs⟩
    simp only at hv F R C hs ⊢
    subst hv
    obtain ⟨q1, q2, q3, q4, q5, q6⟩ := M0.fm F R
    unfold m_M_raise_142_b
    rw [show (8 : Int32) = nI 8 from rfl, nI_leI (by omega) (by omega)]
    refine ⟨fun c2 => ?_, fun c2 => ⟨q1, A 58, q2, A 59, q3, Or.inl q5.1, by rw [q5.2, vp_iff (by omega)]; omega, q4.1, by rw [q4.2, vp_iff (by omega)]; omega, ?_⟩⟩
    · have : k = 8 := by omega
      subst this
      exact kQ s c F R (fun j hj => ⟨(C j hj).1, hs j hj⟩) hv0
    · rw [nI_clamp (by omega), (C k (by omega)).2]
      rintro _ rfl _ rfl
      refine ⟨⟨k + 1, by omega, by simp only [nI_1], F.tr (fm.L (Or.inl rfl)), R, C.fm (fm.L (S := fun x _ => x = A 58) rfl) (fun j e => m6 e.symm), fun j hj => ?_⟩, ?_⟩
      · simp only
        by_cases hjk : j = k
        · rw [hjk, rL1]
        · rw [rL3 hjk]; exact hs j (by omega)
      · simp (disch := omega) only [nI_1, nI_clamp]
        omega
  -- three rows
  have p2 : ∀ s, fm (fun x _ => x = A 59) h s → fmR h s → LB s (A 59) (fun _ => 0) → m_M_raise_27 Q (A 40) (lN hi) (lN lo) 0 s := fun s0 F0 R0 C0 => by
    refine ⟨fun s => ∃ i c, i ≤ 3 ∧ s.1 = nI i ∧ fm (fun x _ => x = A 59) h s.2 ∧ fmR h s.2 ∧ LB s.2 (A 59) c ∧ vl c 8 = vl l 8 * (if i = 0 then 0 else if i = 1 then lo % 2 ^ 32 else if i = 2 then lo else hi * 2 ^ 64 + lo), fun s => 3 - s.1.toNatClampNeg, ⟨0, _, by decide, rfl, F0, R0, C0, ?_⟩, ?_⟩
    · rw [if_pos rfl, Nat.mul_zero]
      have : ∀ n, vl (fun _ => 0) n = 0 := fun n => by
        induction n with
        | zero => rfl
        | succ n ih => simp only [vl]; rw [ih]; omega
      exact this 8
    rintro ⟨v, s⟩ ⟨i, c, hi3, hv, F, R, C, hs⟩
    simp only at hv F R C hs ⊢
    subst hv
    have Ms := M0.fm (F.wk (fun x j e => Or.inr e)) R
    have Ls := L.fm F (fun j e => m6 e)
    unfold m_M_raise_27_b
    rw [show (3 : Int32) = nI 3 from rfl, nI_leI (by omega) (by omega), show (0 : Int32) = nI 0 from rfl, nI_eq (by omega) (by omega), show (1 : Int32) = nI 1 from rfl, nI_eq (by omega) (by omega)]
    have mon : ∀ x, x ≤ hi * 2 ^ 64 + lo → vl l 8 * x < 2 ^ (32 * 8) := fun x hx => Nat.lt_of_le_of_lt (Nat.mul_le_mul_left _ hx) hlt
    have mes : ∀ s' : Int32 × AH, s'.1 = nI (i + 1) → i < 3 → 3 - s'.1.toNatClampNeg < 3 - (nI i).toNatClampNeg := fun s' e hi => by
      rw [e]
      simp (disch := omega) only [nI_clamp]
      omega
    refine ⟨fun c3 => ?_, fun c3 => ⟨fun c0 => ⟨fun c1 => ?_, fun c1 => ?_⟩, fun c0 => ?_⟩⟩
    · have : i = 3 := by omega
      subst this
      refine p3 s c (F.wk (fun x j e => Or.inr e)) R C ?_
      rw [hs]
      simp
    · have : i = 2 := by omega
      subst this
      rw [if_neg (by decide), if_neg (by decide), if_pos rfl] at hs
      have e : vl c 8 + hi * 2 ^ (32 * 2) * vl l 8 = vl l 8 * (hi * 2 ^ 64 + lo) := by
        rw [hs, Nat.mul_add, Nat.add_comm, Nat.mul_comm (vl l 8) (hi * 2 ^ 64)]
      refine s_raise68 Ms (by decide) (by omega) Ls C (by rw [e]; exact hlt) (fun h1 c1 F1 R1 C1 hv1 => ⟨⟨3, c1, by decide, rfl, F.tr F1, R1.trans R, C1, ?_⟩, mes _ rfl (by decide)⟩)
      rw [hv1, e]
      simp
    · subst c1
      rw [if_neg (by decide), if_pos rfl] at hs
      rw [show (32 : Int32) = nI 32 from rfl, lu_lN2 hlo (by decide)]
      have e : vl c 8 + lo / 2 ^ 32 * 2 ^ (32 * 1) * vl l 8 = vl l 8 * lo := by
        rw [hs, Nat.mul_comm (lo / 2 ^ 32 * 2 ^ (32 * 1)), ← Nat.mul_add]
        congr 1
        omega
      refine s_raise68 Ms (by decide) (by omega) Ls C (by rw [e]; exact mon _ (by omega)) (fun h1 c1 F1 R1 C1 hv1 => ⟨⟨2, c1, by decide, rfl, F.tr F1, R1.trans R, C1, ?_⟩, mes _ rfl (by decide)⟩)
      rw [hv1, e]
      simp
    · subst c0
      rw [if_pos rfl, Nat.mul_zero] at hs
      rw [lN_mask]
      have e : vl c 8 + lo % 2 ^ 32 * 2 ^ (32 * 0) * vl l 8 = vl l 8 * (lo % 2 ^ 32) := by
        rw [hs, Nat.mul_zero, Nat.pow_zero, Nat.mul_one, Nat.zero_add, Nat.mul_comm]
      refine s_raise68 Ms (by decide) (by omega) Ls C (by rw [e]; exact mon _ (by omega)) (fun h1 c1 F1 R1 C1 hv1 => ⟨⟨1, c1, by decide, rfl, F.tr F1, R1.trans R, C1, ?_⟩, mes _ rfl (by decide)⟩)
      rw [hv1, e]
      simp
  refine ⟨fun s => ∃ k, k ≤ 8 ∧ s.1 = nI k ∧ fm (fun x _ => x = A 59) h s.2 ∧ fmR h s.2 ∧ (∀ j, j < k → hp_L s.2 (A 59) j = lN 0), fun s => 8 - s.1.toNatClampNeg, ⟨0, by decide, rfl, fm.rf, rfl, fun j hj => by omega⟩, ?_⟩
  rintro ⟨v, s⟩ ⟨k, hk, hv, F, R, hs⟩
  simp only at hv F R hs ⊢
  subst hv
  obtain ⟨q1, q2, q3, q4, q5, q6⟩ := M0.fm (F.wk (fun x j e => Or.inr e)) R
  unfold m_M_raise_3_b
  rw [show (8 : Int32) = nI 8 from rfl, nI_leI (by omega) (by omega)]
  refine ⟨fun c => ?_, fun c => ⟨q1, A 59, q3, q5.1, by rw [q5.2, vp_iff (by omega)]; omega, ?_⟩⟩
  · have : k = 8 := by omega
    subst this
    exact p2 s F R (fun j hj => ⟨Nat.two_pow_pos 32, hs j hj⟩)
  · rw [nI_clamp (by omega)]
    rintro _ rfl _ rfl
    refine ⟨⟨k + 1, by omega, by simp only [nI_1], F.tr (fm.L rfl), R, fun j hj => ?_⟩, ?_⟩
    · simp only
      by_cases hjk : j = k
      · rw [hjk, rL1]; rfl
      · rw [rL3 hjk]; exact hs j (by omega)
    · simp (disch := omega) only [nI_1, nI_clamp]
      omega
