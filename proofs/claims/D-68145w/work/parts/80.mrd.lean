set_option maxRecDepth 10000
/-! the model's reading: cell m, store st (from bs on n bytes, g), extensions x -/
def ME (h : AH) (m st x bs n : Nat) (g : Nat → Nat) : Prop := hp_k h m = 13 ∧ hp_R h m 7 = some st ∧ hp_k h st = 101 ∧ hp_n h st = 262144 ∧ bs + n ≤ 262144 ∧ hp_I h m 22 = nI bs ∧ (∀ i, i < n → ub (hp_I h st (bs + i)) = g i) ∧ Gb g n ∧ hp_R h m 44 = some x ∧ hp_k h x = 102 ∧ hp_n h x = 10000
def Sm (m x : Nat) : Nat → Nat → Prop := fun a j => (a = m ∧ 20 ≤ j ∧ j ≤ 45) ∨ a = x
def MF (h h1 : AH) (m x : Nat) : Prop := fm (Sm m x) h h1 ∧ hp_R h1 m = hp_R h m ∧ hp_I h1 m 22 = hp_I h m 22
theorem MF.rf {h : AH} {m x : Nat} : MF h h m x := ⟨fm.rf, rfl, rfl⟩
theorem MF.tr {h h1 h2 : AH} {m x : Nat} (a : MF h h1 m x) (b : MF h1 h2 m x) : MF h h2 m x := ⟨a.1.tr b.1, b.2.1.trans a.2.1, b.2.2.trans a.2.2⟩
theorem MF.I {h h1 : AH} {m x j : Nat} {v : Int32} (a : MF h h1 m x) (h1' : 20 ≤ j := by decide) (h2 : j ≤ 45 := by decide) (h3 : 22 ≠ j := by decide) : MF h (up_I h1 m j v) m x := a.tr ⟨fm.I (Or.inl ⟨rfl, h1', h2⟩), rfl, by rw [rI3 h3]⟩
theorem MF.L {h h1 : AH} {m x j : Nat} {v : Int64} (a : MF h h1 m x) (h1' : 20 ≤ j := by decide) (h2 : j ≤ 45 := by decide) : MF h (up_L h1 m j v) m x := a.tr ⟨fm.L (Or.inl ⟨rfl, h1', h2⟩), rfl, rfl⟩
theorem ME.mf {h h1 : AH} {m st x bs n : Nat} {g : Nat → Nat} (K : ME h m st x bs n g) (X : MF h h1 m x) : ME h1 m st x bs n g := by
  obtain ⟨k1, k2, k3, k4, k5, k6, k7, k8, k9, k10, k11⟩ := K
  obtain ⟨⟨f1, f2, f3, f4, f5, f6, f7⟩, x2, x3⟩ := X
  have nb : ∀ i, ¬ Sm m x st i := fun i q => by
    rcases q with ⟨rfl, -⟩ | rfl
    · omega
    · omega
  exact ⟨by rw [f2]; exact k1, by rw [x2]; exact k2, by rw [f2]; exact k3, by rw [f3]; exact k4, k5, by rw [x3]; exact k6, fun i hi => by rw [(f1 st _ (nb _)).1]; exact k7 i hi, k8, by rw [x2]; exact k9, by rw [f2]; exact k10, by rw [f3]; exact k11⟩
theorem s_here {Q : Int32 → AH → Prop} {h : AH} {m st x bs n i : Nat} {g : Nat → Nat} (K : ME h m st x bs n g) (hi : i < n) (k : Q (nI (g i)) h) : m_M_here Q m (nI i) h := by
  obtain ⟨k1, k2, k3, k4, k5, k6, k7, k8, k9, k10, k11⟩ := K
  unfold m_M_here
  refine ⟨k1, st, k2, Or.inl k3, ?_⟩
  rw [k6]
  simp (disch := omega) only [nI_add, nI_clamp, vp_iff]
  refine ⟨by omega, fun h8 => ?_⟩
  rw [by8_and h8, k7 i hi]
  exact k
theorem s_need1 {Q : AH → Prop} {h : AH} {m : Nat} (k : Q h) : m_M_need Q m 1 h := ⟨fun _ => k, fun c => absurd c (by decide)⟩
theorem s_need0 {Q : AH → Prop} {h : AH} {m : Nat} (hm : hp_k h m = 13) (k : Q (up_I h m 21 1)) : m_M_need Q m 0 h := ⟨fun c => absurd rfl c, fun _ => ⟨hm, by rintro _ rfl; exact k⟩⟩
theorem s_wrong {Q : Int32 → AH → Prop} {h : AH} {m : Nat} (hm : hp_k h m = 13) (k : Q (-1) (up_I h m 21 1)) : m_M_wrong Q m h := ⟨hm, by rintro _ rfl; exact k⟩
/-- bad -/
def MB (h h1 : AH) (m x : Nat) : Prop := MF h h1 m x ∧ hp_I h1 m 21 = 1
theorem MB.pre {h h1 h2 : AH} {m x : Nat} (a : MF h h1 m x) (b : MB h1 h2 m x) : MB h h2 m x := ⟨a.tr b.1, b.2⟩
theorem MB.of {h h1 : AH} {m x : Nat} (a : MF h h1 m x) : MB h (up_I h1 m 21 1) m x := ⟨a.I, rI1⟩
theorem s_openB {Q : Int32 → AH → Prop} {h : AH} {m : Nat} {t e : Int32} (hm : hp_k h m = 13) (hb : hp_I h m 21 = 1) (k : Q (-1) (up_I h m 21 1)) : m_M_open Q m t e h := by
  unfold m_M_open m_M_open_33
  refine ⟨hm, fun _ => ⟨hm, s_wrong hm (fun _ => k)⟩, fun c => ?_⟩
  rw [hb] at c
  exact absurd c (by decide)
theorem il_step : ∀ (v u : Nat), v < 2 ^ 23 → u < 256 → ((nI v <<< ((8 : Int32) &&& 31)) ||| nI u) = nI (v * 256 + u) := by
  intro v u hv hu
  apply Int32.toBitVec_inj.mp
  have e1 : (nI v <<< ((8 : Int32) &&& 31)).toBitVec = BitVec.ofNat 32 (v * 256) := by
    show (BitVec.ofNat 32 v) <<< _ = _
    apply BitVec.eq_of_toNat_eq
    simp [BitVec.toNat_shiftLeft, BitVec.toNat_ofNat, Nat.shiftLeft_eq]
  show (nI v <<< ((8 : Int32) &&& 31)).toBitVec ||| BitVec.ofNat 32 u = BitVec.ofNat 32 (v * 256 + u)
  rw [e1]
  apply BitVec.eq_of_toNat_eq
  simp only [BitVec.toNat_or, BitVec.toNat_ofNat]
  rw [Nat.mod_eq_of_lt (by omega), Nat.mod_eq_of_lt (by omega), Nat.mod_eq_of_lt (by omega)]
  have := Nat.shiftLeft_add_eq_or_of_lt (i := 8) (b := u) hu v
  rw [Nat.shiftLeft_eq] at this
  exact this.symm
theorem s_open164 {Q : Int32 → AH → Prop} {h : AH} {m st x bs n a e v k : Nat} {g : Nat → Nat} (K : ME h m st x bs n g) (hat : hp_I h m 20 = nI a) (he : e ≤ n) (ha : a + 2 + k ≤ e) (hv : v < 2 ^ 25) (kB : ¬ a + 2 + k + v ≤ e → ∀ h1, MB h h1 m x → Q (-1) h1) (kQ : a + 2 + k + v ≤ e → Q (nI (a + 2 + k + v)) (up_I h m 20 (nI (a + 2 + k)))) : m_M_open_164 Q m (nI e) (nI v) (nI k) h := by
  have k5 := K.2.2.2.2.1
  unfold m_M_open_164 m_M_open_202
  refine ⟨K.1, ?_⟩
  rw [hat]
  simp (disch := omega) only [lit_nI, nI_add]
  rintro _ rfl
  simp (disch := omega) only [rI1, nI_sub, nI_leI, nI_add]
  rw [show a + (2 + k) = a + 2 + k by omega]
  exact ⟨fun c => kQ (by omega), fun c => s_wrong K.1 (fun _ => kB (by omega) _ (MB.of (MF.rf.I)))⟩
/-- the head of a part of any tag -/
def d_any (g : Nat → Nat) (a e : Nat) : Option (Nat × Nat) := if a + 2 ≤ e then d_hd g a e else none
theorem s_open38 {Q : Int32 → AH → Prop} {h : AH} {m st x bs n a e : Nat} {g : Nat → Nat} (K : ME h m st x bs n g) (hat : hp_I h m 20 = nI a) (he : e ≤ n) (ha : a + 2 ≤ e) (kB : d_hd g a e = none → ∀ h1, MB h h1 m x → Q (-1) h1) (kQ : ∀ a' e', d_hd g a e = some (a', e') → Q (nI e') (up_I h m 20 (nI a'))) : m_M_open_38 Q m (nI e) h := by
  have k5 := K.2.2.2.2.1
  have hg := K.2.2.2.2.2.2.2.1
  have hga := hg (a + 1) (by omega)
  unfold m_M_open_38 m_M_open_93
  refine ⟨K.1, ?_⟩
  rw [hat, show (1 : Int32) = nI 1 from rfl, nI_add]
  refine s_here K (by omega) (fun _ => ?_)
  simp (disch := omega) only [lit_nI, nI_leI]
  have wr : d_hd g a e = none → hp_k h m = 13 ∧ m_M_wrong (fun v1 h1 => fx_ext h h1 → Q v1 h1) m h := fun hd => ⟨K.1, s_wrong K.1 (fun _ => kB hd _ (MB.of MF.rf))⟩
  refine ⟨fun c1 => ?_, fun c1 => ?_⟩
  · refine s_open164 K hat he (by omega) (by omega) (fun c2 h1 hb => kB (by unfold d_hd; rw [if_pos (by omega), if_neg (by omega)]) h1 hb) (fun c2 => kQ _ _ (by unfold d_hd; rw [if_pos (by omega), if_pos (by omega)]))
  · rw [nI_sub (by omega)]
    rintro _ rfl
    rw [hat]
    simp (disch := omega) only [nI_ltI, nI_leI, nI_add]
    refine ⟨fun c2 => wr (by unfold d_hd; rw [if_neg (by omega), if_neg (by omega)]), fun c2 => ⟨fun c3 => wr (by unfold d_hd; rw [if_neg (by omega), if_neg (by omega)]), fun c3 => ⟨fun c4 => ?_, fun c4 => wr (by unfold d_hd; rw [if_neg (by omega), if_neg (by omega)])⟩⟩⟩
    unfold m_M_open_104
    refine ⟨fun s => ∃ i, i ≤ g (a + 1) - 128 ∧ s = (nI (d_num g (a + 2) i), nI i, h) ∧ d_num g (a + 2) i < 256 ^ i, fun s => g (a + 1) - 128 - s.2.1.toNatClampNeg, ⟨0, by omega, rfl, by simp [d_num]⟩, ?_⟩
    rintro _ ⟨i, hi, rfl, hd⟩
    have hpw : 256 ^ i ≤ 256 ^ 3 := Nat.pow_le_pow_right (by decide) (by omega)
    unfold m_M_open_104_b m_M_open_159
    rw [hat]
    simp (disch := omega) only [lit_nI, nI_leI, nI_add]
    refine ⟨fun c5 => ⟨K.1, s_here K (by omega) (fun _ => ?_)⟩, fun c5 => ⟨K.1, s_here K (by omega) (fun _ => ?_)⟩⟩
    · have : i = g (a + 1) - 128 := by omega
      subst this
      have hg2 := hg (a + 2) (by omega)
      simp (disch := omega) only [nI_eq, nI_leI]
      refine ⟨fun c6 => wr (by unfold d_hd; rw [if_neg (by omega), if_neg (by omega)]), fun c6 => ⟨fun c7 => ?_, fun c7 => wr (by unfold d_hd; rw [if_neg (by omega), if_neg (by omega)])⟩⟩
      exact s_open164 K hat he (by omega) (by omega) (fun c8 h1 hb => kB (by unfold d_hd; rw [if_neg (by omega), if_neg (by omega)]) h1 hb) (fun c8 => kQ _ _ (by unfold d_hd; rw [if_neg (by omega), if_pos (by omega)]))
    · rintro _ rfl _ rfl
      have hg2 := hg (a + 2 + i) (by omega)
      have hpw2 : 256 ^ i ≤ 256 ^ 2 := Nat.pow_le_pow_right (by decide) (by omega)
      refine ⟨⟨i + 1, by omega, ?_, ?_⟩, ?_⟩
      · rw [show nI 8 = (8 : Int32) from rfl, show nI 31 = (31 : Int32) from rfl, il_step _ _ (by omega) hg2]
        rfl
      · simp only [d_num, Nat.pow_succ]
        omega
      · simp (disch := omega) only [nI_clamp]
        omega
theorem s_open {Q : Int32 → AH → Prop} {h : AH} {m st x bs n a e tag : Nat} {g : Nat → Nat} (K : ME h m st x bs n g) (hat : hp_I h m 20 = nI a) (hbad : hp_I h m 21 = 0) (he : e ≤ n) (ha : a ≤ n) (ht : tag < 256) (kB : d_in g tag a e = none → ∀ h1, MB h h1 m x → Q (-1) h1) (kQ : ∀ a' e', d_in g tag a e = some (a', e') → Q (nI e') (up_I h m 20 (nI a'))) : m_M_open Q m (nI tag) (nI e) h := by
  have k5 := K.2.2.2.2.1
  have hg := K.2.2.2.2.2.2.2.1
  unfold m_M_open m_M_open_33
  rw [hbad, hat]
  have wr : d_in g tag a e = none → hp_k h m = 13 ∧ m_M_wrong (fun v1 h1 => fx_ext h h1 → Q v1 h1) m h := fun hd => ⟨K.1, s_wrong K.1 (fun _ => kB hd _ (MB.of MF.rf))⟩
  simp (disch := omega) only [lit_nI, nI_ltI, nI_add]
  refine ⟨K.1, fun c => absurd trivial c, fun _ => ⟨fun c1 => wr (by unfold d_in; rw [if_neg (by omega)]), fun c1 => ⟨fun c2 => by omega, fun _ => s_here K (by omega) (fun _ => ?_)⟩⟩⟩
  have hga := hg a (by omega)
  rw [nI_eq (by omega) (by omega)]
  refine ⟨fun c3 => ?_, fun c3 => wr (by unfold d_in; rw [if_neg (by omega)])⟩
  have hd : d_in g tag a e = d_hd g a e := by unfold d_in; rw [if_pos ⟨by omega, c3⟩]
  rw [hd] at kB kQ
  exact s_open38 K hat he (by omega) kB kQ
theorem s_openA {Q : Int32 → AH → Prop} {h : AH} {m st x bs n a e : Nat} {g : Nat → Nat} (K : ME h m st x bs n g) (hat : hp_I h m 20 = nI a) (hbad : hp_I h m 21 = 0) (he : e ≤ n) (ha : a ≤ n) (kB : d_any g a e = none → ∀ h1, MB h h1 m x → Q (-1) h1) (kQ : ∀ a' e', d_any g a e = some (a', e') → Q (nI e') (up_I h m 20 (nI a'))) : m_M_open Q m (-1) (nI e) h := by
  have k5 := K.2.2.2.2.1
  unfold m_M_open m_M_open_33
  rw [hbad, hat]
  have wr : d_any g a e = none → hp_k h m = 13 ∧ m_M_wrong (fun v1 h1 => fx_ext h h1 → Q v1 h1) m h := fun hd => ⟨K.1, s_wrong K.1 (fun _ => kB hd _ (MB.of MF.rf))⟩
  refine ⟨K.1, fun c => absurd rfl c, fun _ => ⟨fun c1 => ?_, fun c1 => ⟨fun c2 => ?_, fun c2 => absurd (by decide) c2⟩⟩⟩
  · simp (disch := omega) only [lit_nI, nI_ltI, nI_add] at c1
    exact wr (by unfold d_any; rw [if_neg (by omega)])
  · simp (disch := omega) only [lit_nI, nI_ltI, nI_add] at c1
    have hd : d_any g a e = d_hd g a e := by unfold d_any; rw [if_pos (by omega)]
    rw [hd] at kB kQ
    exact s_open38 K hat he (by omega) kB kQ
