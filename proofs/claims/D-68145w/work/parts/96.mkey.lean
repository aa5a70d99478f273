set_option maxRecDepth 10000
theorem up_row {h : AH} {m j : Nat} {v : Int32} : hp_I (up_I h m j v) m = up (hp_I h m) j v := by
  funext i
  unfold up
  by_cases hi : i = j
  · rw [if_pos hi, hi, rI1]
  · rw [if_neg hi, rI3 hi]
theorem upL_row {h : AH} {m j : Nat} {v : Int64} : hp_L (up_L h m j v) m = upL (hp_L h m) j v := by
  funext i
  unfold upL
  by_cases hi : i = j
  · rw [if_pos hi, hi, rL1]
  · rw [if_neg hi, rL3 hi]
theorem up_up {F : Nat → Int32} {j : Nat} {v w : Int32} : up (up F j v) j w = up F j w := by
  funext i
  unfold up
  split <;> rfl
theorem up_comm {F : Nat → Int32} {j k : Nat} {v w : Int32} (h : j ≠ k) : up (up F j v) k w = up (up F k w) j v := by
  funext i
  unfold up
  split
  · split
    · omega
    · rfl
  · rfl
/-- the model's ints are G, longs T -/
def MG (h h1 : AH) (m x : Nat) (G : Nat → Int32) (T : Nat → Int64) : Prop := MF h h1 m x ∧ hp_I h1 m = G ∧ hp_L h1 m = T ∧ hp_I h1 x = hp_I h x
theorem MG.rf {h : AH} {m x : Nat} : MG h h m x (hp_I h m) (hp_L h m) := ⟨MF.rf, rfl, rfl, rfl⟩
theorem MG.tr {h h1 h2 : AH} {m x : Nat} {G G' : Nat → Int32} {T T' : Nat → Int64} (a : MG h h1 m x G T) (b : MG h1 h2 m x G' T') : MG h h2 m x G' T' := ⟨a.1.tr b.1, b.2.1, b.2.2.1, b.2.2.2.trans a.2.2.2⟩
theorem MG.I {h h1 : AH} {m x j : Nat} {v : Int32} {G : Nat → Int32} {T : Nat → Int64} (a : MG h h1 m x G T) (hx : x ≠ m) (h1' : 20 ≤ j := by decide) (h2 : j ≤ 45 := by decide) (h3 : 22 ≠ j := by decide) : MG h (up_I h1 m j v) m x (up G j v) T := ⟨a.1.I h1' h2 h3, by rw [up_row, a.2.1], a.2.2.1, by rw [rIrow hx]; exact a.2.2.2⟩
theorem MG.L {h h1 : AH} {m x j : Nat} {v : Int64} {G : Nat → Int32} {T : Nat → Int64} (a : MG h h1 m x G T) (h1' : 20 ≤ j := by decide) (h2 : j ≤ 45 := by decide) : MG h (up_L h1 m j v) m x G (upL T j v) := ⟨a.1.L h1' h2, a.2.1, by rw [upL_row, a.2.2.1], a.2.2.2⟩
theorem MG.g {h h1 : AH} {m x : Nat} {G : Nat → Int32} {T : Nat → Int64} (a : MG h h1 m x G T) (j : Nat) : hp_I h1 m j = G j := by rw [a.2.1]
theorem MB.L {h h1 : AH} {m x j : Nat} {v : Int64} (a : MB h h1 m x) (h1' : 20 ≤ j := by decide) (h2 : j ≤ 45 := by decide) : MB h (up_L h1 m j v) m x := ⟨a.1.L h1' h2, a.2⟩
theorem MB.c {h h1 : AH} {m x : Nat} {P : Prop} (a : MB h h1 m x) (c : hp_I h1 m 21 = 0) : P := by rw [a.2] at c; exact absurd c (by decide)
/-! in a bad state each reading goes on to a bad state -/
section BAD
variable {h h1 : AH} {m x : Nat} {e : Int32}
theorem B_open {Q : Int32 → AH → Prop} {t : Int32} (hm : hp_k h m = 13) (hb : MB h h1 m x) (k : ∀ v h2, MB h h2 m x → Q v h2) : m_M_open Q m t e h1 := s_openB (hb.k hm) hb.2 (k _ _ hb.bad)
theorem B_alg {Q : AH → Prop} (hm : hp_k h m = 13) (hb : MB h h1 m x) (k : ∀ h2, MB h h2 m x → Q h2) : m_M_algorithm Q m e h1 := s_MalgB (hb.k hm) hb.2 (k _ hb.bad)
theorem B_name {Q : Int32 → AH → Prop} (hm : hp_k h m = 13) (hb : MB h h1 m x) (k : ∀ v h2, MB h h2 m x → Q v h2) : m_M_name Q m e h1 := s_MnameB (hb.k hm) hb.2 (fun v h2 hb2 => k v h2 (hb2.pre hb.1))
theorem B_time {Q : Int64 → AH → Prop} (hm : hp_k h m = 13) (hb : MB h h1 m x) (k : ∀ v h2, MB h h2 m x → Q v h2) : m_M_time Q m e h1 := s_MtimeB (hb.k hm) hb.2 (fun h2 hb2 => k _ h2 (hb2.pre hb.1))
theorem B_ser {Q : AH → Prop} (hm : hp_k h m = 13) (hb : MB h h1 m x) (k : ∀ h2, MB h h2 m x → Q h2) : m_M_serial Q m e h1 := ⟨hb.k hm, s_openB (hb.k hm) hb.2 (fun _ => ⟨fun c => hb.bad.c c, fun _ => k _ hb.bad⟩)⟩
theorem B_bits {Q : Int32 → AH → Prop} (hm : hp_k h m = 13) (hb : MB h h1 m x) (k : ∀ v h2, MB h h2 m x → Q v h2) : m_M_bits Q m e h1 := ⟨hb.k hm, s_openB (hb.k hm) hb.2 (fun _ => ⟨fun _ => k _ _ hb.bad, fun c => hb.bad.c c⟩)⟩
theorem B_key {Q : AH → Prop} (hm : hp_k h m = 13) (hb : MB h h1 m x) (k : ∀ h2, MB h h2 m x → Q h2) : m_M_key_I Q m e h1 := ⟨hb.k hm, B_open hm hb (fun _ _ hb _ => B_alg hm hb (fun _ hb _ => B_bits hm hb (fun _ _ hb _ => ⟨fun c => hb.c c, fun _ => k _ hb⟩)))⟩
end BAD
/-! serial, bits, key -/
def d_ser (g : Nat → Nat) (a e : Nat) : Option (Nat × Nat) := (d_in g 2 a e).bind fun s => if 1 ≤ s.2 - s.1 ∧ s.2 - s.1 ≤ 20 ∧ g s.1 < 128 ∧ (g s.1 ≠ 0 ∨ (s.2 - s.1 ≠ 1 ∧ 128 ≤ g (s.1 + 1))) then some s else none
theorem s_Mser {Q : AH → Prop} {h : AH} {m st x bs n a e : Nat} {g : Nat → Nat} (K : ME h m st x bs n g) (hat : hp_I h m 20 = nI a) (hbad : hp_I h m 21 = 0) (he : e ≤ n) (ha : a ≤ n) (kB : d_ser g a e = none → ∀ h1, MB h h1 m x → Q h1) (kQ : ∀ s0 s1, d_ser g a e = some (s0, s1) → a ≤ s1 → s1 ≤ e → ∀ h1, MG h h1 m x (up (up (hp_I h m) 32 (nI (s1 - s0))) 20 (nI s1)) (hp_L h m) → Q h1) : m_M_serial Q m (nI e) h := by
  have k5 := K.2.2.2.2.1
  have hg := K.2.2.2.2.2.2.2.1
  have hxm := K.xm
  generalize hp : d_ser g a e = P at kB kQ
  unfold d_ser at hp
  refine ⟨K.1, s_open K hat hbad he ha (by decide) (fun hd h1 hb _ => ⟨fun c => hb.c c, fun _ => kB (hp.symm.trans (by rw [hd]; rfl)) h1 hb⟩) (fun f t hd _ => ?_)⟩
  have l1 := d_in_le hd
  rw [hd] at hp
  simp only [Option.bind_some] at hp
  have b0 : hp_I (up_I h m 20 (nI f)) m 21 = 0 := by rw [rI3 (by decide)]; exact hbad
  refine ⟨fun _ => ?_, fun c => absurd b0 c⟩
  rw [rI1, nI_sub (by omega)]
  rintro h2 hh2
  have Y : MG h h2 m x (up (up (hp_I h m) 20 (nI f)) 32 (nI (t - f))) (hp_L h m) := by rw [hh2]; exact (MG.rf.I hxm).I hxm
  clear hh2
  have b2 : hp_I h2 m 21 = 0 := by rw [Y.g]; exact hbad
  have a2 : hp_I h2 m 20 = nI f := by rw [Y.g]; rfl
  have s2 : hp_I h2 m 32 = nI (t - f) := by rw [Y.g]; rfl
  have K2 := K.mf Y.1
  rw [s2]
  simp (disch := omega) only [lit_nI, nI_ltI]
  have neg : ¬ (1 ≤ t - f ∧ t - f ≤ 20) → m_M_serial_47 Q m (nI t) m h2 := fun hn => ⟨K2.1, s_need0 K2.1 (fun _ => ⟨K2.1, fun c => (MB.of Y.1).c c, fun _ => kB (hp.symm.trans (by rw [if_neg (fun q => hn ⟨q.1, q.2.1⟩)])) _ (MB.of Y.1)⟩)⟩
  refine ⟨fun c1 => neg (by omega), fun c1 => ⟨fun c2 => neg (by omega), fun c2 => ⟨K2.1, s_need1 (fun _ => ⟨K2.1, fun _ => ?_, fun c => absurd b2 c⟩)⟩⟩⟩
  rw [a2]
  have hgf := hg f (by omega)
  have bd : ¬ (g f < 128 ∧ (g f ≠ 0 ∨ (t - f ≠ 1 ∧ 128 ≤ g (f + 1)))) → m_M_serial_107 Q m (nI t) m h2 := fun hn => ⟨K2.1, s_need0 K2.1 (fun _ => ⟨K2.1, by rintro _ rfl; exact kB (hp.symm.trans (by rw [if_neg (fun q => hn q.2.2)])) _ (MB.of Y.1).at⟩)⟩
  have gd : (g f < 128 ∧ (g f ≠ 0 ∨ (t - f ≠ 1 ∧ 128 ≤ g (f + 1)))) → m_M_serial_103 Q m (nI t) m h2 := fun hy => ⟨K2.1, s_need1 (fun _ => ⟨K2.1, by
    rintro _ rfl
    have Y2 := Y.I hxm (j := 20) (v := nI t)
    rw [up_comm (F := up (hp_I h m) 20 (nI f)) (by decide), up_up] at Y2
    refine kQ f t (hp.symm.trans (by rw [if_pos ⟨by omega, by omega, hy⟩])) (by omega) (by omega) _ ?_
    rw [up_comm (by decide)]
    exact Y2⟩)⟩
  refine s_here K2 (by omega) (fun _ => ?_)
  rw [show (128 : Int32) = nI 128 from rfl, show (0 : Int32) = nI 0 from rfl, nI_leI (by omega) (by omega), nI_ltI (by omega) (by omega)]
  refine ⟨fun q1 => bd (by omega), fun q1 => ⟨fun q2 => gd (by omega), fun q2 => ?_⟩⟩
  rw [s2, show (1 : Int32) = nI 1 from rfl, nI_leI (by omega) (by omega), a2, nI_add]
  refine ⟨fun q3 => bd (by omega), fun q3 => s_here K2 (by omega) (fun _ => ?_)⟩
  have hgf1 := hg (f + 1) (by omega)
  rw [show (127 : Int32) = nI 127 from rfl, nI_leI (by omega) (by omega)]
  exact ⟨fun q4 => bd (by omega), fun q4 => gd (by omega)⟩
def d_bits (g : Nat → Nat) (a e : Nat) : Option (Nat × Nat) := (d_in g 3 a e).bind fun v => if v.1 ≠ v.2 ∧ g v.1 = 0 then some v else none
theorem s_Mbits {Q : Int32 → AH → Prop} {h : AH} {m st x bs n a e : Nat} {g : Nat → Nat} (K : ME h m st x bs n g) (hat : hp_I h m 20 = nI a) (hbad : hp_I h m 21 = 0) (he : e ≤ n) (ha : a ≤ n) (kB : d_bits g a e = none → ∀ v h1, MB h h1 m x → Q v h1) (kQ : ∀ f t, d_bits g a e = some (f, t) → a + 2 ≤ f → f < t → t ≤ e → Q (nI t) (up_I h m 20 (nI f))) : m_M_bits Q m (nI e) h := by
  have k5 := K.2.2.2.2.1
  have hg := K.2.2.2.2.2.2.2.1
  generalize hp : d_bits g a e = P at kB kQ
  unfold d_bits at hp
  refine ⟨K.1, s_open K hat hbad he ha (by decide) (fun hd h1 hb _ => ⟨fun _ => kB (hp.symm.trans (by rw [hd]; rfl)) _ h1 hb, fun c => hb.c c⟩) (fun f t hd _ => ?_)⟩
  have l1 := d_in_le hd
  rw [hd] at hp
  simp only [Option.bind_some] at hp
  have X1 : MF h (up_I h m 20 (nI f)) m x := MF.rf.I
  have b1 : hp_I (up_I h m 20 (nI f)) m 21 = 0 := by rw [rI3 (by decide)]; exact hbad
  have a1 : hp_I (up_I h m 20 (nI f)) m 20 = nI f := rI1
  have kQ' := kQ f t
  generalize up_I h m 20 (nI f) = h1 at X1 b1 a1 kQ' ⊢
  have K1 := K.mf X1
  refine ⟨fun c => absurd b1 c, fun _ => ?_⟩
  have neg : ¬ (f ≠ t ∧ g f = 0) → m_M_bits_38 Q (nI t) m h1 := fun hn => ⟨K1.1, s_need0 K1.1 (fun _ => kB (hp.symm.trans (by rw [if_neg hn])) _ _ (MB.of X1))⟩
  rw [a1, nI_leI (by omega) (by omega)]
  refine ⟨fun c => neg (by omega), fun c => s_here K1 (by omega) (fun _ => ?_)⟩
  have hgf := hg f (by omega)
  rw [show (0 : Int32) = nI 0 from rfl, nI_eq (by omega) (by omega)]
  exact ⟨fun c2 => neg (fun q => c2 q.2), fun c2 => ⟨K1.1, s_need1 (fun _ => kQ' (hp.symm.trans (by rw [if_pos ⟨by omega, c2⟩])) (by omega) (by omega) (by omega))⟩⟩
def d_key (g : Nat → Nat) (a e : Nat) : Option (Nat × Nat) := (d_in g 48 a e).bind fun i => (d_alg g i.1 i.2).bind fun k => (d_bits g k i.2).bind fun v => if v.2 = i.2 ∧ v.2 - (v.1 + 1) = 32 then some v else none
theorem s_Mkey {Q : AH → Prop} {h : AH} {m st x bs n a e : Nat} {g : Nat → Nat} (K : ME h m st x bs n g) (hat : hp_I h m 20 = nI a) (hbad : hp_I h m 21 = 0) (he : e ≤ n) (ha : a ≤ n) (kB : d_key g a e = none → ∀ h1, MB h h1 m x → Q h1) (kQ : ∀ f t, d_key g a e = some (f, t) → a ≤ t → t ≤ e → ∀ h1, MG h h1 m x (up (up (hp_I h m) 41 (nI (f + 1))) 20 (nI t)) (hp_L h m) → Q h1) : m_M_key_I Q m (nI e) h := by
  have k5 := K.2.2.2.2.1
  have hg := K.2.2.2.2.2.2.2.1
  have hxm := K.xm
  generalize hp : d_key g a e = P at kB kQ
  unfold d_key at hp
  refine ⟨K.1, s_open K hat hbad he ha (by decide) (fun hd h1 hb _ => ?_) (fun f t hd _ => ?_)⟩
  · have q := kB (hp.symm.trans (by rw [hd]; rfl))
    exact B_alg K.1 hb (fun _ hb _ => B_bits K.1 hb (fun _ _ hb _ => ⟨fun c => hb.c c, fun _ => q _ hb⟩))
  have l1 := d_in_le hd
  rw [hd] at hp
  simp only [Option.bind_some] at hp
  have Y1 : MG h (up_I h m 20 (nI f)) m x (up (hp_I h m) 20 (nI f)) (hp_L h m) := MG.rf.I hxm
  generalize up_I h m 20 (nI f) = h1 at Y1 ⊢
  have K1 := K.mf Y1.1
  have a1 : hp_I h1 m 20 = nI f := by rw [Y1.g]; rfl
  have b1 : hp_I h1 m 21 = 0 := by rw [Y1.g]; exact hbad
  refine s_Malg K1 a1 b1 (by omega) (by omega) (fun hd h2 hb _ => ?_) (fun t2 hd _ => ?_)
  · have q := kB (hp.symm.trans (by rw [hd]; rfl))
    exact B_bits K.1 (hb.pre Y1.1) (fun _ _ hb _ => ⟨fun c => hb.c c, fun _ => q _ hb⟩)
  have l2 := d_alg_le hd
  rw [hd] at hp
  simp only [Option.bind_some] at hp
  have Y2 := Y1.I hxm (j := 20) (v := nI t2)
  rw [up_up] at Y2
  generalize up_I h1 m 20 (nI t2) = h2 at Y2 ⊢
  have K2 := K.mf Y2.1
  have a2 : hp_I h2 m 20 = nI t2 := by rw [Y2.g]; rfl
  have b2 : hp_I h2 m 21 = 0 := by rw [Y2.g]; exact hbad
  refine s_Mbits K2 a2 b2 (by omega) (by omega) (fun hd v h3 hb _ => ⟨fun c => hb.c c, fun _ => kB (hp.symm.trans (by rw [hd]; rfl)) _ (hb.pre Y2.1)⟩) (fun v0 v1 hd l3 l4 l5 _ => ?_)
  rw [hd] at hp
  simp only [Option.bind_some] at hp
  have Y3 := Y2.I hxm (j := 20) (v := nI v0)
  rw [up_up] at Y3
  generalize up_I h2 m 20 (nI v0) = h3 at Y3 ⊢
  have K3 := K.mf Y3.1
  have a3 : hp_I h3 m 20 = nI v0 := by rw [Y3.g]; rfl
  have b3 : hp_I h3 m 21 = 0 := by rw [Y3.g]; exact hbad
  refine ⟨fun _ => ?_, fun c => absurd b3 c⟩
  have neg : ¬ (v1 = t ∧ v1 - (v0 + 1) = 32) → m_M_key_I_48 Q m (nI t) m h3 := fun hn => ⟨K3.1, s_need0 K3.1 (fun _ => ⟨K3.1, by rintro _ rfl _ rfl; exact kB (hp.symm.trans (by rw [if_neg hn])) _ ((MB.of Y3.1).set.at)⟩)⟩
  rw [nI_eq (by omega) (by omega), a3, nI_sub (by omega), show (33 : Int32) = nI 33 from rfl, nI_eq (by omega) (by omega)]
  refine ⟨fun c => neg (fun q => c q.1), fun c => ⟨fun c2 => neg (by omega), fun c2 => ⟨K3.1, s_need1 (fun _ => ⟨K3.1, ?_⟩)⟩⟩⟩
  subst c
  rw [a3, nI_1]
  rintro _ rfl _ rfl
  refine kQ v0 v1 (hp.symm.trans (by rw [if_pos ⟨rfl, by omega⟩])) (by omega) (by omega) _ ?_
  have Y4 := (Y3.I hxm (j := 41) (v := nI (v0 + 1))).I hxm (j := 20) (v := nI v1)
  rw [up_comm (F := up (hp_I h m) 20 (nI v0)) (by decide), up_up, up_comm (by decide)] at Y4
  exact Y4
