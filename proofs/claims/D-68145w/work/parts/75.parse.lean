set_option maxRecDepth 10000
def d_ins (g : Nat → Nat) (a x : Nat) (F : Nat → Int32) (L : Nat → Int64) : Option (Nat × (Nat → Int32) × (Nat → Int64)) := (d_in g 48 a x).bind fun p => (d_in g 160 p.1 p.2).bind fun w => (d_in g 2 w.1 w.2).bind fun v => if v.2 - v.1 = 1 ∧ g v.1 = 2 ∧ v.2 = w.2 then
  (d_in g 2 v.2 p.2).bind fun s => if 1 ≤ s.2 - s.1 ∧ s.2 - s.1 ≤ 20 ∧ g s.1 < 128 ∧ (g s.1 ≠ 0 ∨ (s.2 - s.1 ≠ 1 ∧ 128 ≤ g (s.1 + 1))) then d_in9 g s.2 p.2 (up (up F 4 (nI p.2)) 20 (nI (s.2 - s.1))) L else none else none
theorem s_ins {Q : AH → Prop} {E : Nat → AH → Prop} {h : AH} {c r b n a x : Nat} {g : Nat → Nat} (K : CE h c r b n a g) (m : rm h 1 6) (he : x ≤ n) (ha : a ≤ n) (kE : d_ins g a x (hp_I h c) (hp_L h c) = none → ∀ q h1, bx 14 (Sc c r) h h1 q → E q h1) (kQ : ∀ z F' L', d_ins g a x (hp_I h c) (hp_L h c) = some (z, F', L') → ∀ h1, CS h h1 c r z F' L' → Q h1) : m_Cert_inside Q E c (nI x) h := by
  have hg := K.2.2.2.2.2.2
  have hne := K.ne
  have hn6 := K.2.2.2.2.1.2.2.2.2.2.1
  have X0 : CS h h c r a (hp_I h c) (hp_L h c) := CS.rf K.2.2.2.2.1.2.2.1
  generalize hp : d_ins g a x (hp_I h c) (hp_L h c) = P at kE kQ
  unfold d_ins at hp
  unfold m_Cert_inside m_Cert_inside_69 m_Cert_inside_185
  refine ⟨K.1, r, K.2.1, K.2.2.2.2.1.1, s_enter K.2.2.2.2.1 hg he ha (by decide) m (fun hd q hx hb _ => kE (hp.symm.trans (by rw [hd]; rfl)) q hx (hb.wk Sr_c)) (fun p0 p1 hd _ => ?_)⟩
  have l1 := d_in_le hd
  rw [hd] at hp
  simp only [Option.bind_some] at hp
  rintro _ rfl
  have X1 := (X0.at (a' := p0) hne).I (j := 4) (v := nI p1) hne
  generalize up_I (up_I h r 1 (nI p0)) c 4 (nI p1) = h1 at X1 ⊢
  have K1 := K.cs X1
  refine ⟨r, K1.2.1, K1.2.2.2.2.1.1, s_enter K1.2.2.2.2.1 hg (by omega) (by omega) (by decide) (m.fm X1.1) (fun hd q hx hb _ => kE (hp.symm.trans (by rw [hd]; rfl)) q hx ((hb.wk Sr_c).pre X1.1)) (fun w0 w1 hd _ => ?_)⟩
  have l2 := d_in_le hd
  rw [hd] at hp
  simp only [Option.bind_some] at hp
  have X2 := X1.at (a' := w0) hne
  generalize up_I h1 r 1 (nI w0) = h2 at X2 ⊢
  have K2 := K.cs X2
  refine ⟨r, K2.2.1, K2.2.2.2.2.1.1, s_enter K2.2.2.2.2.1 hg (by omega) (by omega) (by decide) (m.fm X2.1) (fun hd q hx hb _ => kE (hp.symm.trans (by rw [hd]; rfl)) q hx ((hb.wk Sr_c).pre X2.1)) (fun v0 v1 hd _ => ?_)⟩
  have l3 := d_in_le hd
  rw [hd] at hp
  simp only [Option.bind_some] at hp
  have X3 := X2.at (a' := v0) hne
  generalize up_I h2 r 1 (nI v0) = h3 at X3 ⊢
  have K3 := K.cs X3
  have bad3 : P = none → m_Rd_bad (fun q1 hx => fx_ext h3 hx → E q1 hx) h3 := fun hd => s_bad (Sc c r) (m.fm X3.1) (fun q hx hb _ => kE hd q hx (hb.pre X3.1))
  obtain ⟨t1, t2, t3, t4, t5, t6, t7⟩ := id K3.2.2.2.2.1
  refine ⟨r, K3.2.1, t1, ?_⟩
  rw [t3]
  rw [nI_sub (by omega), show (1 : Int32) = nI 1 from rfl, nI_eq (by omega) (by omega), nI_clamp (by omega)]
  refine ⟨fun c1 => bad3 (hp.symm.trans (by rw [if_neg (fun q => c1 q.1)])), fun c1 => ⟨b, K3.2.2.1, t4, (vp_iff (by omega)).mpr (by omega), fun h8 => ?_⟩⟩
  rw [show (2 : Int32) = nI 2 from rfl, b_eq h8 (by decide), t7 _ (by omega)]
  refine ⟨fun c2 => ?_, fun c2 => bad3 (hp.symm.trans (by rw [if_neg (fun q => c2 q.2.1)]))⟩
  rintro _ rfl
  have X4 := X3.at (a' := v1) hne
  generalize up_I h3 r 1 (nI v1) = h4 at X4 ⊢
  have K4 := K.cs X4
  refine s_leave K4.2.2.2.2.1 (by omega) (by omega) (m.fm X4.1) (fun hn q hx hb _ => kE (hp.symm.trans (by rw [if_neg (fun q => hn q.2.2)])) q hx ((hb.wk Sr_c).pre X4.1)) (fun e4 _ => ?_)
  rw [if_pos ⟨c1, c2, e4⟩] at hp
  refine ⟨r, K4.2.1, K4.2.2.2.2.1.1, s_enter K4.2.2.2.2.1 hg (by omega) (by omega) (by decide) (m.fm X4.1) (fun hd q hx hb _ => kE (hp.symm.trans (by rw [hd]; rfl)) q hx ((hb.wk Sr_c).pre X4.1)) (fun s0 s1 hd _ => ?_)⟩
  have l5 := d_in_le hd
  rw [hd] at hp
  simp only [Option.bind_some] at hp
  have X5 := X4.at (a' := s0) hne
  generalize up_I h4 r 1 (nI s0) = h5 at X5 ⊢
  have K5 := K.cs X5
  refine ⟨r, K5.2.1, K5.2.2.2.2.1.1, ?_⟩
  rw [X5.2.1, nI_sub (by omega)]
  rintro _ rfl _ rfl
  have X6 := X5.I (j := 20) (v := nI (s1 - s0)) hne
  generalize up_I h5 c 20 (nI (s1 - s0)) = h6 at X6 ⊢
  have K6 := K.cs X6
  have bad6 : P = none → m_Rd_bad (fun q1 hx => fx_ext h6 hx → E q1 hx) h6 := fun hd => s_bad (Sc c r) (m.fm X6.1) (fun q hx hb _ => kE hd q hx (hb.pre X6.1))
  obtain ⟨u1, u2, u3, u4, u5, u6, u7⟩ := id K6.2.2.2.2.1
  rw [u3]
  have fin : (1 ≤ s1 - s0 ∧ s1 - s0 ≤ 20 ∧ g s0 < 128 ∧ (g s0 ≠ 0 ∨ (s1 - s0 ≠ 1 ∧ 128 ≤ g (s0 + 1)))) → m_Cert_inside_189 Q E c (nI p1) (nI s1) h6 := fun hc => by
    rw [if_pos hc] at hp
    have f6 := X6.2.2.1
    have g6 := X6.2.2.2.1
    refine s_in9 K6 (m.fm X6.1) (by omega) (by omega) (fun hn q hx hb => kE (hp.symm.trans (by rw [← f6, ← g6, hn])) q hx (hb.pre X6.1)) (fun z F' L' hr h7 Y => ?_)
    rw [f6, g6] at hr
    exact kQ z F' L' (hp.symm.trans hr) h7 (X6.tr Y)
  simp (disch := omega) only [lit_nI, nI_add, nI_ltI, nI_eq, nI_clamp, vp_iff]
  refine ⟨fun c3 => bad6 (hp.symm.trans (by rw [if_neg (by omega)])), fun c3 => ⟨fun c4 => bad6 (hp.symm.trans (by rw [if_neg (by omega)])), fun c4 => ⟨b, K6.2.2.1, u4, by omega, fun h9 => ?_⟩⟩⟩
  rw [show nI 0 = (0 : Int32) from rfl, b_lt0 h9, show (0 : Int32) = nI 0 from rfl, b_eq h9 (by decide), u7 _ (by omega)]
  refine ⟨fun c5 => bad6 (hp.symm.trans (by rw [if_neg (by omega)])), fun c5 => ⟨by omega, fun _ => ⟨fun c6 => fin (by omega), fun c6 => ⟨fun c7 => bad6 (hp.symm.trans (by rw [if_neg (by omega)])), fun c7 => ⟨by omega, fun h10 => ?_⟩⟩⟩⟩⟩
  rw [show nI 0 = (0 : Int32) from rfl, b_lt0 h10, u7 _ (by omega)]
  exact ⟨fun c8 => fin (by omega), fun c8 => bad6 (hp.symm.trans (by rw [if_neg (by omega)]))⟩
def d_whole (g : Nat → Nat) (a e : Nat) (F : Nat → Int32) (L : Nat → Int64) : Option ((Nat → Int32) × (Nat → Int64)) := (d_in g 48 a e).bind fun t => (d_ins g t.1 t.2 (up F 3 (nI t.1)) L).bind fun x => (d_alg g x.1 t.2).bind fun k => (d_in g 3 k t.2).bind fun v => if v.1 ≠ v.2 ∧ g v.1 = 0 ∧ v.2 = t.2 ∧ v.2 = e ∧ x.2.1 28 = 0 then some (up (up (up x.2.1 14 0) 11 (nI (v.1 + 1))) 12 (nI v.2), x.2.2) else none
theorem d_in9_e {g : Nat → Nat} {a e z : Nat} {F F' : Nat → Int32} {L L' : Nat → Int64} (h : d_in9 g a e F L = some (z, F', L')) : z = e := by
  unfold d_in9 at h
  simp only [Option.bind_eq_some_iff] at h
  obtain ⟨a1, -, q, -, t, -, u, -, w, -, h⟩ := h
  split at h
  · simp only [Option.bind_eq_some_iff] at h
    obtain ⟨s, -, i, -, k, -, v, -, h⟩ := h
    split at h
    · simp only [Option.bind_eq_some_iff] at h
      obtain ⟨x, -, h⟩ := h
      split at h
      · cases h; rfl
      · cases h
    · cases h
  · cases h
theorem d_ins_e {g : Nat → Nat} {a x z : Nat} {F F' : Nat → Int32} {L L' : Nat → Int64} (h : d_ins g a x F L = some (z, F', L')) : z ≤ x := by
  unfold d_ins at h
  simp only [Option.bind_eq_some_iff] at h
  obtain ⟨p, hp, w, -, v, -, h⟩ := h
  have := d_in_le (a' := p.1) (e' := p.2) hp
  split at h
  · simp only [Option.bind_eq_some_iff] at h
    obtain ⟨s, -, h⟩ := h
    split at h
    · have := d_in9_e h; omega
    · cases h
  · cases h
theorem s_whole {Q : AH → Prop} {E : Nat → AH → Prop} {h : AH} {c r b n a e : Nat} {g : Nat → Nat} (K : CE h c r b n a g) (m : rm h 1 6) (he : e ≤ n) (ha : a ≤ n) (kE : d_whole g a e (hp_I h c) (hp_L h c) = none → ∀ q h1, bx 14 (Sc c r) h h1 q → E q h1) (kQ : ∀ F' L', d_whole g a e (hp_I h c) (hp_L h c) = some (F', L') → ∀ h1, CS h h1 c r e F' L' → Q h1) : m_Cert_whole Q E c (nI e) h := by
  have hg := K.2.2.2.2.2.2
  have hne := K.ne
  have hn6 := K.2.2.2.2.1.2.2.2.2.2.1
  have X0 : CS h h c r a (hp_I h c) (hp_L h c) := CS.rf K.2.2.2.2.1.2.2.1
  generalize hp : d_whole g a e (hp_I h c) (hp_L h c) = P at kE kQ
  unfold d_whole at hp
  unfold m_Cert_whole m_Cert_whole_81
  refine ⟨K.1, r, K.2.1, K.2.2.2.2.1.1, s_enter K.2.2.2.2.1 hg he ha (by decide) m (fun hd q hx hb _ => kE (hp.symm.trans (by rw [hd]; rfl)) q hx (hb.wk Sr_c)) (fun t0 t1 hd _ => ?_)⟩
  have l1 := d_in_le hd
  rw [hd] at hp
  simp only [Option.bind_some] at hp
  have X1 := X0.at (a' := t0) hne
  generalize up_I h r 1 (nI t0) = h1 at X1 ⊢
  have K1 := K.cs X1
  refine ⟨r, K1.2.1, K1.2.2.2.2.1.1, ?_⟩
  rw [X1.2.1]
  rintro _ rfl
  have X2 := X1.I (j := 3) (v := nI t0) hne
  generalize up_I h1 c 3 (nI t0) = h2 at X2 ⊢
  have K2 := K.cs X2
  have f2 := X2.2.2.1
  have g2 := X2.2.2.2.1
  refine s_ins K2 (m.fm X2.1) (by omega) (by omega) (fun hn q hx hb _ => kE (hp.symm.trans (by rw [← f2, ← g2, hn]; rfl)) q hx (hb.pre X2.1)) (fun z F3 L3 hr h3 Y _ => ?_)
  rw [f2, g2] at hr
  have lz := d_ins_e hr
  rw [hr] at hp
  simp only [Option.bind_some] at hp
  have X3 := X2.tr Y
  clear Y
  have K3 := K.cs X3
  obtain ⟨w, w1, w2⟩ := K3.2.2.2.1
  refine ⟨w, w1, r, K3.2.1, w2, s_mark w2 K3.2.2.2.2.1 K3.2.2.2.2.2.1 hg (by omega) (by omega) (m.fm X3.1) (fun hd q hx hb _ => kE (hp.symm.trans (by rw [hd]; rfl)) q hx ((hb.wk Sr_c).pre X3.1)) (fun k hd _ => ?_)⟩
  have l2 := d_alg_le hd
  rw [hd] at hp
  simp only [Option.bind_some] at hp
  rintro _ rfl
  have X4 := (X3.at (a' := k) hne).I (j := 14) (v := 0) hne
  generalize up_I (up_I h3 r 1 (nI k)) c 14 0 = h4 at X4 ⊢
  have K4 := K.cs X4
  refine ⟨r, K4.2.1, K4.2.2.2.2.1.1, s_enter K4.2.2.2.2.1 hg (by omega) (by omega) (by decide) (m.fm X4.1) (fun hd q hx hb _ => kE (hp.symm.trans (by rw [hd]; rfl)) q hx ((hb.wk Sr_c).pre X4.1)) (fun v0 v1 hd _ => ?_)⟩
  have l3 := d_in_le hd
  rw [hd] at hp
  simp only [Option.bind_some] at hp
  have X5 := X4.at (a' := v0) hne
  generalize up_I h4 r 1 (nI v0) = h5 at X5 ⊢
  have K5 := K.cs X5
  have bad5 : P = none → m_Rd_bad (fun q1 hx => fx_ext h5 hx → E q1 hx) h5 := fun hd => s_bad (Sc c r) (m.fm X5.1) (fun q hx hb _ => kE hd q hx (hb.pre X5.1))
  obtain ⟨t1', t2', t3', t4', t5', t6', t7'⟩ := id K5.2.2.2.2.1
  refine ⟨r, K5.2.1, t1', ?_⟩
  rw [t3']
  simp (disch := omega) only [lit_nI, nI_eq, nI_clamp, vp_iff, nI_add]
  refine ⟨fun c1 => bad5 (hp.symm.trans (by rw [if_neg (fun q => q.1 c1)])), fun c1 => ⟨b, K5.2.2.1, t4', by omega, fun h8' => ?_⟩⟩
  rw [b_eq h8' (by decide), t7' _ (by omega)]
  refine ⟨fun c2 => ?_, fun c2 => bad5 (hp.symm.trans (by rw [if_neg (fun q => c2 q.2.1)]))⟩
  rintro _ rfl _ rfl _ rfl
  have X6 := ((X5.I (j := 11) (v := nI (v0 + 1)) hne).I (j := 12) (v := nI v1) hne).at (a' := v1) hne
  generalize up_I (up_I (up_I h5 c 11 (nI (v0 + 1))) c 12 (nI v1)) r 1 (nI v1) = h6 at X6 ⊢
  have K6 := K.cs X6
  refine s_leave K6.2.2.2.2.1 (by omega) (by omega) (m.fm X6.1) (fun hn q hx hb _ => kE (hp.symm.trans (by rw [if_neg (fun q => hn q.2.2.1)])) q hx ((hb.wk Sr_c).pre X6.1)) (fun e6 _ => ?_)
  refine ⟨r, K6.2.1, K6.2.2.2.2.1.1, s_leave K6.2.2.2.2.1 (by omega) (by omega) (m.fm X6.1) (fun hn q hx hb _ => kE (hp.symm.trans (by rw [if_neg (fun q => hn q.2.2.2.1)])) q hx ((hb.wk Sr_c).pre X6.1)) (fun e7 _ => ?_)⟩
  have f14 : hp_I h6 c 14 = 0 := by rw [X6.2.2.1]; simp only [up]; rfl
  have f28 : hp_I h6 c 28 = F3 28 := by rw [X6.2.2.1]; simp only [up]; rfl
  rw [f14, f28]
  refine ⟨fun c3 => kQ _ _ (hp.symm.trans (by rw [if_pos ⟨c1, c2, e6, e7, c3.symm⟩])) h6 (by rw [← e7]; exact X6), fun c3 => s_bad (Sc c r) (m.fm X6.1) (fun q hx hb _ => kE (hp.symm.trans (by rw [if_neg (fun q => c3 q.2.2.2.2.symm)])) q hx (hb.pre X6.1))⟩
