set_option maxRecDepth 10000
theorem s_mark {Q : Int32 → AH → Prop} {E : Nat → AH → Prop} {h : AH} {w r b n a e : Nat} {g : Nat → Nat} (hw : hp_k h w = 4) (R : RD h r b n a g) (C : CON h) (hg : Gb g n) (he : e ≤ n) (ha : a ≤ n) (m : rm h 1 6) (kE : d_alg g a e = none → ∀ q h1, bx 14 (Sr r) h h1 q → E q h1) (kQ : ∀ t, d_alg g a e = some t → Q 0 (up_I h r 1 (nI t))) : m_KM_ofMark Q E w r (nI e) h := ⟨hw, s_alg R C hg he ha m (fun hd q hx hb _ => kE hd q hx hb) (fun t ht _ => kQ t ht)⟩
theorem s_markK {Q : Int32 → AH → Prop} {E : Nat → AH → Prop} {h : AH} {w r b n a e : Nat} {g : Nat → Nat} (hw : hp_k h w = 4) (R : RD h r b n a g) (C : CON h) (hg : Gb g n) (he : e ≤ n) (ha : a ≤ n) (m : rm h 1 6) (kE : d_alg g a e = none → ∀ q h1, bx 14 (Sr r) h h1 q → E q h1) (kQ : ∀ t, d_alg g a e = some t → Q 0 (up_I h r 1 (nI t))) : m_KM_ofKey Q E w r (nI e) h := ⟨hw, s_alg R C hg he ha m (fun hd q hx hb _ => kE hd q hx hb) (fun t ht _ => kQ t ht)⟩
/-- from behind the number to the body's end -/
def d_in9 (g : Nat → Nat) (a e : Nat) (F : Nat → Int32) (L : Nat → Int64) : Option (Nat × (Nat → Int32) × (Nat → Int64)) := (d_alg g a e).bind fun a1 => (d_names g a1 e).bind fun q => (d_in g 48 q.1 e).bind fun t => (d_time g t.1 t.2).bind fun u => (d_time g u.1 t.2).bind fun w => if w.1 = t.2 then
  (d_names g w.1 e).bind fun s => (d_in g 48 s.1 e).bind fun i => (d_alg g i.1 i.2).bind fun k => (d_in g 3 k i.2).bind fun v => if v.1 ≠ v.2 ∧ g v.1 = 0 ∧ v.2 = i.2 ∧ v.2 - (v.1 + 1) = 32 then
    (d_exts g v.2 e (up (up (up (up (up (up (up (up (up F 28 0) 5 (nI a1)) 6 (nI q.1)) 7 (nI w.1)) 15 (nI s.2)) 8 (nI s.1)) 13 0) 9 (nI (v.1 + 1))) 10 (nI v.2))).bind fun x => if x.1 = e then some (e, x.2, upL (upL L 16 (lZ u.2)) 17 (lZ w.2)) else none else none else none
theorem s_in9 {Q : AH → Prop} {E : Nat → AH → Prop} {h : AH} {c r b n a0 a e : Nat} {g : Nat → Nat} (K : CE h c r b n a0 g) (m : rm h 1 6) (he : e ≤ n) (ha : a ≤ n) (kE : d_in9 g a e (hp_I h c) (hp_L h c) = none → ∀ q h1, bx 14 (Sc c r) h h1 q → E q h1) (kQ : ∀ z F' L', d_in9 g a e (hp_I h c) (hp_L h c) = some (z, F', L') → ∀ h1, CS h h1 c r z F' L' → Q h1) : m_Cert_inside_189 Q E c (nI e) (nI a) h := by
  have hg := K.2.2.2.2.2.2
  have hne := K.ne
  have hn6 := K.2.2.2.2.1.2.2.2.2.2.1
  have X0 : CS h h c r a0 (hp_I h c) (hp_L h c) := CS.rf K.2.2.2.2.1.2.2.1
  generalize hp : d_in9 g a e (hp_I h c) (hp_L h c) = P at kE kQ
  unfold d_in9 at hp
  unfold m_Cert_inside_189 m_Cert_inside_386
  refine ⟨K.1, r, K.2.1, K.2.2.2.2.1.1, ?_⟩
  rintro _ rfl
  have X1 := X0.at (a' := a) hne
  generalize up_I h r 1 (nI a) = h1 at X1 ⊢
  have K1 := K.cs X1
  obtain ⟨w, w1, w2⟩ := K1.2.2.2.1
  refine ⟨w, w1, w2, s_mark w2 K1.2.2.2.2.1 K1.2.2.2.2.2.1 hg he ha (m.fm X1.1) (fun hd q hx hb _ => kE (hp.symm.trans (by rw [hd]; rfl)) q hx ((hb.wk Sr_c).pre X1.1)) (fun a1 hd _ => ?_)⟩
  have l1 := d_alg_le hd
  rw [hd] at hp
  simp only [Option.bind_some] at hp
  rintro _ rfl
  have X2 := (X1.at (a' := a1) hne).I (j := 28) (v := 0) hne
  generalize up_I (up_I h1 r 1 (nI a1)) c 28 0 = h2 at X2 ⊢
  have K2 := K.cs X2
  refine ⟨r, K2.2.1, K2.2.2.2.2.1.1, ?_⟩
  rw [X2.2.1]
  rintro _ rfl
  have X3 := X2.I (j := 5) (v := nI a1) hne
  generalize up_I h2 c 5 (nI a1) = h3 at X3 ⊢
  have K3 := K.cs X3
  refine s_names K3 (m.fm X3.1) he (by omega) (fun hd q hx hb _ => kE (hp.symm.trans (by rw [hd]; rfl)) q hx (hb.pre X3.1)) (fun q k hd _ => ?_)
  have l2 := d_names_le hd
  simp only at l2
  rw [hd] at hp
  simp only [Option.bind_some] at hp
  have X4 := X3.at (a' := q) hne
  generalize up_I h3 r 1 (nI q) = h4 at X4 ⊢
  have K4 := K.cs X4
  refine ⟨r, K4.2.1, K4.2.2.2.2.1.1, ?_⟩
  rw [X4.2.1]
  rintro _ rfl
  have X5 := X4.I (j := 6) (v := nI q) hne
  generalize up_I h4 c 6 (nI q) = h5 at X5 ⊢
  have K5 := K.cs X5
  refine s_enter K5.2.2.2.2.1 hg he (by omega) (by decide) (m.fm X5.1) (fun hd q hx hb _ => kE (hp.symm.trans (by rw [hd]; rfl)) q hx ((hb.wk Sr_c).pre X5.1)) (fun t0 t1 hd _ => ?_)
  have l3 := d_in_le hd
  rw [hd] at hp
  simp only [Option.bind_some] at hp
  have X6 := X5.at (a' := t0) hne
  generalize up_I h5 r 1 (nI t0) = h6 at X6 ⊢
  have K6 := K.cs X6
  refine s_time K6 (m.fm X6.1) (by omega) (by omega) (fun hd q hx hb _ => kE (hp.symm.trans (by rw [hd]; rfl)) q hx (hb.pre X6.1)) (fun u z1 hd _ => ?_)
  have l4 := d_time_le hd
  rw [hd] at hp
  simp only [Option.bind_some] at hp
  rintro _ rfl
  have X7 := (X6.at (a' := u) hne).L (j := 16) (v := lZ z1)
  generalize up_L (up_I h6 r 1 (nI u)) c 16 (lZ z1) = h7 at X7 ⊢
  have K7 := K.cs X7
  refine s_time K7 (m.fm X7.1) (by omega) (by omega) (fun hd q hx hb _ => kE (hp.symm.trans (by rw [hd]; rfl)) q hx (hb.pre X7.1)) (fun v z2 hd _ => ?_)
  have l5 := d_time_le hd
  rw [hd] at hp
  simp only [Option.bind_some] at hp
  rintro _ rfl
  have X8 := (X7.at (a' := v) hne).L (j := 17) (v := lZ z2)
  generalize up_L (up_I h7 r 1 (nI v)) c 17 (lZ z2) = h8 at X8 ⊢
  have K8 := K.cs X8
  refine ⟨r, K8.2.1, K8.2.2.2.2.1.1, s_leave K8.2.2.2.2.1 (by omega) (by omega) (m.fm X8.1) (fun hn q hx hb _ => kE (hp.symm.trans (by rw [if_neg hn])) q hx ((hb.wk Sr_c).pre X8.1)) (fun e5 _ => ?_)⟩
  rw [if_pos e5] at hp
  refine ⟨r, K8.2.1, K8.2.2.2.2.1.1, ?_⟩
  rw [X8.2.1]
  rintro _ rfl
  have X9 := X8.I (j := 7) (v := nI v) hne
  generalize up_I h8 c 7 (nI v) = h9 at X9 ⊢
  have K9 := K.cs X9
  refine s_names K9 (m.fm X9.1) he (by omega) (fun hd q hx hb _ => kE (hp.symm.trans (by rw [hd]; rfl)) q hx (hb.pre X9.1)) (fun s sk hd _ => ?_)
  have l6 := d_names_le hd
  simp only at l6
  rw [hd] at hp
  simp only [Option.bind_some] at hp
  rintro _ rfl
  have X10 := (X9.at (a' := s) hne).I (j := 15) (v := nI sk) hne
  generalize up_I (up_I h9 r 1 (nI s)) c 15 (nI sk) = h10 at X10 ⊢
  have K10 := K.cs X10
  refine ⟨r, K10.2.1, K10.2.2.2.2.1.1, ?_⟩
  rw [X10.2.1]
  rintro _ rfl
  have X11 := X10.I (j := 8) (v := nI s) hne
  generalize up_I h10 c 8 (nI s) = h11 at X11 ⊢
  have K11 := K.cs X11
  refine s_enter K11.2.2.2.2.1 hg he (by omega) (by decide) (m.fm X11.1) (fun hd q hx hb _ => kE (hp.symm.trans (by rw [hd]; rfl)) q hx ((hb.wk Sr_c).pre X11.1)) (fun i0 i1 hd _ => ?_)
  have l7 := d_in_le hd
  rw [hd] at hp
  simp only [Option.bind_some] at hp
  have X12 := X11.at (a' := i0) hne
  generalize up_I h11 r 1 (nI i0) = h12 at X12 ⊢
  have K12 := K.cs X12
  obtain ⟨w', w1', w2'⟩ := K12.2.2.2.1
  refine ⟨w', w1', r, K12.2.1, w2', s_markK w2' K12.2.2.2.2.1 K12.2.2.2.2.2.1 hg (by omega) (by omega) (m.fm X12.1) (fun hd q hx hb _ => kE (hp.symm.trans (by rw [hd]; rfl)) q hx ((hb.wk Sr_c).pre X12.1)) (fun k2 hd _ => ?_)⟩
  have l8 := d_alg_le hd
  rw [hd] at hp
  simp only [Option.bind_some] at hp
  rintro _ rfl
  have X13 := (X12.at (a' := k2) hne).I (j := 13) (v := 0) hne
  generalize up_I (up_I h12 r 1 (nI k2)) c 13 0 = h13 at X13 ⊢
  have K13 := K.cs X13
  refine ⟨r, K13.2.1, K13.2.2.2.2.1.1, s_enter K13.2.2.2.2.1 hg (by omega) (by omega) (by decide) (m.fm X13.1) (fun hd q hx hb _ => kE (hp.symm.trans (by rw [hd]; rfl)) q hx ((hb.wk Sr_c).pre X13.1)) (fun v0 v1 hd _ => ?_)⟩
  have l9 := d_in_le hd
  rw [hd] at hp
  simp only [Option.bind_some] at hp
  have X14 := X13.at (a' := v0) hne
  generalize up_I h13 r 1 (nI v0) = h14 at X14 ⊢
  have K14 := K.cs X14
  have bad14 : P = none → m_Rd_bad (fun q1 hx => fx_ext h14 hx → E q1 hx) h14 := fun hd => s_bad (Sc c r) (m.fm X14.1) (fun q hx hb _ => kE hd q hx (hb.pre X14.1))
  obtain ⟨t1', t2', t3', t4', t5', t6', t7'⟩ := id K14.2.2.2.2.1
  refine ⟨r, K14.2.1, t1', ?_⟩
  rw [t3']
  simp (disch := omega) only [lit_nI, nI_eq, nI_clamp, vp_iff, nI_add]
  refine ⟨fun c1 => bad14 (hp.symm.trans (by rw [if_neg (fun q => q.1 c1)])), fun c1 => ⟨b, K14.2.2.1, t4', by omega, fun h8' => ?_⟩⟩
  rw [b_eq h8' (by decide), t7' _ (by omega)]
  refine ⟨fun c2 => ?_, fun c2 => bad14 (hp.symm.trans (by rw [if_neg (fun q => c2 q.2.1)]))⟩
  rintro _ rfl _ rfl _ rfl
  have X15 := ((X14.I (j := 9) (v := nI (v0 + 1)) hne).I (j := 10) (v := nI v1) hne).at (a' := v1) hne
  generalize up_I (up_I (up_I h14 c 9 (nI (v0 + 1))) c 10 (nI v1)) r 1 (nI v1) = h15 at X15 ⊢
  have K15 := K.cs X15
  refine s_leave K15.2.2.2.2.1 (by omega) (by omega) (m.fm X15.1) (fun hn q hx hb _ => kE (hp.symm.trans (by rw [if_neg (fun q => hn q.2.2.1)])) q hx ((hb.wk Sr_c).pre X15.1)) (fun e6 _ => ?_)
  obtain ⟨w'', w1'', w2''⟩ := K15.2.2.2.1
  refine ⟨w'', w1'', b, K15.2.2.1, w2'', ?_⟩
  have f9 : hp_I h15 c 9 = nI (v0 + 1) := by rw [X15.2.2.1]; simp only [up]; rfl
  have f10 : hp_I h15 c 10 = nI v1 := by rw [X15.2.2.1]; simp only [up]; rfl
  rw [f9, f10, nI_sub (by omega)]
  unfold m_KM_key m_KM_key_12
  rw [show (32 : Int32) = nI 32 from rfl, nI_eq (by omega) (by omega)]
  refine ⟨fun c3 => ⟨Or.inl rfl, fun _ _ => ⟨fun c4 => absurd rfl c4, fun _ => ?_⟩⟩, fun c3 => ⟨Or.inr rfl, fun _ _ => ⟨fun _ => ?_, fun c4 => absurd c4 (by decide)⟩⟩⟩
  · exact s_bad (Sc c r) (m.fm X15.1) (fun q hx hb _ => kE (hp.symm.trans (by rw [if_neg (fun q => c3 q.2.2.2)])) q hx (hb.pre X15.1))
  rw [if_pos ⟨c1, c2, e6, c3⟩] at hp
  have f15 := X15.2.2.1
  have g15 := X15.2.2.2.1
  refine s_exts K15 (m.fm X15.1) he (by omega) (fun hn q hx hb _ => kE (hp.symm.trans (by rw [← f15, hn]; rfl)) q hx (hb.pre X15.1)) (fun z F' hr hz h16 Y _ => ?_)
  rw [f15] at hr
  rw [hr] at hp
  simp only [Option.bind_some] at hp
  have X16 := X15.tr Y
  rw [g15] at X16
  have K16 := K.cs X16
  exact ⟨r, K16.2.1, K16.2.2.2.2.1.1, s_leave K16.2.2.2.2.1 (by omega) (by omega) (m.fm X16.1) (fun hn q hx hb _ => kE (hp.symm.trans (by rw [if_neg hn])) q hx ((hb.wk Sr_c).pre X16.1)) (fun e7 _ => kQ e F' _ (hp.symm.trans (by rw [if_pos e7])) _ (by rw [← e7]; exact X16))⟩
