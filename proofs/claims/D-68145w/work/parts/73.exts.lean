set_option maxRecDepth 10000
theorem d_ex2_e {g : Nat → Nat} {w a e z : Nat} {F F' : Nat → Int32} (h : d_ex2 g w a e F = some (z, F')) : z = e := by
  unfold d_ex2 at h
  cases h1 : d_truth g a e with
  | none => rw [h1] at h; cases h
  | some t =>
  rw [h1] at h
  simp only [Option.bind_some] at h
  cases h2 : d_in g 4 t.2 e with
  | none => rw [h2] at h; cases h
  | some v =>
  rw [h2] at h
  simp only [Option.bind_some] at h
  cases h3 : d_exw g w v t.1 F with
  | none => rw [h3] at h; cases h
  | some r =>
  rw [h3] at h
  simp only [Option.bind_some] at h
  split at h
  · cases h; rfl
  · cases h
theorem d_ext_in {g : Nat → Nat} {a e z : Nat} {os : List (Nat × Nat)} {o : Nat × Nat} {F F' : Nat → Int32} (h : d_ext g a e os F = some (z, o, F')) : ∃ p, d_in g 48 a e = some p ∧ d_oid g p.1 p.2 = some o ∧ z = p.2 := by
  unfold d_ext at h
  cases h1 : d_in g 48 a e with
  | none => rw [h1] at h; cases h
  | some p =>
  rw [h1] at h
  simp only [Option.bind_some] at h
  cases h2 : d_oid g p.1 p.2 with
  | none => rw [h2] at h; cases h
  | some q =>
  rw [h2] at h
  simp only [Option.bind_some] at h
  split at h
  · cases h
  · cases h3 : d_ex2 g (d_which g q) q.2 p.2 F with
    | none => rw [h3] at h; cases h
    | some r =>
    rw [h3] at h
    simp only [Option.bind_some] at h
    have := d_ex2_e (z := r.1) (F' := r.2) h3
    cases h
    exact ⟨p, rfl, h2, this⟩
theorem s_ext {Q : AH → Prop} {E : Nat → AH → Prop} {h : AH} {c r b n a e f : Nat} {os : List (Nat × Nat)} {g : Nat → Nat} (K : CE h c r b n a g) (m : rm h 1 6) (he : e ≤ n) (ha : a ≤ n) (hW : Wk g f os a) (kE : d_ext g a e os (hp_I h c) = none → ∀ q h1, bx 14 (Sc c r) h h1 q → E q h1) (kQ : ∀ z o F', d_ext g a e os (hp_I h c) = some (z, o, F') → ∀ h1, CS h h1 c r z F' (hp_L h c) → Q h1) : m_Cert_extension Q E c (nI f) (nI e) h := by
  have hg := K.2.2.2.2.2.2
  have hne := K.ne
  have hn6 := K.2.2.2.2.1.2.2.2.2.2.1
  have X0 : CS h h c r a (hp_I h c) (hp_L h c) := CS.rf K.2.2.2.2.1.2.2.1
  unfold m_Cert_extension
  refine ⟨K.1, r, K.2.1, K.2.2.2.2.1.1, ?_⟩
  rw [K.2.2.2.2.1.2.2.1]
  rintro _ rfl
  refine s_enter K.2.2.2.2.1 hg he ha (by decide) m (fun hd q hx hb _ => kE (by unfold d_ext; rw [hd]; rfl) q hx (hb.wk Sr_c)) (fun p0 p1 hp _ => ?_)
  have l1 := d_in_le hp
  have X1 := X0.at (a' := p0) hne
  have K1 := K.cs X1
  generalize up_I h r 1 (nI p0) = h1 at X1 K1 ⊢
  refine ⟨r, K1.2.1, K1.2.2.2.2.1.1, s_oid K1.2.2.2.2.1 hg (by omega) (by omega) (m.fm X1.1) (fun hd q hx hb _ => kE (by unfold d_ext; rw [hp]; simp only [Option.bind_some]; rw [hd]; rfl) q hx ((hb.wk Sr_c).pre X1.1)) (fun o t ho _ => ?_)⟩
  have l2 := d_oid_le ho
  have X2 := X1.at (a' := t) hne
  have K2 := K.cs X2
  generalize up_I h1 r 1 (nI t) = h2 at X2 K2 ⊢
  have hp1 : d_ext g a e os (hp_I h c) = if dupB g os o t = true then none else (d_ex2 g (d_which g (o, t)) t p1 (hp_I h c)).bind fun r => some (r.1, (o, t), r.2) := by unfold d_ext; rw [hp]; simp only [Option.bind_some]; rw [ho]; rfl
  refine ⟨r, K2.2.1, K2.2.2.2.2.1.1, ?_⟩
  rw [K2.2.2.2.2.1.2.2.1, nI_sub (by omega)]
  rintro _ rfl
  refine s_twice K2 (m.fm X2.1) hW ha (by omega) (by omega) (by omega) (fun h3 Y _ _ => ?_)
  have X3 := X2.tr Y
  rw [X2.2.2.1, X2.2.2.2.1] at X3
  clear Y
  have K3 := K.cs X3
  refine ⟨fun c1 => ?_, fun c1 => ?_⟩
  rotate_left
  · refine s_bad (Sc c r) (m.fm X3.1) (fun q hx hb _ => kE ?_ q hx (hb.pre X3.1))
    rw [hp1]
    cases hd : dupB g os o t with
    | true => rfl
    | false => rw [hd] at c1; exact absurd rfl c1
  have hdp : dupB g os o t = false := by
    cases hd : dupB g os o t with
    | false => rfl
    | true => rw [hd] at c1; exact absurd c1 (by decide)
  rw [hdp, if_neg (by decide)] at hp1
  have fin : ∀ w, w ≤ 4 → d_which g (o, t) = w → m_Cert_extension_137 Q E c (nI p1) (nI w) h3 := fun w hw hwe => by
    refine s_ex2 K3 (m.fm X3.1) (by omega) (by omega) hw (fun hn q hx hb => kE (by rw [hp1, hwe, ← X3.2.2.1, hn]; rfl) q hx (hb.pre X3.1)) (fun z F' hr h4 Y => ?_)
    have X4 := X3.tr Y
    rw [X3.2.2.2.1] at X4
    exact kQ z (o, t) F' (by rw [hp1, hwe, ← X3.2.2.1, hr]; rfl) h4 X4
  have hcon := K3.2.2.2.2.2.1
  obtain ⟨e1, e2, e3⟩ := hcon.b 1 (by decide)
  refine ⟨r, K3.2.1, K3.2.2.2.2.1.1, s_is (o := ko 1) (len := 3) K3.2.2.2.2.1 e1 e2 e3 (by decide) (by omega) (by omega) (fun i1 _ _ => ⟨fun c => absurd c (by decide), fun _ => fin 1 (by decide) (by unfold d_which; rw [if_pos i1])⟩) (fun i1 _ _ => ⟨fun _ => ?_, fun c => absurd rfl c⟩)⟩
  obtain ⟨e1, e2, e3⟩ := hcon.b 2 (by decide)
  refine ⟨r, K3.2.1, K3.2.2.2.2.1.1, s_is (o := ko 2) (len := 3) K3.2.2.2.2.1 e1 e2 e3 (by decide) (by omega) (by omega) (fun i2 _ _ => ⟨fun c => absurd c (by decide), fun _ => fin 2 (by decide) (by unfold d_which; simp only [i1, i2, Bool.false_eq_true, if_false, if_true])⟩) (fun i2 _ _ => ⟨fun _ => ?_, fun c => absurd rfl c⟩)⟩
  obtain ⟨e1, e2, e3⟩ := hcon.b 3 (by decide)
  refine ⟨r, K3.2.1, K3.2.2.2.2.1.1, s_is (o := ko 3) (len := 3) K3.2.2.2.2.1 e1 e2 e3 (by decide) (by omega) (by omega) (fun i3 _ _ => ⟨fun c => absurd c (by decide), fun _ => fin 3 (by decide) (by unfold d_which; simp only [i1, i2, i3, Bool.false_eq_true, if_false, if_true])⟩) (fun i3 _ _ => ⟨fun _ => ?_, fun c => absurd rfl c⟩)⟩
  obtain ⟨e1, e2, e3⟩ := hcon.b 4 (by decide)
  exact ⟨r, K3.2.1, K3.2.2.2.2.1.1, s_is (o := ko 4) (len := 3) K3.2.2.2.2.1 e1 e2 e3 (by decide) (by omega) (by omega) (fun i4 _ _ => ⟨fun c => absurd c (by decide), fun _ => fin 4 (by decide) (by unfold d_which; simp only [i1, i2, i3, i4, Bool.false_eq_true, if_false, if_true])⟩) (fun i4 _ _ => ⟨fun _ => fin 0 (by decide) (by unfold d_which; simp only [i1, i2, i3, i4, Bool.false_eq_true, if_false]), fun c => absurd rfl c⟩)⟩
theorem d_exl_e {g : Nat → Nat} {e : Nat} : ∀ {k a : Nat} {os : List (Nat × Nat)} {F : Nat → Int32} {q : Nat × (Nat → Int32)}, d_exl g e k a os F = some q → a ≤ e → q.1 = e
  | 0, _, _, _, _, h, _ => by cases h
  | k + 1, a, os, F, q, h, ha => by
    simp only [d_exl] at h
    split at h
    · cases h1 : d_ext g a e os F with
      | none => rw [h1] at h; cases h
      | some r =>
      rw [h1] at h
      simp only [Option.bind_some] at h
      obtain ⟨p, p1, -, p3⟩ := d_ext_in (z := r.1) (o := r.2.1) (F' := r.2.2) h1
      have := d_in_le (a' := p.1) (e' := p.2) p1
      exact d_exl_e h (by omega)
    · cases h
      simp only
      omega
theorem s_exts {Q : AH → Prop} {E : Nat → AH → Prop} {h : AH} {c r b n a e : Nat} {g : Nat → Nat} (K : CE h c r b n a g) (m : rm h 1 6) (he : e ≤ n) (ha : a ≤ n) (kE : d_exts g a e (hp_I h c) = none → ∀ q h1, bx 14 (Sc c r) h h1 q → E q h1) (kQ : ∀ z F', d_exts g a e (hp_I h c) = some (z, F') → z ≤ e → ∀ h1, CS h h1 c r z F' (hp_L h c) → Q h1) : m_Cert_extensions Q E c (nI e) h := by
  have hg := K.2.2.2.2.2.2
  have hne := K.ne
  have hn6 := K.2.2.2.2.1.2.2.2.2.2.1
  have X0 : CS h h c r a (hp_I h c) (hp_L h c) := CS.rf K.2.2.2.2.1.2.2.1
  unfold m_Cert_extensions
  refine ⟨K.1, ?_⟩
  rintro _ rfl _ rfl _ rfl _ rfl _ rfl _ rfl _ rfl _ rfl _ rfl
  have X1 := ((((((((X0.I (j := 18) (v := 0) hne).I (j := 19) (v := 0) hne).I (j := 21) (v := -1) hne).I (j := 22) (v := -1) hne).I (j := 23) (v := -1) hne).I (j := 26) (v := 0) hne).I (j := 24) (v := 0) hne).I (j := 25) (v := 0) hne).I (j := 27) (v := 0) hne
  have hF : up (up (up (up (up (up (up (up (up (hp_I h c) 18 0) 19 0) 21 (-1)) 22 (-1)) 23 (-1)) 26 0) 24 0) 25 0) 27 0 = d_ex0 (hp_I h c) := rfl
  rw [hF] at X1
  generalize up_I (up_I (up_I (up_I (up_I (up_I (up_I (up_I (up_I h c 18 0) c 19 0) c 21 (-1)) c 22 (-1)) c 23 (-1)) c 26 0) c 24 0) c 25 0) c 27 0 = h1 at X1 ⊢
  have K1 := K.cs X1
  refine ⟨r, K1.2.1, K1.2.2.2.2.1.1, ?_⟩
  rw [K1.2.2.2.2.1.2.2.1, nI_eq (by omega) (by omega)]
  refine ⟨fun c1 => ?_, fun c1 => kQ a _ (by unfold d_exts; rw [if_pos c1]) (by omega) _ X1⟩
  have hp1 : d_exts g a e (hp_I h c) = (d_in g 163 a e).bind fun x => (d_in g 48 x.1 x.2).bind fun l => if l.1 = l.2 then none else (d_exl g l.2 (l.2 + 1) l.1 [] (d_ex0 (hp_I h c))).bind fun r => if r.1 = x.2 then some r else none := by unfold d_exts; rw [if_neg c1]
  refine s_enter K1.2.2.2.2.1 hg he ha (by decide) (m.fm X1.1) (fun hd q hx hb _ => kE (by rw [hp1, hd]; rfl) q hx ((hb.wk Sr_c).pre X1.1)) (fun x0 x1 hx _ => ?_)
  have l1 := d_in_le hx
  rw [hx] at hp1
  simp only [Option.bind_some] at hp1
  have X2 := X1.at (a' := x0) hne
  have K2 := K.cs X2
  generalize up_I h1 r 1 (nI x0) = h2 at X2 K2 ⊢
  refine ⟨r, K2.2.1, K2.2.2.2.2.1.1, s_enter K2.2.2.2.2.1 hg (by omega) (by omega) (by decide) (m.fm X2.1) (fun hd q hx hb _ => kE (by rw [hp1, hd]; rfl) q hx ((hb.wk Sr_c).pre X2.1)) (fun p0 p1 hp _ => ?_)⟩
  have l2 := d_in_le hp
  rw [hp] at hp1
  simp only [Option.bind_some] at hp1
  have X3 := X2.at (a' := p0) hne
  have K3 := K.cs X3
  generalize up_I h2 r 1 (nI p0) = h3 at X3 K3 ⊢
  refine ⟨r, K3.2.1, K3.2.2.2.2.1.1, ?_⟩
  rw [K3.2.2.2.2.1.2.2.1, nI_eq (by omega) (by omega)]
  refine ⟨fun c2 => ?_, fun c2 => s_bad (Sc c r) (m.fm X3.1) (fun q hx hb _ => kE (by rw [hp1, if_pos c2]) q hx (hb.pre X3.1))⟩
  rw [if_neg c2] at hp1
  rintro _ rfl
  unfold m_Cert_extensions_104
  refine ⟨fun st => ∃ k a' os F, CS h st c r a' F (hp_L h c) ∧ p1 + 1 ≤ k + a' ∧ a' ≤ p1 ∧ Wk g p0 os a' ∧ d_exl g p1 (p1 + 1) p0 [] (d_ex0 (hp_I h c)) = d_exl g p1 k a' os F, fun st => p1 - (hp_I st r 1).toNatClampNeg, ⟨p1 + 1, p0, [], _, X3, by omega, by omega, rfl, rfl⟩, ?_⟩
  rintro st ⟨k, a', os, F, X4, k1, k2, k3, k4⟩
  obtain ⟨k, rfl⟩ : ∃ k', k = k' + 1 := ⟨k - 1, by omega⟩
  have K4 := K.cs X4
  have e4 := X4.2.1
  unfold m_Cert_extensions_104_b
  refine ⟨K4.1, r, K4.2.1, K4.2.2.2.2.1.1, ?_⟩
  rw [e4, nI_leI (by omega) (by omega)]
  refine ⟨fun c3 => ?_, fun c3 => ?_⟩
  · have k5 : d_exl g p1 (p1 + 1) p0 [] (d_ex0 (hp_I h c)) = some (a', F) := by rw [k4]; simp only [d_exl]; rw [if_neg (by omega)]
    have hp2 : d_exts g a e (hp_I h c) = if a' = x1 then some (a', F) else none := by rw [hp1, k5]; rfl
    exact s_leave K4.2.2.2.2.1 (by omega) (by omega) (m.fm X4.1) (fun hn q hx hb _ => kE (by rw [hp2, if_neg hn]) q hx ((hb.wk Sr_c).pre X4.1)) (fun e5 _ => kQ a' F (by rw [hp2, if_pos e5]) (by omega) _ X4)
  · have k5 : d_exl g p1 (p1 + 1) p0 [] (d_ex0 (hp_I h c)) = (d_ext g a' p1 os F).bind fun r => d_exl g p1 k r.1 (os ++ [r.2.1]) r.2.2 := by rw [k4]; simp only [d_exl]; rw [if_pos (by omega)]
    have e5 := X4.2.2.1
    refine s_ext K4 (m.fm X4.1) (by omega) (by omega) k3 (fun hn q hx hb _ => kE (by rw [hp1, k5, ← e5, hn]; rfl) q hx (hb.pre X4.1)) (fun z o F' hr h5 Y _ => ?_)
    have X5 := X4.tr Y
    rw [X4.2.2.2.1] at X5
    rw [e5] at hr
    obtain ⟨p, q1, q2, q3⟩ := d_ext_in hr
    have l3 := d_in_le (a' := p.1) (e' := p.2) q1
    subst q3
    refine ⟨⟨k, p.2, os ++ [o], F', X5, by omega, by omega, k3.add (d_in_mono q1 (Nat.le_refl _)) q2, by rw [k5, hr]; rfl⟩, ?_⟩
    show p1 - _ < p1 - (hp_I st r 1).toNatClampNeg
    rw [X5.2.1, e4, nI_clamp (by omega), nI_clamp (by omega)]
    omega
