set_option maxRecDepth 10000
theorem tg1 : ∀ t, t < 256 → ((nI t &&& 192 = 128) ↔ (128 ≤ t ∧ t < 192)) := by decide +kernel
theorem tg2 : ∀ t, t < 256 → nI t &&& 31 = nI (t % 32) := by decide +kernel
def d_hsl (g : Nat → Nat) (e : Nat) : Nat → Nat → (Nat → Int32) → Option (Nat × (Nat → Int32))
  | 0, _, _ => none
  | k + 1, a, F => if a < e then (if (128 ≤ g a ∧ g a < 192) ∧ g a % 32 ≤ 8 ∧ g a ≠ 162 then (d_in g (g a) a e).bind fun p => if g a % 32 = 2 then (if p.2 = p.1 then none else d_hsl g e k p.2 (up F 26 (F 26 + 1))) else d_hsl g e k p.2 F else none) else some (a, F)
def d_hosts (g : Nat → Nat) (a e : Nat) (F : Nat → Int32) : Option (Nat × (Nat → Int32)) := (d_in g 48 a e).bind fun p => if p.1 = p.2 then none else d_hsl g p.2 (p.2 + 1) p.1 (up (up F 24 (nI p.1)) 25 (nI p.2))
theorem s_hosts {Q : AH → Prop} {E : Nat → AH → Prop} {h : AH} {c r b n a e : Nat} {g : Nat → Nat} (K : CE h c r b n a g) (m : rm h 1 6) (he : e ≤ n) (ha : a ≤ n) (kE : d_hosts g a e (hp_I h c) = none → ∀ q h1, bx 14 (Sc c r) h h1 q → E q h1) (kQ : ∀ a' F', d_hosts g a e (hp_I h c) = some (a', F') → a' ≤ e → ∀ h1, CS h h1 c r a' F' (hp_L h c) → Q h1) : m_Cert_hosts Q E c (nI e) h := by
  have hg := K.2.2.2.2.2.2
  have hne := K.ne
  have hn6 := K.2.2.2.2.1.2.2.2.2.2.1
  unfold m_Cert_hosts
  refine ⟨K.1, r, K.2.1, K.2.2.2.2.1.1, s_enter K.2.2.2.2.1 hg he ha (by decide) m (fun hd q hx hb _ => kE (by unfold d_hosts; rw [hd]; rfl) q hx (hb.wk Sr_c)) (fun p0 p1 hp _ => ?_)⟩
  have l1 := d_in_le hp
  have X1 : CS h (up_I h r 1 (nI p0)) c r p0 (hp_I h c) (hp_L h c) := (CS.rf K.2.2.2.2.1.2.2.1).at hne
  have K1 := K.cs X1
  have hp1 : d_hosts g a e (hp_I h c) = if p0 = p1 then none else d_hsl g p1 (p1 + 1) p0 (up (up (hp_I h c) 24 (nI p0)) 25 (nI p1)) := by unfold d_hosts; rw [hp]; rfl
  generalize up_I h r 1 (nI p0) = h1 at X1 K1 ⊢
  refine ⟨r, K1.2.1, K1.2.2.2.2.1.1, ?_⟩
  rw [K1.2.2.2.2.1.2.2.1]
  rintro _ rfl _ rfl
  have X2 := (X1.I (j := 24) (v := nI p0) hne).I (j := 25) (v := nI p1) hne
  generalize up_I (up_I h1 c 24 (nI p0)) c 25 (nI p1) = h2 at X2 ⊢
  rw [X2.2.1, nI_eq (by omega) (by omega)]
  refine ⟨fun c1 => ?_, fun c1 => s_bad (Sc c r) (m.fm X2.1) (fun q hx hb _ => kE (by rw [hp1, if_pos c1]) q hx (hb.pre X2.1))⟩
  rw [if_neg c1] at hp1
  unfold m_Cert_hosts_42
  refine ⟨fun st => ∃ k a' F, CS h st c r a' F (hp_L h c) ∧ p1 + 1 ≤ k + a' ∧ a' ≤ p1 ∧ d_hosts g a e (hp_I h c) = d_hsl g p1 k a' F, fun st => p1 - (hp_I st r 1).toNatClampNeg, ⟨p1 + 1, p0, _, X2, by omega, by omega, hp1⟩, ?_⟩
  rintro st ⟨k, a', F, X3, k1, k2, k3⟩
  obtain ⟨k, rfl⟩ : ∃ k', k = k' + 1 := ⟨k - 1, by omega⟩
  have K3 := K.cs X3
  have e3 := X3.2.1
  have bad : ∀ {h' : AH}, fm (Sc c r) h h' → d_hosts g a e (hp_I h c) = none → m_Rd_bad (fun q1 hx => fx_ext h' hx → E q1 hx) h' := fun Fr hd => s_bad (Sc c r) (m.fm Fr) (fun q hx hb _ => kE hd q hx (hb.pre Fr))
  unfold m_Cert_hosts_42_b m_Cert_hosts_93
  refine ⟨K3.1, r, K3.2.1, K3.2.2.2.2.1.1, ?_⟩
  rw [e3, nI_leI (by omega) (by omega)]
  refine ⟨fun c2 => ?_, fun c2 => ?_⟩
  · have k5 : d_hosts g a e (hp_I h c) = some (a', F) := by rw [k3]; simp only [d_hsl]; rw [if_neg (by omega)]
    exact kQ _ _ k5 (by omega) _ X3
  · have k5 : d_hosts g a e (hp_I h c) = if (128 ≤ g a' ∧ g a' < 192) ∧ g a' % 32 ≤ 8 ∧ g a' ≠ 162 then (d_in g (g a') a' p1).bind fun p => if g a' % 32 = 2 then (if p.2 = p.1 then none else d_hsl g p1 k p.2 (up F 26 (F 26 + 1))) else d_hsl g p1 k p.2 F else none := by rw [k3]; simp only [d_hsl]; rw [if_pos (by omega)]
    refine s_tag K3.2.2.2.2.1 (by omega) (by omega) (fun hlt hga _ => ?_) (fun hge _ => by omega)
    rintro _ rfl
    rw [tg1 _ hga, tg2 _ hga]
    simp (disch := omega) only [lit_nI, nI_ltI, nI_eq]
    refine ⟨fun c3 => bad X3.1 (by rw [k5, if_neg (fun q => c3 q.1)]), fun c3 => ⟨fun c4 => bad X3.1 (by rw [k5, if_neg (by omega)]), fun c4 => ⟨fun c5 => ?_, fun c5 => bad X3.1 (by rw [k5, if_neg (by omega)])⟩⟩⟩
    rw [if_pos ⟨c3, by omega, c5⟩] at k5
    refine ⟨r, K3.2.1, K3.2.2.2.2.1.1, s_skip K3.2.2.2.2.1 hg (by omega) (by omega) hga (m.fm X3.1) (fun hd q hx hb _ => kE (by rw [k5, hd]; rfl) q hx ((hb.wk Sr_c).pre X3.1)) (fun f t hf _ => ?_)⟩
    have l2 := d_in_le hf
    rw [hf] at k5
    simp only [Option.bind_some] at k5
    have X4 := X3.at (a' := t) hne
    generalize up_I st r 1 (nI t) = h4 at X4 ⊢
    have K4 := K.cs X4
    refine ⟨fun c6 => ⟨r, K4.2.1, K4.2.2.2.2.1.1, ?_⟩, fun c6 => ?_⟩
    · rw [X4.2.1, nI_eq (by omega) (by omega)]
      rw [if_pos c6] at k5
      refine ⟨fun c7 => ?_, fun c7 => bad X4.1 (by rw [k5, if_pos c7])⟩
      rintro _ rfl
      rw [X4.2.2.1]
      have X5 := X4.I (j := 26) (v := F 26 + nI 1) hne
      refine ⟨⟨k, t, _, X5, by omega, by omega, by rw [k5, if_neg c7]; rfl⟩, ?_⟩
      show p1 - _ < p1 - (hp_I st r 1).toNatClampNeg
      rw [X5.2.1, e3, nI_clamp (by omega), nI_clamp (by omega)]
      omega
    · rw [if_neg c6] at k5
      refine ⟨⟨k, t, _, X4, by omega, by omega, k5⟩, ?_⟩
      show p1 - _ < p1 - (hp_I st r 1).toNatClampNeg
      rw [X4.2.1, e3, nI_clamp (by omega), nI_clamp (by omega)]
      omega
