set_option maxRecDepth 10000
/-- one pair of a name: behind it -/
def d_nm1 (g : Nat → Nat) (a e : Nat) : Option Nat := (d_in g 49 a e).bind fun s => (d_in g 48 s.1 s.2).bind fun p => (d_oid g p.1 p.2).bind fun q => (d_in g (if q.2 < p.2 ∧ g q.2 = 19 then 19 else 12) q.2 p.2).bind fun f => if 1 ≤ f.2 - f.1 ∧ f.2 - f.1 ≤ 64 ∧ f.2 = p.2 ∧ p.2 = s.2 then some f.2 else none
def d_nml (g : Nat → Nat) (e : Nat) : Nat → Nat → Nat → Option (Nat × Nat)
  | 0, _, _ => none
  | k + 1, a, c => if a < e then (d_nm1 g a e).bind fun a' => d_nml g e k a' (c + 1) else some (a, c)
def d_names (g : Nat → Nat) (a e : Nat) : Option (Nat × Nat) := (d_in g 48 a e).bind fun p => (d_nml g p.2 (p.2 + 1) p.1 0).bind fun q => if 1 ≤ q.2 ∧ q.2 ≤ 8 then some q else none
theorem d_nm1_le {g : Nat → Nat} {a e t : Nat} (h : d_nm1 g a e = some t) : a + 2 ≤ t ∧ t ≤ e := by
  unfold d_nm1 at h
  cases h1 : d_in g 49 a e with
  | none => rw [h1] at h; cases h
  | some s =>
  rw [h1] at h
  simp only [Option.bind_some] at h
  cases h2 : d_in g 48 s.1 s.2 with
  | none => rw [h2] at h; cases h
  | some p =>
  rw [h2] at h
  simp only [Option.bind_some] at h
  cases h3 : d_oid g p.1 p.2 with
  | none => rw [h3] at h; cases h
  | some q =>
  rw [h3] at h
  simp only [Option.bind_some] at h
  cases h4 : d_in g (if q.2 < p.2 ∧ g q.2 = 19 then 19 else 12) q.2 p.2 with
  | none => rw [h4] at h; cases h
  | some f =>
  rw [h4] at h
  simp only [Option.bind_some] at h
  have e1 := d_in_le h1
  have e2 := d_in_le h2
  have e3 := d_oid_le h3
  have e4 := d_in_le h4
  split at h
  · cases h; omega
  · cases h
theorem d_nml_le {g : Nat → Nat} {e : Nat} : ∀ {k a c : Nat} {q : Nat × Nat}, d_nml g e k a c = some q → a ≤ e → a ≤ q.1 ∧ q.1 = e
  | 0, _, _, _, h, _ => by cases h
  | k + 1, a, c, q, h, ha => by
    simp only [d_nml] at h
    split at h
    · cases h1 : d_nm1 g a e with
      | none => rw [h1] at h; cases h
      | some a' =>
      rw [h1] at h
      simp only [Option.bind_some] at h
      have := d_nm1_le h1
      have := d_nml_le h (by omega)
      omega
    · cases h
      simp only
      omega
theorem d_names_le {g : Nat → Nat} {a e : Nat} {q : Nat × Nat} (h : d_names g a e = some q) : a + 2 ≤ q.1 ∧ q.1 ≤ e ∧ q.2 ≤ 8 := by
  unfold d_names at h
  cases h1 : d_in g 48 a e with
  | none => rw [h1] at h; cases h
  | some p =>
  rw [h1] at h
  simp only [Option.bind_some] at h
  cases h2 : d_nml g p.2 (p.2 + 1) p.1 0 with
  | none => rw [h2] at h; cases h
  | some u =>
  rw [h2] at h
  simp only [Option.bind_some] at h
  have e1 := d_in_le h1
  have e2 := d_nml_le h2 (by omega)
  split at h
  · cases h; omega
  · cases h
theorem s_nm1 {E : Nat → AH → Prop} {Q : Int32 → AH → Prop} {h : AH} {c r b n a e cnt : Nat} {g : Nat → Nat} {X : Int32 × AH → Prop} (K : CE h c r b n a g) (m : rm h 1 6) (hlt : a < e) (he : e ≤ n) (hc : cnt < 2 ^ 30) (kE : d_nm1 g a e = none → ∀ q h1, bx 14 (Sc c r) h h1 q → E q h1) (kX : ∀ t, d_nm1 g a e = some t → X (nI (cnt + 1), up_I h r 1 (nI t))) : m_Cert_names_13_b Q E X c (nI e) (nI cnt) h := by
  have hg := K.2.2.2.2.2.2
  have hn6 := K.2.2.2.2.1.2.2.2.2.2.1
  have h3 := K.2.2.2.2.1.2.2.1
  unfold m_Cert_names_13_b m_Cert_names_159
  refine ⟨K.1, r, K.2.1, K.2.2.2.2.1.1, ?_⟩
  rw [h3]
  simp (disch := omega) only [lit_nI, nI_leI]
  refine ⟨fun c1 => by omega, fun _ => ?_⟩
  refine s_enter K.2.2.2.2.1 hg he (by omega) (by decide) m (fun hd q hx hb _ => kE (by unfold d_nm1; rw [hd]; rfl) q hx (hb.wk Sr_c)) (fun s0 s1 hs _ => ?_)
  have l1 := d_in_le hs
  have K1 := K.to s0
  have F1 : fm (Sc c r) h (up_I h r 1 (nI s0)) := fm.I (Or.inr ⟨rfl, rfl⟩)
  refine ⟨r, K1.2.1, K1.2.2.2.2.1.1, s_enter K1.2.2.2.2.1 hg (by omega) (by omega) (by decide) (m.fm F1) (fun hd q hx hb _ => kE (by unfold d_nm1; rw [hs]; simp only [Option.bind_some]; rw [hd]; rfl) q hx ((hb.wk Sr_c).pre F1)) (fun p0 p1 hp _ => ?_)⟩
  have l2 := d_in_le hp
  rw [uII]
  have K2 := K.to p0
  have F2 : fm (Sc c r) h (up_I h r 1 (nI p0)) := fm.I (Or.inr ⟨rfl, rfl⟩)
  refine ⟨r, K2.2.1, K2.2.2.2.2.1.1, s_oid K2.2.2.2.2.1 hg (by omega) (by omega) (m.fm F2) (fun hd q hx hb _ => kE (by unfold d_nm1; rw [hs]; simp only [Option.bind_some]; rw [hp]; simp only [Option.bind_some]; rw [hd]; rfl) q hx ((hb.wk Sr_c).pre F2)) (fun o q ho _ => ?_)⟩
  have l3 := d_oid_le ho
  rw [uII]
  have K3 := K.to q
  have F3 : fm (Sc c r) h (up_I h r 1 (nI q)) := fm.I (Or.inr ⟨rfl, rfl⟩)
  have hp1 : d_nm1 g a e = (d_in g (if q < p1 ∧ g q = 19 then 19 else 12) q p1).bind fun f => if 1 ≤ f.2 - f.1 ∧ f.2 - f.1 ≤ 64 ∧ f.2 = p1 ∧ p1 = s1 then some f.2 else none := by unfold d_nm1; rw [hs]; simp only [Option.bind_some]; rw [hp]; simp only [Option.bind_some]; rw [ho]; rfl
  have key : m_Cert_names_84 Q E X c (nI e) (nI cnt) (nI s1) (nI p1) r (nI (if q < p1 ∧ g q = 19 then 19 else 12)) (up_I h r 1 (nI q)) := by
    unfold m_Cert_names_84 m_Cert_names_120
    refine ⟨K3.2.2.2.2.1.1, s_skip K3.2.2.2.2.1 hg (by omega) (by omega) (by split <;> decide) (m.fm F3) (fun hd w hx hb _ => kE (by rw [hp1, hd]; rfl) w hx ((hb.wk Sr_c).pre F3)) (fun f t hf _ => ?_)⟩
    have l4 := d_in_le hf
    rw [uII]
    have K4 := K.to t
    have F4 : fm (Sc c r) h (up_I h r 1 (nI t)) := fm.I (Or.inr ⟨rfl, rfl⟩)
    have hp2 : d_nm1 g a e = if 1 ≤ t - f ∧ t - f ≤ 64 ∧ t = p1 ∧ p1 = s1 then some t else none := by rw [hp1, hf]; rfl
    have bad : d_nm1 g a e = none → m_Rd_bad (fun q1 h1 => fx_ext (up_I h r 1 (nI t)) h1 → E q1 h1) (up_I h r 1 (nI t)) := fun hd => s_bad (Sc c r) (m.fm F4) (fun q h1 hb _ => kE hd q h1 (hb.pre F4))
    refine ⟨K4.1, r, K4.2.1, K4.2.2.2.2.1.1, ?_⟩
    simp (disch := omega) only [rI1, lit_nI, nI_add, nI_sub, nI_mul, nI_neg, nI_leI, nI_ltI, nI_eq, nI_clamp, vp_iff, nI_negne, nI_l]
    refine ⟨fun c1 => bad (by rw [hp2, if_neg (by omega)]), fun c1 => ⟨fun c2 => ?_, fun c2 => bad (by rw [hp2, if_neg (by omega)])⟩⟩
    refine s_leave K4.2.2.2.2.1 (by omega) (by omega) (m.fm F4) (fun hn q hx hb _ => kE (by rw [hp2, if_neg (by omega)]) q hx ((hb.wk Sr_c).pre F4)) (fun e1 _ => ?_)
    refine ⟨r, K4.2.1, K4.2.2.2.2.1.1, s_leave K4.2.2.2.2.1 (by omega) (by omega) (m.fm F4) (fun hn q hx hb _ => kE (by rw [hp2, if_neg (by omega)]) q hx ((hb.wk Sr_c).pre F4)) (fun e2 _ => ?_)⟩
    rintro _ rfl
    exact kX t (by rw [hp2, if_pos (by omega)])
  refine ⟨r, K3.2.1, K3.2.2.2.2.1.1, s_tag K3.2.2.2.2.1 (by omega) (by omega) (fun c1 hga _ => ?_) (fun c1 _ => ?_)⟩
  · simp (disch := omega) only [nI_eq]
    refine ⟨fun c2 => ?_, fun c2 => ?_⟩
    · rw [if_neg (by omega)] at key; exact key
    · rw [if_pos ⟨c1, c2⟩] at key; exact key
  · rw [if_neg (by omega)] at key
    exact ⟨fun _ => key, fun c2 => absurd c2 (by decide)⟩
theorem s_names {Q : Int32 → AH → Prop} {E : Nat → AH → Prop} {h : AH} {c r b n a e : Nat} {g : Nat → Nat} (K : CE h c r b n a g) (m : rm h 1 6) (he : e ≤ n) (ha : a ≤ n) (kE : d_names g a e = none → ∀ q h1, bx 14 (Sc c r) h h1 q → E q h1) (kQ : ∀ t k, d_names g a e = some (t, k) → Q (nI k) (up_I h r 1 (nI t))) : m_Cert_names Q E c (nI e) h := by
  have hg := K.2.2.2.2.2.2
  have hn6 := K.2.2.2.2.1.2.2.2.2.2.1
  unfold m_Cert_names
  refine ⟨K.1, r, K.2.1, K.2.2.2.2.1.1, s_enter K.2.2.2.2.1 hg he ha (by decide) m (fun hd q hx hb _ => kE (by unfold d_names; rw [hd]; rfl) q hx (hb.wk Sr_c)) (fun f t hf _ => ?_)⟩
  have l1 := d_in_le hf
  have hp : d_names g a e = (d_nml g t (t + 1) f 0).bind fun q => if 1 ≤ q.2 ∧ q.2 ≤ 8 then some q else none := by unfold d_names; rw [hf]; rfl
  unfold m_Cert_names_13
  refine ⟨fun st => ∃ k a' cnt, st = (nI cnt, up_I h r 1 (nI a')) ∧ t + 1 ≤ k + a' ∧ a' ≤ t ∧ cnt ≤ a' ∧ d_nml g t (t + 1) f 0 = d_nml g t k a' cnt, fun st => t - (hp_I st.2 r 1).toNatClampNeg, ⟨t + 1, f, 0, rfl, by omega, by omega, by omega, rfl⟩, ?_⟩
  rintro _ ⟨k, a', cnt, rfl, k1, k2, k3, k4⟩
  obtain ⟨k, rfl⟩ : ∃ k', k = k' + 1 := ⟨k - 1, by omega⟩
  have K2 := K.to a'
  have F2 : fm (Sc c r) h (up_I h r 1 (nI a')) := fm.I (Or.inr ⟨rfl, rfl⟩)
  by_cases hlt : a' < t
  · have k5 : d_nml g t (t + 1) f 0 = (d_nm1 g a' t).bind fun a'' => d_nml g t k a'' (cnt + 1) := by rw [k4]; simp only [d_nml]; rw [if_pos hlt]
    refine s_nm1 K2 (m.fm F2) hlt (by omega) (by omega) (fun hd q hx hb => kE (by rw [hp, k5, hd]; rfl) q hx (hb.pre F2)) (fun u hu => ?_)
    have l2 := d_nm1_le hu
    rw [uII]
    refine ⟨⟨k, u, cnt + 1, rfl, by omega, by omega, by omega, by rw [k5, hu]; rfl⟩, ?_⟩
    simp (disch := omega) only [rI1, nI_clamp]
    omega
  · have k5 : d_nml g t (t + 1) f 0 = some (a', cnt) := by rw [k4]; simp only [d_nml]; rw [if_neg hlt]
    have hp2 : d_names g a e = if 1 ≤ cnt ∧ cnt ≤ 8 then some (a', cnt) else none := by rw [hp, k5]; rfl
    have bad : d_names g a e = none → m_Rd_bad (fun q1 h1 => fx_ext (up_I h r 1 (nI a')) h1 → E q1 h1) (up_I h r 1 (nI a')) := fun hd => s_bad (Sc c r) (m.fm F2) (fun q h1 hb _ => kE hd q h1 (hb.pre F2))
    unfold m_Cert_names_13_b m_Cert_names_159
    refine ⟨K2.1, r, K2.2.1, K2.2.2.2.2.1.1, ?_⟩
    simp (disch := omega) only [rI1, lit_nI, nI_leI, nI_ltI]
    refine ⟨fun _ => ⟨fun c1 => bad (by rw [hp2, if_neg (by omega)]), fun c1 => ⟨fun c2 => kQ _ _ (by rw [hp2, if_pos (by omega)]), fun c2 => bad (by rw [hp2, if_neg (by omega)])⟩⟩, fun c1 => by omega⟩
