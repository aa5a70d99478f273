set_option maxRecDepth 10000
def tz74 (x0 x1 : Int32) : Int32 := x1 + sh_iu x0 1
def tz62 (x0 x1 : Int32) : Int32 := if x0 ≤ 4 then tz74 x0 x1 else tz74 (sh_iu x0 2) (x1 + 2)
def tz49 (x0 x1 : Int32) : Int32 := if x0 ≤ 16 then tz62 x0 x1 else tz62 (sh_iu x0 4) (x1 + 4)
def tz34 (x0 x1 : Int32) : Int32 := if x0 ≤ 256 then tz49 x0 x1 else tz49 (sh_iu x0 8) (x1 + 8)
def tz1 (i : Int32) : Int32 := if 0 < i then (if i ≤ 65536 then tz34 i 1 else tz34 (sh_iu i 16) (1 + 16)) else i &&& 32
def tz (x : Int32) : Int32 := tz1 ((x ^^^ (-1)) &&& (x - 1))
theorem s_tz62 {Q : Int32 → AH → Prop} {h : AH} {x0 x1 : Int32} (k : Q (tz62 x0 x1) h) : m_Int_numberOfTrailingZeros_62 Q x0 x1 h := by
  unfold m_Int_numberOfTrailingZeros_62 m_Int_numberOfTrailingZeros_74
  unfold tz62 tz74 at k
  refine ⟨fun c => ?_, fun c => ?_⟩
  · rw [if_pos c] at k; exact k
  · rw [if_neg c] at k; rintro _ rfl _ rfl; exact k
theorem s_tz49 {Q : Int32 → AH → Prop} {h : AH} {x0 x1 : Int32} (k : Q (tz49 x0 x1) h) : m_Int_numberOfTrailingZeros_49 Q x0 x1 h := by
  unfold m_Int_numberOfTrailingZeros_49
  unfold tz49 at k
  refine ⟨fun c => ?_, fun c => ?_⟩
  · rw [if_pos c] at k; exact s_tz62 k
  · rw [if_neg c] at k; rintro _ rfl _ rfl; exact s_tz62 k
theorem s_tz34 {Q : Int32 → AH → Prop} {h : AH} {x0 x1 : Int32} (k : Q (tz34 x0 x1) h) : m_Int_numberOfTrailingZeros_34 Q x0 x1 h := by
  unfold m_Int_numberOfTrailingZeros_34
  unfold tz34 at k
  refine ⟨fun c => ?_, fun c => ?_⟩
  · rw [if_pos c] at k; exact s_tz49 k
  · rw [if_neg c] at k; rintro _ rfl _ rfl; exact s_tz49 k
theorem s_tz {Q : Int32 → AH → Prop} {h : AH} {x : Int32} (k : Q (tz x) h) : m_Int_numberOfTrailingZeros Q x h := by
  unfold m_Int_numberOfTrailingZeros
  unfold tz tz1 at k
  rintro _ rfl
  refine ⟨fun c => ?_, fun c => ?_⟩
  · rw [if_pos c] at k
    refine ⟨fun c2 => ?_, fun c2 => ?_⟩
    · rw [if_pos c2] at k; exact s_tz34 k
    · rw [if_neg c2] at k; rintro _ rfl _ rfl; exact s_tz34 k
  · rw [if_neg c] at k; exact k
def d_tzf : Nat → Nat → Nat
  | 0, _ => 0
  | k + 1, u => if u % 2 = 1 then 0 else d_tzf k (u / 2) + 1
def d_tz (u : Nat) : Nat := d_tzf 8 u
theorem tz_eq : ∀ u, u < 256 → 1 ≤ u → tz (nI u) = nI (d_tz u) ∧ d_tz u < 8 := by decide +kernel
def d_usage (g : Nat → Nat) (a e : Nat) (F : Nat → Int32) : Option (Nat × (Nat → Int32)) := (d_in g 3 a e).bind fun p => if (p.2 - p.1 = 2 ∨ p.2 - p.1 = 3 ∧ g (p.1 + 2) = 128) ∧ g (p.2 - 1) ≠ 0 ∧ g p.1 = d_tz (g (p.2 - 1)) then some (p.2, up F 22 (nI (g (p.1 + 1)))) else none
theorem s_usage {Q : AH → Prop} {E : Nat → AH → Prop} {h : AH} {c r b n a e : Nat} {g : Nat → Nat} (K : CE h c r b n a g) (m : rm h 1 6) (he : e ≤ n) (ha : a ≤ n) (kE : d_usage g a e (hp_I h c) = none → ∀ q h1, bx 14 (Sc c r) h h1 q → E q h1) (kQ : ∀ a' F', d_usage g a e (hp_I h c) = some (a', F') → ∀ h1, CS h h1 c r a' F' (hp_L h c) → Q h1) : m_Cert_usage Q E c (nI e) h := by
  have hg := K.2.2.2.2.2.2
  have hne := K.ne
  have hn6 := K.2.2.2.2.1.2.2.2.2.2.1
  unfold m_Cert_usage m_Cert_usage_54
  refine ⟨K.1, r, K.2.1, K.2.2.2.2.1.1, s_enter K.2.2.2.2.1 hg he ha (by decide) m (fun hd q hx hb _ => kE (by unfold d_usage; rw [hd]; rfl) q hx (hb.wk Sr_c)) (fun p0 p1 hp _ => ?_)⟩
  have l1 := d_in_le hp
  have X1 : CS h (up_I h r 1 (nI p0)) c r p0 (hp_I h c) (hp_L h c) := (CS.rf K.2.2.2.2.1.2.2.1).at hne
  have K1 := K.cs X1
  have hp1 : d_usage g a e (hp_I h c) = if (p1 - p0 = 2 ∨ p1 - p0 = 3 ∧ g (p0 + 2) = 128) ∧ g (p1 - 1) ≠ 0 ∧ g p0 = d_tz (g (p1 - 1)) then some (p1, up (hp_I h c) 22 (nI (g (p0 + 1)))) else none := by unfold d_usage; rw [hp]; rfl
  generalize up_I h r 1 (nI p0) = h1 at X1 K1 ⊢
  have bad : d_usage g a e (hp_I h c) = none → m_Rd_bad (fun q1 hx => fx_ext h1 hx → E q1 hx) h1 := fun hd => s_bad (Sc c r) (m.fm X1.1) (fun q hx hb _ => kE hd q hx (hb.pre X1.1))
  obtain ⟨t1, t2, t3, t4, t5, t6, t7⟩ := id K1.2.2.2.2.1
  have key : (p1 - p0 = 2 ∨ p1 - p0 = 3 ∧ g (p0 + 2) = 128) → m_Cert_usage_58 Q E c (nI p1) h1 := fun hc => by
    unfold m_Cert_usage_58 m_Cert_usage_97
    refine ⟨K1.1, b, K1.2.2.1, t4, ?_⟩
    simp (disch := omega) only [lit_nI, nI_add, nI_sub, nI_mul, nI_neg, nI_leI, nI_ltI, nI_eq, nI_clamp, vp_iff, nI_negne, nI_l]
    refine ⟨by omega, fun h8 => ?_⟩
    have e1 := by8_and h8
    have e2 := by8_lt h8
    rw [t7 _ (by omega)] at e1 e2
    rw [show nI 255 = (255 : Int32) from rfl, e1]
    rintro _ rfl
    simp (disch := omega) only [nI_eq]
    refine ⟨fun c1 => bad (by rw [hp1, if_neg (by omega)]), fun c1 => ⟨r, K1.2.1, t1, ?_⟩⟩
    rw [t3]
    simp (disch := omega) only [nI_clamp, vp_iff]
    refine ⟨by omega, fun h9 => s_tz ?_⟩
    obtain ⟨z1, z2⟩ := tz_eq (g (p1 - 1)) e2 (by omega)
    rw [z1, b_eq h9 (by omega), t7 _ (by omega)]
    intro _
    refine ⟨fun c2 => ⟨b, K1.2.2.1, r, K1.2.1, t1, t4, ?_⟩, fun c2 => bad (by rw [hp1, if_neg (by omega)])⟩
    rw [t3]
    simp (disch := omega) only [lit_nI, nI_add, nI_sub, nI_mul, nI_neg, nI_leI, nI_ltI, nI_eq, nI_clamp, vp_iff, nI_negne, nI_l]
    refine ⟨by omega, fun h10 => ?_⟩
    have e3 := by8_and h10
    rw [t7 _ (by omega)] at e3
    rw [show nI 255 = (255 : Int32) from rfl, e3]
    rintro _ rfl _ rfl
    exact kQ _ _ (by rw [hp1, if_pos ⟨hc, c1, c2⟩]) _ ((X1.I hne).at hne)
  refine ⟨r, K1.2.1, K1.2.2.2.2.1.1, ?_⟩
  rw [t3]
  simp (disch := omega) only [lit_nI, nI_add, nI_sub, nI_mul, nI_neg, nI_leI, nI_ltI, nI_eq, nI_clamp, vp_iff, nI_negne, nI_l]
  rintro _ rfl
  simp (disch := omega) only [lit_nI, nI_add, nI_sub, nI_mul, nI_neg, nI_leI, nI_ltI, nI_eq, nI_clamp, vp_iff, nI_negne, nI_l]
  refine ⟨fun c1 => bad (by rw [hp1, if_neg (by omega)]), fun c1 => ⟨fun c2 => bad (by rw [hp1, if_neg (by omega)]), fun c2 => ⟨fun c3 => key (by omega), fun c3 => ⟨b, K1.2.2.1, t4, by omega, fun h8 => ?_⟩⟩⟩⟩
  rw [show (-nI 128 : Int32) = -128 from rfl, b_m128 h8, t7 _ (by omega)]
  exact ⟨fun c4 => key (by omega), fun c4 => bad (by rw [hp1, if_neg (by omega)])⟩
/-! purposes -/
def d_ppu (g : Nat → Nat) (q : Nat × Nat) (F : Nat → Int32) : Nat → Int32 := if d_is g (ko 6) 8 q.1 q.2 = true then up (if d_is g (ko 5) 8 q.1 q.2 = true then up F 23 (F 23 ||| 1) else F) 23 ((if d_is g (ko 5) 8 q.1 q.2 = true then up F 23 (F 23 ||| 1) else F) 23 ||| 2) else (if d_is g (ko 5) 8 q.1 q.2 = true then up F 23 (F 23 ||| 1) else F)
def d_ppl (g : Nat → Nat) (e : Nat) : Nat → Nat → (Nat → Int32) → Option (Nat × (Nat → Int32))
  | 0, _, _ => none
  | k + 1, a, F => if a < e then (d_oid g a e).bind fun q => d_ppl g e k q.2 (d_ppu g q F) else some (a, F)
def d_purp (g : Nat → Nat) (a e : Nat) (F : Nat → Int32) : Option (Nat × (Nat → Int32)) := (d_in g 48 a e).bind fun p => if p.1 = p.2 then none else d_ppl g p.2 (p.2 + 1) p.1 (up F 23 0)
theorem s_purp {Q : AH → Prop} {E : Nat → AH → Prop} {h : AH} {c r b n a e : Nat} {g : Nat → Nat} (K : CE h c r b n a g) (m : rm h 1 6) (he : e ≤ n) (ha : a ≤ n) (kE : d_purp g a e (hp_I h c) = none → ∀ q h1, bx 14 (Sc c r) h h1 q → E q h1) (kQ : ∀ a' F', d_purp g a e (hp_I h c) = some (a', F') → a' ≤ e → ∀ h1, CS h h1 c r a' F' (hp_L h c) → Q h1) : m_Cert_purposes Q E c (nI e) h := by
  have hg := K.2.2.2.2.2.2
  have hne := K.ne
  have hn6 := K.2.2.2.2.1.2.2.2.2.2.1
  unfold m_Cert_purposes
  refine ⟨K.1, r, K.2.1, K.2.2.2.2.1.1, s_enter K.2.2.2.2.1 hg he ha (by decide) m (fun hd q hx hb _ => kE (by unfold d_purp; rw [hd]; rfl) q hx (hb.wk Sr_c)) (fun p0 p1 hp _ => ?_)⟩
  have l1 := d_in_le hp
  have X1 : CS h (up_I h r 1 (nI p0)) c r p0 (hp_I h c) (hp_L h c) := (CS.rf K.2.2.2.2.1.2.2.1).at hne
  have K1 := K.cs X1
  have hp1 : d_purp g a e (hp_I h c) = if p0 = p1 then none else d_ppl g p1 (p1 + 1) p0 (up (hp_I h c) 23 0) := by unfold d_purp; rw [hp]; rfl
  generalize up_I h r 1 (nI p0) = h1 at X1 K1 ⊢
  refine ⟨r, K1.2.1, K1.2.2.2.2.1.1, ?_⟩
  rw [K1.2.2.2.2.1.2.2.1, nI_eq (by omega) (by omega)]
  refine ⟨fun c1 => ?_, fun c1 => s_bad (Sc c r) (m.fm X1.1) (fun q hx hb _ => kE (by rw [hp1, if_pos c1]) q hx (hb.pre X1.1))⟩
  rw [if_neg c1] at hp1
  rintro _ rfl
  have X2 := X1.I (j := 23) (v := 0) hne
  generalize up_I h1 c 23 0 = h2 at X2 ⊢
  unfold m_Cert_purposes_31
  refine ⟨fun st => ∃ k a' F, CS h st c r a' F (hp_L h c) ∧ p1 + 1 ≤ k + a' ∧ a' ≤ p1 ∧ d_purp g a e (hp_I h c) = d_ppl g p1 k a' F, fun st => p1 - (hp_I st r 1).toNatClampNeg, ⟨p1 + 1, p0, _, X2, by omega, by omega, hp1⟩, ?_⟩
  rintro st ⟨k, a', F, X3, k1, k2, k3⟩
  obtain ⟨k, rfl⟩ : ∃ k', k = k' + 1 := ⟨k - 1, by omega⟩
  have K3 := K.cs X3
  have e3 := X3.2.1
  unfold m_Cert_purposes_31_b
  refine ⟨K3.1, r, K3.2.1, K3.2.2.2.2.1.1, ?_⟩
  rw [e3, nI_leI (by omega) (by omega)]
  refine ⟨fun c2 => ?_, fun c2 => ?_⟩
  · have k5 : d_purp g a e (hp_I h c) = some (a', F) := by rw [k3]; simp only [d_ppl]; rw [if_neg (by omega)]
    exact kQ _ _ k5 (by omega) _ X3
  · have k5 : d_purp g a e (hp_I h c) = (d_oid g a' p1).bind fun q => d_ppl g p1 k q.2 (d_ppu g q F) := by rw [k3]; simp only [d_ppl]; rw [if_pos (by omega)]
    refine s_oid K3.2.2.2.2.1 hg (by omega) (by omega) (m.fm X3.1) (fun hd q hx hb _ => kE (by rw [k5, hd]; rfl) q hx ((hb.wk Sr_c).pre X3.1)) (fun o t ho _ => ?_)
    have l2 := d_oid_le ho
    rw [ho] at k5
    simp only [Option.bind_some] at k5
    have X4 := X3.at (a' := t) hne
    generalize up_I st r 1 (nI t) = h4 at X4 ⊢
    have K4 := K.cs X4
    have last : ∀ h5 F', CS h h5 c r t F' (hp_L h c) → d_ppu g (o, t) F = (if d_is g (ko 6) 8 o t = true then up F' 23 (F' 23 ||| 2) else F') → m_Cert_purposes_75 Q E (fun s' => (∃ k a' F, CS h s' c r a' F (hp_L h c) ∧ p1 + 1 ≤ k + a' ∧ a' ≤ p1 ∧ d_purp g a e (hp_I h c) = d_ppl g p1 k a' F) ∧ p1 - (hp_I s' r 1).toNatClampNeg < p1 - (hp_I st r 1).toNatClampNeg) c (nI p1) (nI o) h5 := fun h5 F' X5 hu => by
      have K5 := K.cs X5
      unfold m_Cert_purposes_75 m_Cert_purposes_99
      obtain ⟨e1, e2, e4⟩ := K5.2.2.2.2.2.1.b 6 (by decide)
      refine ⟨K5.1, r, K5.2.1, K5.2.2.2.2.1.1, s_is (o := ko 6) (len := 8) K5.2.2.2.2.1 e1 e2 e4 (by decide) (by omega) (by omega) (fun hi _ _ => ⟨fun c => absurd c (by decide), fun _ => ?_⟩) (fun hi _ _ => ⟨fun _ => ?_, fun c => absurd rfl c⟩)⟩
      · rintro _ rfl
        rw [X5.2.2.1]
        have X6 := X5.I (j := 23) (v := F' 23 ||| 2) hne
        refine ⟨⟨k, t, _, X6, by omega, by omega, by rw [k5, hu, if_pos hi]⟩, ?_⟩
        rw [X6.2.1, e3, nI_clamp (by omega), nI_clamp (by omega)]
        omega
      · refine ⟨⟨k, t, _, X5, by omega, by omega, by rw [k5, hu, if_neg (by rw [hi]; decide)]⟩, ?_⟩
        rw [X5.2.1, e3, nI_clamp (by omega), nI_clamp (by omega)]
        omega
    obtain ⟨e1, e2, e4⟩ := K4.2.2.2.2.2.1.b 5 (by decide)
    refine ⟨r, K4.2.1, K4.2.2.2.2.1.1, s_is (o := ko 5) (len := 8) K4.2.2.2.2.1 e1 e2 e4 (by decide) (by omega) (by omega) (fun hi _ _ => ⟨fun c => absurd c (by decide), fun _ => ?_⟩) (fun hi _ _ => ⟨fun _ => ?_, fun c => absurd rfl c⟩)⟩
    · rintro _ rfl
      rw [X4.2.2.1]
      exact last _ _ (X4.I hne) (by unfold d_ppu; rw [if_pos hi])
    · exact last _ _ X4 (by unfold d_ppu; simp only [hi, Bool.false_eq_true, if_false])
