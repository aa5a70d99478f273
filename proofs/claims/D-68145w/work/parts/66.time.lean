set_option maxRecDepth 10000
def d_time2 (g : Nat → Nat) (t y : Nat) : Option (Nat × Int) := (d_dig g (t - 11) 2).bind fun mo => (d_dig g (t - 11 + 2) 2).bind fun d => (d_dig g (t - 11 + 4) 2).bind fun hh => (d_dig g (t - 11 + 6) 2).bind fun mi => (d_dig g (t - 11 + 8) 2).bind fun s =>
  if 1 ≤ mo ∧ mo ≤ 12 ∧ 1 ≤ d ∧ d ≤ d_md y mo ∧ hh ≤ 23 ∧ mi ≤ 59 ∧ s ≤ 59 then some (t, ((d_days y mo d * 24 + hh) * 60 + mi) * 60 + s) else none
def d_timeW (w : Bool) (g : Nat → Nat) (a e : Nat) : Option (Nat × Int) := (d_in g (if w = true then 24 else 23) a e).bind fun p => if p.2 - p.1 = (if w = true then 15 else 13) ∧ g (p.2 - 1) = 90 then (d_dig g p.1 (if w = true then 4 else 2)).bind fun y0 => if w = true ∧ y0 < 2050 then none else d_time2 g p.2 (if w = true then y0 else if y0 < 50 then y0 + 2000 else y0 + 1900) else none
def d_time (g : Nat → Nat) (a e : Nat) : Option (Nat × Int) := if a < e ∧ g a = 24 then d_timeW true g a e else d_timeW false g a e
theorem d_time2_t {g : Nat → Nat} {t y t' : Nat} {z : Int} (h : d_time2 g t y = some (t', z)) : t' = t := by
  unfold d_time2 at h
  cases h1 : d_dig g (t - 11) 2 with
  | none => rw [h1] at h; cases h
  | some mo =>
  cases h2 : d_dig g (t - 11 + 2) 2 with
  | none => rw [h1, h2] at h; cases h
  | some d =>
  cases h3 : d_dig g (t - 11 + 4) 2 with
  | none => rw [h1, h2, h3] at h; cases h
  | some hh =>
  cases h4 : d_dig g (t - 11 + 6) 2 with
  | none => rw [h1, h2, h3, h4] at h; cases h
  | some mi =>
  cases h5 : d_dig g (t - 11 + 8) 2 with
  | none => rw [h1, h2, h3, h4, h5] at h; cases h
  | some s =>
  rw [h1, h2, h3, h4, h5] at h
  simp only [Option.bind_some] at h
  split at h
  · cases h; rfl
  · cases h
theorem d_timeW_le {w : Bool} {g : Nat → Nat} {a e t : Nat} {z : Int} (h : d_timeW w g a e = some (t, z)) : a + 2 ≤ t ∧ t ≤ e := by
  unfold d_timeW at h
  cases h1 : d_in g (if w = true then 24 else 23) a e with
  | none => rw [h1] at h; cases h
  | some p =>
  have := d_in_le h1
  rw [h1] at h
  simp only [Option.bind_some] at h
  by_cases hc : p.2 - p.1 = (if w = true then 15 else 13) ∧ g (p.2 - 1) = 90
  · rw [if_pos hc] at h
    cases h2 : d_dig g p.1 (if w = true then 4 else 2) with
    | none => rw [h2] at h; cases h
    | some y0 =>
    rw [h2] at h
    simp only [Option.bind_some] at h
    by_cases hc2 : w = true ∧ y0 < 2050
    · rw [if_pos hc2] at h; cases h
    · rw [if_neg hc2] at h
      have := d_time2_t h
      omega
  · rw [if_neg hc] at h; cases h
theorem d_time_le {g : Nat → Nat} {a e t : Nat} {z : Int} (h : d_time g a e = some (t, z)) : a + 2 ≤ t ∧ t ≤ e := by
  unfold d_time at h
  split at h <;> exact d_timeW_le h
theorem d_md_le (y mo : Nat) : d_md y mo ≤ 31 := by
  unfold d_md
  split
  · split <;> omega
  · split <;> omega
theorem s_time2 {Q : Int64 → AH → Prop} {E : Nat → AH → Prop} {h : AH} {c r b n a t y : Nat} {g : Nat → Nat} (K : CE h c r b n a g) (m : rm h 1 6) (ht : 11 ≤ t) (hn : t ≤ n) (hy0 : 1 ≤ y) (hy : y < 10000) (kE : d_time2 g t y = none → ∀ q h1, bx 14 (Sc c r) h h1 q → E q h1) (kQ : ∀ z, d_time2 g t y = some (t, z) → Q (lZ z) (up_I h r 1 (nI t))) : m_Cert_time_159 Q E c (nI t) (nI (t - 11)) (nI y) h := by
  have hn6 := K.2.2.2.2.1.2.2.2.2.2.1
  have hr := K.2.1
  have hr9 := K.2.2.2.2.1.1
  unfold m_Cert_time_159 m_Cert_time_266
  simp only [lit_nI, nI_add]
  refine ⟨K.1, s_digits K m (by omega) (by omega) (fun h1 q hx hb _ => kE (by unfold d_time2; rw [h1]; rfl) q hx hb) (fun mo h1 l1 _ => ?_)⟩
  refine s_digits K m (by omega) (by omega) (fun h2 q hx hb _ => kE (by unfold d_time2; rw [h1, h2]; rfl) q hx hb) (fun d h2 l2 _ => ?_)
  refine s_digits K m (by omega) (by omega) (fun h3 q hx hb _ => kE (by unfold d_time2; rw [h1, h2, h3]; rfl) q hx hb) (fun hh h3 l3 _ => ?_)
  refine s_digits K m (by omega) (by omega) (fun h4 q hx hb _ => kE (by unfold d_time2; rw [h1, h2, h3, h4]; rfl) q hx hb) (fun mi h4 l4 _ => ?_)
  refine s_digits K m (by omega) (by omega) (fun h5 q hx hb _ => kE (by unfold d_time2; rw [h1, h2, h3, h4, h5]; rfl) q hx hb) (fun s h5 l5 _ => ?_)
  have hp : d_time2 g t y = if 1 ≤ mo ∧ mo ≤ 12 ∧ 1 ≤ d ∧ d ≤ d_md y mo ∧ hh ≤ 23 ∧ mi ≤ 59 ∧ s ≤ 59 then some (t, ((d_days y mo d * 24 + hh) * 60 + mi) * 60 + s) else none := by unfold d_time2; rw [h1, h2, h3, h4, h5]; rfl
  have bad : d_time2 g t y = none → m_Rd_bad (fun q1 h1 => fx_ext h h1 → E q1 h1) h := fun hd => s_bad (Sc c r) m (fun q h1 hb _ => kE hd q h1 hb)
  have hmd := d_md_le y mo
  simp (disch := omega) only [nI_leI, nI_ltI]
  refine ⟨fun c1 => bad (by rw [hp, if_neg (by omega)]), fun c1 => ⟨fun c2 => bad (by rw [hp, if_neg (by omega)]), fun c2 => ⟨fun c3 => bad (by rw [hp, if_neg (by omega)]), fun c3 => ?_⟩⟩⟩
  have l2' := d_dig_lt h2
  refine s_monthDays hy (by omega) (fun _ => ?_)
  simp (disch := omega) only [nI_leI, nI_ltI]
  refine ⟨fun c4 => bad (by rw [hp, if_neg (by omega)]), fun c4 => ⟨fun c5 => bad (by rw [hp, if_neg (by omega)]), fun c5 => ⟨fun c6 => bad (by rw [hp, if_neg (by omega)]), fun c6 => ⟨fun c7 => ?_, fun c7 => bad (by rw [hp, if_neg (by omega)])⟩⟩⟩⟩
  refine ⟨r, hr, hr9, ?_⟩
  rintro _ rfl
  refine s_days hy0 (by omega) (by omega) (by omega) (fun _ => ?_)
  rw [show (24 : Int64) = lZ 24 from rfl, show (60 : Int64) = lZ 60 from rfl]
  simp (disch := omega) only [lZ_nI, lZ_add, lZ_mul]
  exact kQ _ (by rw [hp, if_pos (by omega)])
theorem s_timeW {Q : Int64 → AH → Prop} {E : Nat → AH → Prop} {h : AH} {c r b n a e : Nat} {g : Nat → Nat} (w : Bool) (K : CE h c r b n a g) (m : rm h 1 6) (he : e ≤ n) (ha : a ≤ n) (kE : d_timeW w g a e = none → ∀ q h1, bx 14 (Sc c r) h h1 q → E q h1) (kQ : ∀ t z, d_timeW w g a e = some (t, z) → Q (lZ z) (up_I h r 1 (nI t))) : m_Cert_time_18 Q E c (nI e) (if w = true then 1 else 0) h := by
  have hr := K.2.1
  obtain ⟨r1, r2, r3, r4, r5, r6, r7⟩ := id K.2.2.2.2.1
  have hc8 := K.1
  unfold m_Cert_time_18 m_Cert_time_34
  refine ⟨hc8, r, hr, ?_⟩
  have key : m_Cert_time_34 Q E c (nI e) (if w = true then 1 else 0) r (nI (if w = true then 24 else 23)) h := by
    unfold m_Cert_time_34
    refine ⟨r1, s_enter K.2.2.2.2.1 K.2.2.2.2.2.2 he ha (by split <;> decide) m (fun hd q h1 hb _ => kE (by unfold d_timeW; rw [hd]; rfl) q h1 (hb.wk Sr_c)) (fun f t hd _ => ?_)⟩
    have hle := d_in_le hd
    have F : fm (Sc c r) h (up_I h r 1 (nI f)) := fm.I (Or.inr ⟨rfl, rfl⟩)
    have K2 := K.to f
    obtain ⟨t1, t2, t3, t4, t5, t6, t7⟩ := id K2.2.2.2.2.1
    have hp : d_timeW w g a e = if t - f = (if w = true then 15 else 13) ∧ g (t - 1) = 90 then (d_dig g f (if w = true then 4 else 2)).bind fun y0 => if w = true ∧ y0 < 2050 then none else d_time2 g t (if w = true then y0 else if y0 < 50 then y0 + 2000 else y0 + 1900) else none := by unfold d_timeW; rw [hd]; rfl
    have bad : d_timeW w g a e = none → m_Rd_bad (fun q1 h1 => fx_ext (up_I h r 1 (nI f)) h1 → E q1 h1) (up_I h r 1 (nI f)) := fun hd => s_bad (Sc c r) (m.fm F) (fun q h1 hb _ => kE hd q h1 (hb.pre F))
    have fin : ∀ y0, d_dig g f (if w = true then 4 else 2) = some y0 → (t - f = (if w = true then 15 else 13) ∧ g (t - 1) = 90) → m_Cert_time_116 Q E c (if w = true then 1 else 0) (nI t) (nI (t - 11)) (nI y0) (up_I h r 1 (nI f)) := fun y0 hy hc => by
      have hyl := d_dig_lt hy
      rw [if_pos hc, hy] at hp
      simp only [Option.bind_some] at hp
      unfold m_Cert_time_116 m_Cert_time_134 m_Cert_time_156
      simp only [lit_nI, nI_add]
      cases w with
      | true =>
        simp only [if_true, Nat.reducePow] at *
        refine ⟨fun c1 => absurd c1 (by decide), fun _ => ?_⟩
        simp (disch := omega) only [nI_leI]
        refine ⟨fun c2 => ⟨fun _ => ?_, fun c3 => absurd c3 (by decide)⟩, fun c2 => bad (by rw [hp, if_pos ⟨trivial, by omega⟩])⟩
        rw [if_neg (by omega)] at hp
        refine s_time2 K2 (m.fm F) (by omega) (by omega) (by omega) (by omega) (fun hd q h1 hb => kE (by rw [hp, hd]) q h1 (hb.pre F)) (fun z hz => ?_)
        rw [uII]
        exact kQ t z (by rw [hp, hz])
      | false =>
        simp only [Bool.false_eq_true, if_false, false_and, Nat.reducePow] at *
        refine ⟨fun _ => ⟨fun c3 => absurd trivial c3, fun _ => ?_⟩, fun c1 => absurd trivial c1⟩
        simp (disch := omega) only [nI_leI]
        refine ⟨fun c2 => ?_, fun c2 => ?_⟩
        · rintro _ rfl
          rw [if_neg (by omega)] at hp
          refine s_time2 K2 (m.fm F) (by omega) (by omega) (by omega) (by omega) (fun hd q h1 hb => kE (by rw [hp, hd]) q h1 (hb.pre F)) (fun z hz => ?_)
          rw [uII]
          exact kQ t z (by rw [hp, hz])
        · rintro _ rfl
          rw [if_pos (by omega)] at hp
          refine s_time2 K2 (m.fm F) (by omega) (by omega) (by omega) (by omega) (fun hd q h1 hb => kE (by rw [hp, hd]) q h1 (hb.pre F)) (fun z hz => ?_)
          rw [uII]
          exact kQ t z (by rw [hp, hz])
    have mid : m_Cert_time_59 Q E c (if w = true then 1 else 0) (nI t) (nI (t - f)) (nI (if w = true then 15 else 13)) (up_I h r 1 (nI f)) := by
      unfold m_Cert_time_59 m_Cert_time_75
      have hw : (if w = true then 15 else 13) < 2 ^ 31 := by split <;> decide
      rw [nI_eq (by omega) hw]
      refine ⟨fun c1 => bad (by rw [hp, if_neg (fun q => c1 q.1)]), fun c1 => ⟨hc8, b, K2.2.2.1, t4, ?_⟩⟩
      have hw2 : 13 ≤ (if w = true then 15 else 13) := by split <;> decide
      simp (disch := omega) only [lit_nI, nI_sub, vp_iff, nI_clamp]
      refine ⟨by omega, fun h8 => ?_⟩
      rw [b_eq h8 (by decide), t7 _ (by omega)]
      refine ⟨fun c2 => ?_, fun c2 => bad (by rw [hp, if_neg (fun q => c2 q.2)])⟩
      rintro _ rfl
      cases w with
      | true =>
        refine ⟨fun c3 => absurd c3 (by decide), fun _ => ⟨r, K2.2.1, t1, ?_⟩⟩
        rw [t3]
        exact s_digits K2 (m.fm F) (by simp only [if_true] at c1; omega) (by decide) (fun hd q h1 hb _ => kE (by rw [hp, if_pos ⟨c1, c2⟩, if_pos rfl, hd]; rfl) q h1 (hb.pre F)) (fun v hv hl _ => fin v hv ⟨c1, c2⟩)
      | false =>
        refine ⟨fun _ => ⟨r, K2.2.1, t1, ?_⟩, fun c3 => absurd rfl c3⟩
        rw [t3]
        exact s_digits K2 (m.fm F) (by simp only [Bool.false_eq_true, if_false] at c1; omega) (by decide) (fun hd q h1 hb _ => kE (by rw [hp, if_pos ⟨c1, c2⟩, if_neg (by decide), hd]; rfl) q h1 (hb.pre F)) (fun v hv hl _ => fin v hv ⟨c1, c2⟩)
    refine ⟨hc8, r, K2.2.1, t1, ?_⟩
    rw [t3, nI_sub (by omega)]
    cases w with
    | true => exact ⟨fun c3 => absurd c3 (by decide), fun _ => mid⟩
    | false => exact ⟨fun _ => mid, fun c3 => absurd rfl c3⟩
  cases w with
  | true => exact ⟨fun c3 => absurd c3 (by decide), fun _ => key⟩
  | false => exact ⟨fun _ => key, fun c3 => absurd rfl c3⟩
theorem s_time {Q : Int64 → AH → Prop} {E : Nat → AH → Prop} {h : AH} {c r b n a e : Nat} {g : Nat → Nat} (K : CE h c r b n a g) (m : rm h 1 6) (he : e ≤ n) (ha : a ≤ n) (kE : d_time g a e = none → ∀ q h1, bx 14 (Sc c r) h h1 q → E q h1) (kQ : ∀ t z, d_time g a e = some (t, z) → Q (lZ z) (up_I h r 1 (nI t))) : m_Cert_time Q E c (nI e) h := by
  have hn6 := K.2.2.2.2.1.2.2.2.2.2.1
  unfold m_Cert_time
  unfold d_time at kE kQ
  refine ⟨K.1, r, K.2.1, K.2.2.2.2.1.1, s_tag K.2.2.2.2.1 he (by omega) (fun hlt hga _ => ?_) (fun hge _ => ?_)⟩
  · simp (disch := omega) only [lit_nI, nI_eq]
    refine ⟨fun c1 => ?_, fun c1 => ?_⟩
    · rw [if_neg (by omega)] at kE kQ
      exact s_timeW false K m he ha kE kQ
    · rw [if_pos ⟨hlt, c1⟩] at kE kQ
      exact s_timeW true K m he ha kE kQ
  · rw [if_neg (by omega)] at kE kQ
    exact ⟨fun _ => s_timeW false K m he ha kE kQ, fun c1 => absurd c1 (by decide)⟩
