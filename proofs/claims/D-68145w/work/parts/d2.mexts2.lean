set_option maxRecDepth 10000
theorem s_oexts137 {Q : AH → Prop} {h0 h : AH} {m o tp how al cm e : Nat} {t : Nat → Nat} {p c : List Nat} (O : OS h0 h m o (p ++ c)) (T : TP h0 m o tp e t) (hh : how < 2048) (hal : al = p.length) (hl : p.length + c.length < 70000) (he : e ≤ 20000) (hcm : cm < e) (k : ∀ h1, OS h0 h1 m o (p ++ e_tlv 163 (e_tlv 48 (c ++ (e_x3 t cm e ++ (e_x4 how ++ e_x5 how))))) → Q h1) : m_M_putExtensions_137 Q m (nI how) (nI al) (nI (p ++ c).length) (nI cm) h := by
  have h3 : e_x3 t cm e = e_ext 3 false (e_tlv 48 (e_hosts t (cm + 1) e)) := by unfold e_x3; rw [if_pos hcm]
  have l3 := e_x3_le (t := t) (cm := cm) (e := e)
  have lh := e_hosts_le (t := t) (a := cm + 1) (e := e)
  -- i: a comma (or the end); d what was written
  refine ⟨fun st => ∃ i d, cm ≤ i ∧ i ≤ e ∧ st.1 = nI i ∧ d ++ (if i < e then e_hosts t (i + 1) e else []) = e_hosts t (cm + 1) e ∧ OS h0 st.2 m o (p ++ c ++ d), fun st => e - st.1.toNatClampNeg, ⟨cm, [], Nat.le_refl _, by omega, rfl, by rw [if_pos hcm]; rfl, by simpa using O⟩, ?_⟩
  rintro ⟨v, s⟩ ⟨i, d, hi1, hi2, hv, hd, Os⟩
  simp only at hv Os ⊢
  subst hv
  have dl : d.length ≤ 2 * (e + 1 - (cm + 1)) := by
    have := congrArg List.length hd
    rw [List.length_append] at this
    omega
  obtain ⟨a1, a2, a3, a4, a5⟩ := T.at Os
  refine ⟨Os.k.1, ?_⟩
  rw [a4, nI_leI (by omega) (by omega)]
  refine ⟨fun c1 => ?_, fun c1 => ?_⟩
  · rw [if_neg (by omega), List.append_nil] at hd
    subst hd
    have t1 := e_tlv_le (t := 48) (c := e_hosts t (cm + 1) e)
    refine s_owrap (tag := 48) (p := p ++ c) Os rfl (by rw [List.length_append]; omega) (by decide) (fun h2 O2 _ => ?_)
    refine s_oext (i := 3) (crit := false) O2 rfl (by rw [List.length_append]; omega) rfl kl3.2.2.1 x17_ok (fun h4 O4 _ => ?_)
    rw [← h3] at O4
    refine s_oexts224 (p := p) (c := c ++ e_x3 t cm e) (by simpa using O4) hh hal (by rw [List.length_append]; omega) (fun h5 O5 => k h5 ?_)
    rw [List.append_assoc] at O5
    exact O5
  rw [if_pos (by omega)] at hd
  rw [nI_1, Os.l]
  rintro _ rfl _ rfl
  have lpd : (p ++ c ++ d).length = p.length + c.length + d.length := by rw [List.length_append, List.length_append]
  refine ⟨fun st => ∃ q, i + 1 ≤ q ∧ q ≤ e ∧ st.1 = nI q ∧ (∀ j, i + 1 ≤ j → j < q → t j ≠ 44) ∧ OS h0 st.2 m o (p ++ c ++ d ++ e_sub t (i + 1) (q - (i + 1))), fun st => e - st.1.toNatClampNeg, ⟨i + 1, Nat.le_refl _, by omega, rfl, fun j j1 j2 => by omega, by simpa [e_sub] using Os⟩, ?_⟩
  rintro ⟨v, s2⟩ ⟨q, hq1, hq2, hv, hn, O2⟩
  simp only at hv O2 ⊢
  subst hv
  obtain ⟨b1, b2, b3, b4, b5⟩ := T.at O2
  have t7 := T.2.2.2.2.2.2.1
  have lq : (p ++ c ++ d ++ e_sub t (i + 1) (q - (i + 1))).length = p.length + c.length + d.length + (q - (i + 1)) := by rw [List.length_append, lpd, e_sub_len]
  have fin : (q = e ∨ t q = 44) → m_M_putExtensions_193 Q (fun s' => (∃ i d, cm ≤ i ∧ i ≤ e ∧ s'.1 = nI i ∧ d ++ (if i < e then e_hosts t (i + 1) e else []) = e_hosts t (cm + 1) e ∧ OS h0 s'.2 m o (p ++ c ++ d)) ∧ e - s'.1.toNatClampNeg < e - (nI i).toNatClampNeg) m (nI how) (nI al) (nI (p ++ c).length) (nI q) (nI (p ++ c ++ d).length) s2 := fun hc => by
    refine ⟨O2.k.1, s_owrap (tag := 130) (p := p ++ c ++ d) O2 rfl (by rw [lpd, e_sub_len]; omega) (by decide) (fun h4 O4 _ => ?_)⟩
    refine ⟨⟨q, d ++ e_tlv 130 (e_sub t (i + 1) (q - (i + 1))), by omega, hq2, rfl, ?_, by simpa using O4⟩, ?_⟩
    · rw [← hd, e_hosts_st hq1 hq2 hc hn, List.append_assoc]
    · simp (disch := omega) only [nI_clamp]
      omega
  refine ⟨O2.k.1, ?_⟩
  rw [b4, nI_leI (by omega) (by omega)]
  refine ⟨fun c2 => fin (Or.inl (by omega)), fun c2 => ⟨tp, b1, Or.inl b2, ?_⟩⟩
  rw [b3, vp_iff (by omega), nI_clamp (by omega)]
  refine ⟨by omega, fun h8 => ?_⟩
  rw [show (44 : Int32) = nI 44 from rfl, b_eq h8 (by decide), b5 q (by omega)]
  refine ⟨fun c3 => fin (Or.inr c3), fun c3 => ⟨by omega, fun _ => s_oputS (u := t q) O2 (by omega) (by rw [ub_cut h8, b5 q (by omega)]) (fun h4 O4 _ => ?_)⟩⟩
  rintro _ rfl
  refine ⟨⟨q + 1, by omega, by omega, by simp only [nI_1], fun j j1 j2 => ?_, ?_⟩, ?_⟩
  · by_cases hj : j = q
    · rw [hj]; exact c3
    · exact hn j j1 (by omega)
  · rw [show q + 1 - (i + 1) = q - (i + 1) + 1 by omega, e_sub_s, ← List.append_assoc, show i + 1 + (q - (i + 1)) = q by omega]
    exact O4
  · simp (disch := omega) only [nI_1, nI_clamp]
    omega
theorem e_num_s {n : Nat} (h : n < 128) : e_tlv 2 (e_num n) = [2, 1, n] := by
  unfold e_num
  rw [if_pos h]
  rfl
/-- the extensions that the model writes; without authority there is no path length -/
theorem s_oexts {Q : AH → Prop} {h0 h : AH} {m o tp how cm e : Nat} {t : Nat → Nat} {p : List Nat} (O : OS h0 h m o p) (T : TP h0 m o tp e t) (hh : how < 2048) (hca : how % 2 = 0 → how / 2 % 128 = 0) (hl : p.length < 50000) (he : e ≤ 20000) (hcm : cm ≤ e) (k : ∀ h1, OS h0 h1 m o (p ++ e_exts how t cm e) → Q h1) : m_M_putExtensions Q m (nI how) (nI cm) h := by
  obtain ⟨-, -, -, -, b1, b127⟩ := hw_bits how hh
  obtain ⟨-, -, b11⟩ := hw_bits2 how hh
  have x1l := e_x1_le (how := how)
  have x2l := e_x2_le (how := how)
  have x1c := e_x1c_le (how := how)
  refine ⟨O.k.1, ?_⟩
  rw [O.l]
  rintro _ rfl
  -- behind the usage
  have s4 : ∀ h2, OS h0 h2 m o (p ++ (e_x1 how ++ e_x2 how)) → ((hp_I h2 m 4) ≤ nI cm → m_M_putExtensions_224 Q m (nI how) (nI p.length) h2) ∧ (¬ (hp_I h2 m 4) ≤ nI cm → ∀ v1 : Int32, v1 = (hp_I h2 m 47) → m_M_putExtensions_137 Q m (nI how) (nI p.length) v1 (nI cm) h2) := fun h2 O2 => by
    rw [(T.at O2).2.2.2.1, nI_leI (by omega) (by omega), O2.l]
    refine ⟨fun c => ?_, fun c => ?_⟩
    · have h3 : e_x3 t cm e = [] := by unfold e_x3; rw [if_neg (by omega)]
      refine s_oexts224 O2 hh rfl (by rw [List.length_append]; omega) (fun h5 O5 => k h5 ?_)
      unfold e_exts
      rw [h3]
      simpa using O5
    · rintro _ rfl
      refine s_oexts137 O2 T hh rfl (by rw [List.length_append]; omega) he (by omega) (fun h5 O5 => k h5 ?_)
      unfold e_exts
      simpa using O5
  -- behind the constraints' content
  have s65 : ∀ h2 d x4, d = (if how % 2 = 0 then ([] : List Nat) else [1, 1, 255] ++ (if how / 2 % 128 = 0 then [] else e_tlv 2 (e_num (how / 2 % 128 - 1)))) → (x4 = 0 ↔ how % 2 = 0) → OS h0 h2 m o (p ++ d) → m_M_putExtensions_65 Q m (nI how) (nI cm) (nI p.length) x4 (nI p.length) h2 := fun h2 d x4 hd hx4 O2 => by
    rw [← hd] at x1c
    have t1 := e_tlv_le (t := 48) (c := d)
    refine ⟨O2.k.1, s_owrap (tag := 48) O2 rfl (by omega) (by decide) (fun h3 O3 _ => ?_)⟩
    refine s_oext (i := 1) (crit := true) O3 rfl (by omega) rfl kl3.1 x19_ok (fun h5 O5 _ => ?_)
    have e1 : e_x1 how = e_ext 1 true (e_tlv 48 d) := by unfold e_x1; rw [hd]
    rw [← e1] at O5
    rw [O5.l]
    rintro _ rfl
    have s106 : ∀ u w, (∀ i, i < 4 → ((sh_lr w (nI (8 * (4 - 1 - i)))) &&& 255).toInt32 = nI (gl u i) ∧ gl u i < 256) → u.length = 4 → e_x2 how = e_ext 2 true u → m_M_putExtensions_106 Q m (nI how) (nI cm) (nI p.length) (nI (p ++ e_x1 how).length) m 4 w h5 := fun u w hw hu h2' => by
      refine ⟨O5.k.1, s_oputL (n := 4) (d := u) O5 hu (by rw [List.length_append]; omega) (by decide) hw (fun h6 O6 _ => ⟨O6.k.1, ?_⟩)⟩
      refine s_oext (i := 2) (crit := true) O6 rfl (by rw [List.length_append]; omega) rfl kl3.2.1 x15_ok (fun h7 O7 _ => s4 h7 ?_)
      rw [← h2'] at O7
      simpa using O7
    refine ⟨fun c => s106 [3, 2, 7, 128] _ w4a rfl ?_, fun c => s106 [3, 2, 1, 6] _ w4b rfl ?_⟩
    · unfold e_x2; rw [if_pos (hx4.mp c)]; rfl
    · unfold e_x2; rw [if_neg (fun e => c (hx4.mpr e))]; rfl
  have s17 : ∀ x4, (x4 = 0 ↔ how % 2 = 0) → m_M_putExtensions_17 Q m (nI how) (nI cm) (nI p.length) x4 h := fun x4 hx4 => by
    unfold m_M_putExtensions_17
    rw [b127]
    rintro _ rfl
    refine ⟨O.k.1, ?_⟩
    rw [O.l]
    rintro _ rfl
    unfold m_M_putExtensions_46
    rw [show (0 : Int32) = nI 0 from rfl, nI_leI (by omega) (by omega), show nI 0 = (0 : Int32) from rfl, hx4]
    refine ⟨fun c => ⟨fun c2 => s65 h [] x4 (by rw [if_pos c]) hx4 (by simpa using O), fun c2 => ?_⟩, fun c => ?_⟩
    · have := hca c; omega
    · refine s_oputL (n := 3) (d := [1, 1, 255]) O rfl (by omega) (by decide) w0101 (fun h1 O1 _ => ⟨fun c2 => s65 h1 [1, 1, 255] x4 (by rw [if_neg c, if_pos (by omega)]; rfl) hx4 O1, fun c2 => ⟨O1.k.1, ?_⟩⟩)
      rw [show (1 : Int32) = nI 1 from rfl, nI_sub (by omega)]
      refine s_oputL (n := 3) (d := [2, 1, how / 2 % 128 - 1]) O1 rfl (by simp; omega) (by decide) (w3p _ (by omega)) (fun h2 O2 _ => s65 h2 ([1, 1, 255] ++ [2, 1, how / 2 % 128 - 1]) x4 ?_ hx4 (by simpa using O2))
      rw [if_neg c, if_neg (by omega), e_num_s (by omega)]
  rw [b11]
  exact ⟨fun c => s17 0 ⟨fun _ => by omega, fun _ => rfl⟩, fun c => s17 1 ⟨fun e => absurd e (by decide), fun e => by omega⟩⟩
