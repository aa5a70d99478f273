set_option maxRecDepth 10000
theorem CON.nc {h : AH} (C : CON h) (i : Nat) (hi : i < 9) : hp_k h (hp_c h (i + 2)) = 111 ∧ hp_n h (hp_c h (i + 2)) = kl i := ⟨(C.2.2.1 i hi).1, (C.2.2.1 i hi).2.1⟩
/-- constants stand while the writer writes -/
theorem IC.c {h0 h : AH} {i w b0 N0 N : Nat} {l : List Nat} (I : IC h0 i w) (W : WS h0 h w b0 N0 N l) (c : Nat) (hc : c < 9) : hp_k h (hp_c h0 (c + 2)) = 111 ∧ hp_n h (hp_c h0 (c + 2)) = kl c := by
  obtain ⟨n1, n2⟩ := I.2.2.2.1.nc c hc
  obtain ⟨⟨f1, f2⟩, -⟩ := W.fr (a := hp_c h0 (c + 2)) (by omega) (k_ne n1 W.2.2.2.2.1 (by decide)) (k_ne n1 W.2.2.2.2.2.1 (by decide)) (I.2.2.2.2 (c + 2) (by omega))
  exact ⟨f1.trans n1, f2.trans n2⟩
theorem s_iexts290 {Q : AH → Prop} {h0 h : AH} {w b0 N0 N i al bf : Nat} {c m l : List Nat} (r : rm h0 2000 2000000) (I : IC h0 i w) (W : WS h0 h w b0 N0 N (c ++ (m ++ l))) (hal : al = l.length) (hbf : bf = (m ++ l).length) (hl : c.length + m.length + l.length < 131000) (k : ∀ h1 N', WS h0 h1 w b0 N0 N' (e_tlv 163 (e_tlv 48 (e_ext 1 true (e_tlv 48 c) ++ m)) ++ l) → Q h1) : m_Iss_extensions_290 Q i (nI al) (nI bf) h := by
  obtain ⟨a1, a2, a3, a4⟩ := I.at W
  refine ⟨a1, w, a2, a3, s_wwrap (tag := 48) r W hbf (by simp only [List.length_append]; omega) (by decide) (fun h1 N1 W1 _ => ?_)⟩
  obtain ⟨q1, q2, q3, q4⟩ := I.at W1
  have t5 := e_tlv_le (t := 48) (c := c)
  have t6 := e_ext_le (i := 1) (crit := true) (c := e_tlv 48 c) (by decide)
  rw [q4]
  refine s_iext (cn := 1) (crit := true) r I W1 hbf (by decide) rfl (by simp only [List.length_append]; omega) (fun h2 N2 W2 _ => ?_)
  obtain ⟨q1, q2, q3, q4⟩ := I.at W2
  refine ⟨w, q2, q3, s_wwrap (tag := 48) (c := e_ext 1 true (e_tlv 48 c) ++ m) (rest := l) r (by simpa using W2) hal (by simp only [List.length_append]; omega) (by decide) (fun h3 N3 W3 _ => ?_)⟩
  obtain ⟨q1, q2, q3, q4⟩ := I.at W3
  have t7 := e_tlv_le (t := 48) (c := e_ext 1 true (e_tlv 48 c) ++ m)
  rw [List.length_append] at t7
  exact ⟨w, q2, q3, s_wwrap (tag := 163) r W3 hal (by simp only [List.length_append]; omega) (by decide) (fun h4 N4 W4 _ => k h4 N4 W4)⟩
theorem s_iexts264 {Q : AH → Prop} {h0 h : AH} {w b0 N0 N i al bf : Nat} {c m l : List Nat} (r : rm h0 2000 2000000) (I : IC h0 i w) (W : WS h0 h w b0 N0 N (c ++ (m ++ l))) (hal : al = l.length) (hbf : bf = (m ++ l).length) (hl : c.length + m.length + l.length < 130900) (k : ∀ h1 N', WS h0 h1 w b0 N0 N' (e_tlv 163 (e_tlv 48 (e_ext 1 true (e_tlv 48 ([1, 1, 255] ++ c)) ++ m)) ++ l) → Q h1) : m_Iss_extensions_264 Q i (nI al) (nI bf) h := by
  have ll : (c ++ (m ++ l)).length < 130900 := by simp only [List.length_append]; omega
  obtain ⟨q1, q2, q3, q4⟩ := I.at W
  refine ⟨q1, w, q2, q3, s_wone (u := 255) r W (by omega) (by decide) (fun h2 N2 W2 _ => ?_)⟩
  obtain ⟨q1, q2, q3, q4⟩ := I.at W2
  refine ⟨w, q2, q3, s_wone (u := 1) r W2 (by rw [List.length_cons]; omega) (by decide) (fun h3 N3 W3 _ => ?_)⟩
  obtain ⟨q1, q2, q3, q4⟩ := I.at W3
  refine ⟨w, q2, q3, s_wone (u := 1) r W3 (by simp only [List.length_cons]; omega) (by decide) (fun h4 N4 W4 _ => ?_)⟩
  exact s_iexts290 (c := [1, 1, 255] ++ c) (m := m) r I W4 hal hbf (by simp only [List.length_append, List.length_cons, List.length_nil]; omega) k
theorem s_iexts156 {Q : AH → Prop} {h0 h : AH} {w b0 N0 N i al how : Nat} {m l : List Nat} (r : rm h0 2000 2000000) (I : IC h0 i w) (W : WS h0 h w b0 N0 N (m ++ l)) (hh : how < 2048) (hal : al = l.length) (hl : m.length + l.length < 130000) (k : ∀ h1 N', WS h0 h1 w b0 N0 N' (e_tlv 163 (e_tlv 48 (e_x1 how ++ (e_x2 how ++ m))) ++ l) → Q h1) : m_Iss_extensions_156 Q i (nI how) (nI al) h := by
  obtain ⟨-, -, -, -, hb1, hb2⟩ := hw_bits how hh
  have ll : (m ++ l).length < 130000 := by simp only [List.length_append]; omega
  obtain ⟨a1, a2, a3, a4⟩ := I.at W
  have l2 := e_x2_le (how := how)
  -- the constraints
  have cons : ∀ h2 N2, WS h0 h2 w b0 N0 N2 (e_x2 how ++ (m ++ l)) → ∃ b2, hp_R h2 i 0 = some b2 ∧ hp_k h2 b2 = 11 ∧ m_Wr_size (fun v1 h4 => fx_ext h2 h4 → ∀ v2 : Int32, v2 = (((nI how >>> ((1 : Int32) &&& 31)) &&& (127 : Int32)) - (1 : Int32)) → ((nI how &&& (1 : Int32)) = 0 → m_Iss_extensions_290 Q i (nI al) v1 h4) ∧ (¬ (nI how &&& (1 : Int32)) = 0 → (v2 < 0 → m_Iss_extensions_264 Q i (nI al) v1 h4) ∧ (¬ v2 < 0 → ∃ b3, hp_R h4 i 0 = some b3 ∧ hp_k h4 b3 = 11 ∧ m_Wr_number (fun h5 => fx_ext h4 h5 → m_Iss_extensions_264 Q i (nI al) v1 h5) b3 v2 h4))) b2 h2 := fun h2 N2 W2 => by
    obtain ⟨q1, q2, q3, q4⟩ := I.at W2
    refine ⟨w, q2, q3, s_wsize W2 (fun _ => ?_)⟩
    rw [hb2, hb1]
    rintro _ rfl
    unfold e_x1 at k
    refine ⟨fun c => ?_, fun c => ?_⟩
    · rw [if_pos c] at k
      exact s_iexts290 (c := []) (m := e_x2 how ++ m) r I (by simpa using W2) hal (by simp) (by simp only [List.length_append, List.length_nil]; omega) k
    · rw [if_neg c] at k
      by_cases hz : how / 2 % 128 = 0
      · rw [hz] at k ⊢
        rw [if_pos rfl] at k
        refine ⟨fun _ => ?_, fun c2 => absurd (by decide) c2⟩
        exact s_iexts264 (c := []) (m := e_x2 how ++ m) r I (by simpa using W2) hal (by simp) (by simp only [List.length_append, List.length_nil]; omega) k
      · rw [if_neg hz] at k
        rw [show (1 : Int32) = nI 1 from rfl, nI_sub (by omega), show (0 : Int32) = nI 0 from rfl, nI_ltI (by omega) (by omega)]
        refine ⟨fun c2 => by omega, fun _ => ⟨w, q2, q3, s_wnum r W2 (by simp only [List.length_append] at ll ⊢; omega) (by omega) (fun h5 N5 W5 _ => ?_)⟩⟩
        have e2 : (e_num (how / 2 % 128 - 1)).length ≤ 2 := by unfold e_num; split <;> simp
        have t5 := e_tlv_le (t := 2) (c := e_num (how / 2 % 128 - 1))
        exact s_iexts264 (c := e_tlv 2 (e_num (how / 2 % 128 - 1))) (m := e_x2 how ++ m) r I (by simpa using W5) hal (by simp) (by simp only [List.length_append]; omega) k
  -- the usage
  have use : ∀ (u v : Nat) (x y : Int32), ub x.toInt8.toInt32 = u → ub y.toInt8.toInt32 = v → (if how % 2 = 0 then [7, 128] else [1, 6]) = [v, u] → (∀ h1, ((nI how &&& (1 : Int32)) = 0 → m_Iss_extensions_202 Q i (nI how) (nI al) (nI (m ++ l).length) w y h1) → ((nI how &&& (1 : Int32)) = 0 → m_Iss_extensions_202 Q i (nI how) (nI al) (nI (m ++ l).length) w 7 h1)) → (∀ h1, (¬ (nI how &&& (1 : Int32)) = 0 → m_Iss_extensions_202 Q i (nI how) (nI al) (nI (m ++ l).length) w y h1) → (¬ (nI how &&& (1 : Int32)) = 0 → m_Iss_extensions_202 Q i (nI how) (nI al) (nI (m ++ l).length) w 1 h1)) → m_Iss_extensions_183 Q i (nI how) (nI al) (nI (m ++ l).length) w x h := fun u v x y hx hy he e7 e1 => by
    refine ⟨a3, s_wone (u := u) r W (by omega) hx (fun h1 N1 W1 _ => ?_)⟩
    obtain ⟨q1, q2, q3, q4⟩ := I.at W1
    have go : m_Iss_extensions_202 Q i (nI how) (nI al) (nI (m ++ l).length) w y h1 := by
      refine ⟨q3, s_wone (u := v) r W1 (by rw [List.length_cons]; omega) hy (fun h2 N2 W2 _ => ?_)⟩
      obtain ⟨q1, q2, q3, q4⟩ := I.at W2
      refine ⟨q1, w, q2, q3, s_wwrap (tag := 3) (c := [v, u]) (rest := m ++ l) r W2 rfl (by simp only [List.length_append, List.length_cons, List.length_nil]; omega) (by decide) (fun h3 N3 W3 _ => ?_)⟩
      obtain ⟨q1, q2, q3, q4⟩ := I.at W3
      rw [q4]
      have t5 := e_tlv_le (t := 3) (c := [v, u])
      simp only [List.length_cons, List.length_nil] at t5
      refine s_iext (cn := 2) (crit := true) r I W3 rfl (by decide) rfl (by omega) (fun h4 N4 W4 _ => cons h4 N4 ?_)
      unfold e_x2
      rw [he]
      exact W4
    exact ⟨q1, w, q2, e7 h1 (fun _ => go), e1 h1 (fun _ => go)⟩
  refine ⟨a1, w, a2, a3, s_wsize W (fun _ => ⟨w, a2, fun c => ?_, fun c => ?_⟩)⟩
  · have c' := hb1.mp c
    exact use 128 7 128 7 (by decide) (by decide) (by rw [if_pos c']) (fun _ h => h) (fun _ _ c2 => absurd c c2)
  · have c' : ¬ how % 2 = 0 := fun e => c (hb1.mpr e)
    exact use 6 1 6 1 (by decide) (by decide) (by rw [if_neg c']) (fun _ _ c2 => absurd c2 c) (fun _ h => h)
theorem s_iexts140 {Q : AH → Prop} {h0 h : AH} {w b0 N0 N i al how cm e s : Nat} {t : Nat → Nat} {m l : List Nat} (r : rm h0 2000 2000000) (I : IC h0 i w) (W : WS h0 h w b0 N0 N (m ++ l)) (hh : how < 2048) (hal : al = l.length) (hl : m.length + l.length < 1000) (hs : bk (hp_k h0 s)) (hsb : s ≠ b0) (hsz : s < hp_z h0) (hsn : e ≤ hp_n h0 s) (he : e ≤ 20000) (hcm : cm ≤ e) (hc : cm < e → t cm = 44 ∧ cm + 1 < e ∧ t (cm + 1) ≠ 44) (hg : ∀ j, j < e → ub (hp_I h0 s j) = t j) (k : ∀ h1 N', WS h0 h1 w b0 N0 N' (e_tlv 163 (e_tlv 48 (e_x1 how ++ (e_x2 how ++ (e_x3 t cm e ++ m)))) ++ l) → Q h1) : m_Iss_extensions_140 Q i (nI how) s (nI cm) (nI e) (nI al) h := by
  have l3 := e_x3_le (t := t) (cm := cm) (e := e)
  unfold m_Iss_extensions_140
  rw [nI_leI (by omega) (by omega)]
  refine ⟨fun c => ?_, fun c => ⟨(I.at W).1, ?_⟩⟩
  · have e3 : e_x3 t cm e = [] := by unfold e_x3; rw [if_neg (by omega)]
    rw [e3] at k
    exact s_iexts156 r I W hh hal (by omega) k
  · obtain ⟨c1, c2, c3⟩ := hc (by omega)
    rw [nI_1]
    refine s_ihosts r I W hs hsb hsz hsn c2 (by omega) he (by rw [Nat.add_sub_cancel]; exact c1) c3 hg (by rw [List.length_append]; omega) (fun h1 N1 W1 _ => ?_)
    have e3 : e_x3 t cm e = e_ext 3 false (e_tlv 48 (e_hosts t (cm + 1) e)) := by unfold e_x3; rw [if_pos (by omega)]
    rw [← e3] at W1
    exact s_iexts156 (m := e_x3 t cm e ++ m) (l := l) r I (by simpa using W1) hh hal (by simp only [List.length_append]; omega) k
theorem s_iexts {Q : AH → Prop} {h0 h : AH} {w b0 N0 N i how cm e s : Nat} {t : Nat → Nat} {l : List Nat} (r : rm h0 2000 2000000) (I : IC h0 i w) (W : WS h0 h w b0 N0 N l) (hh : how < 2048) (hl : l.length < 500) (hs : bk (hp_k h0 s)) (hsb : s ≠ b0) (hsz : s < hp_z h0) (hsn : e ≤ hp_n h0 s) (he : e ≤ 20000) (hcm : cm ≤ e) (hc : cm < e → t cm = 44 ∧ cm + 1 < e ∧ t (cm + 1) ≠ 44) (hg : ∀ j, j < e → ub (hp_I h0 s j) = t j) (k : ∀ h1 N', WS h0 h1 w b0 N0 N' (e_exts how t cm e ++ l) → Q h1) : m_Iss_extensions Q i (nI how) s (nI cm) (nI e) h := by
  obtain ⟨b1024, b768, b512, b256, -, -⟩ := hw_bits how hh
  obtain ⟨a1, a2, a3, a4⟩ := I.at W
  have l4 := e_x4_le (how := how)
  have l5 := e_x5_le (how := how)
  -- the purposes
  have s119 : ∀ h2 N2 c, WS h0 h2 w b0 N0 N2 (c ++ (e_x5 how ++ l)) → c.length ≤ 28 → e_x4 how = e_ext 4 false (e_tlv 48 c) → m_Iss_extensions_119 Q i (nI how) s (nI cm) (nI e) (nI l.length) (nI (e_x5 how ++ l).length) h2 := fun h2 N2 c W2 hcl h4 => by
    obtain ⟨q1, q2, q3, q4⟩ := I.at W2
    refine ⟨q1, w, q2, q3, s_wwrap (tag := 48) r W2 rfl (by simp only [List.length_append]; omega) (by decide) (fun h3 N3 W3 _ => ?_)⟩
    have t5 := e_tlv_le (t := 48) (c := c)
    rw [(I.at W3).2.2.2]
    refine s_iext (cn := 4) (crit := false) r I W3 rfl (by decide) rfl (by simp only [List.length_append]; omega) (fun h6 N4 W4 _ => ?_)
    rw [← h4] at W4
    exact s_iexts140 (m := e_x4 how ++ e_x5 how) (l := l) r I (by simpa using W4) hh rfl (by simp only [List.length_append]; omega) hs hsb hsz hsn he hcm hc hg k
  have s52 : ∀ h2 N2, WS h0 h2 w b0 N0 N2 (e_x5 how ++ l) → m_Iss_extensions_52 Q i (nI how) s (nI cm) (nI e) (nI l.length) h2 := fun h2 N2 W2 => by
    obtain ⟨q1, q2, q3, q4⟩ := I.at W2
    unfold m_Iss_extensions_52
    rw [b768]
    refine ⟨fun c => ?_, fun c => ⟨q1, w, q2, q3, s_wsize W2 (fun _ => ?_)⟩⟩
    · have h4 : e_x4 how = [] := by unfold e_x4; rw [if_pos c]
      refine s_iexts140 (m := e_x5 how) (l := l) r I W2 hh rfl (by omega) hs hsb hsz hsn he hcm hc hg ?_
      have := k
      unfold e_exts at this
      rw [h4] at this
      exact this
    · have h4 : e_x4 how = e_ext 4 false (e_tlv 48 ((if how / 256 % 2 = 0 then [] else e_tlv 6 (e_oid 5)) ++ (if how / 512 % 2 = 0 then [] else e_tlv 6 (e_oid 6)))) := by unfold e_x4; rw [if_neg c]
      have s94 : ∀ h3 N3 c6, c6.length ≤ 14 → (if how / 512 % 2 = 0 then [] else e_tlv 6 (e_oid 6)) = c6 → WS h0 h3 w b0 N0 N3 (c6 ++ (e_x5 how ++ l)) → m_Iss_extensions_94 Q i (nI how) s (nI cm) (nI e) (nI l.length) (nI (e_x5 how ++ l).length) h3 := fun h3 N3 c6 hc6 he6 W3 => by
        obtain ⟨p1, p2, p3, p4⟩ := I.at W3
        unfold m_Iss_extensions_94
        rw [b256]
        refine ⟨fun c2 => s119 h3 N3 c6 W3 (by omega) (by rw [h4, if_pos c2, he6]; rfl), fun c2 => ⟨p1, w, p2, ?_⟩⟩
        rw [p4]
        obtain ⟨z1, z2⟩ := I.c W3 5 (by decide)
        refine ⟨Or.inr z1, p3, ?_⟩
        rw [z2]
        refine s_wcon (c := 5) r I W3 (by decide) (by simp only [List.length_append]; omega) (fun h5 N5 W5 _ => s119 h5 N5 (e_tlv 6 (e_oid 5) ++ c6) (by simpa using W5) ?_ (by rw [h4, if_neg c2, he6]))
        have := e_oid_tlv (i := 5) (by decide)
        rw [List.length_append]
        omega
      rw [b512]
      refine ⟨fun c2 => s94 h2 N2 [] (by decide) (by rw [if_pos c2]) W2, fun c2 => ⟨w, q2, ?_⟩⟩
      rw [q4]
      obtain ⟨z1, z2⟩ := I.c W2 6 (by decide)
      refine ⟨Or.inr z1, q3, ?_⟩
      rw [z2]
      exact s_wcon (c := 6) r I W2 (by decide) (by simp only [List.length_append]; omega) (fun h5 N5 W5 _ => s94 h5 N5 (e_tlv 6 (e_oid 6)) (e_oid_tlv (by decide)) (by rw [if_neg c2]) W5)
  refine ⟨a1, w, a2, a3, s_wsize W (fun _ => ?_)⟩
  rw [b1024]
  refine ⟨fun c => ?_, fun c => ⟨w, a2, a3, s_wsize W (fun _ => ⟨w, a2, a3, s_wone (u := 0) r W (by omega) (by decide) (fun h2 N2 W2 _ => ?_)⟩)⟩⟩
  · have h5 : e_x5 how = [] := by unfold e_x5; rw [if_pos c]
    exact s52 h N (by rw [h5]; exact W)
  · obtain ⟨q1, q2, q3, q4⟩ := I.at W2
    refine ⟨w, q2, q3, s_wone (u := 5) r W2 (by rw [List.length_cons]; omega) (by decide) (fun h3 N3 W3 _ => ?_)⟩
    rw [(I.at W3).2.2.2]
    have h5 : e_x5 how = e_ext 7 true [5, 0] := by unfold e_x5; rw [if_neg c]
    exact s_iext (cn := 7) (crit := true) (c := [5, 0]) (rest := l) r I W3 rfl (by decide) rfl (by simp; omega) (fun h4 N4 W4 _ => s52 h4 N4 (by rw [h5]; exact W4))
