set_option maxRecDepth 10000
theorem s_itime62 {Q : AH → Prop} {h0 h : AH} {w b0 N0 N i mi y mo d : Nat} {l : List Nat} (r : rm h0 2000 2000000) (I : IC h0 i w) (W : WS h0 h w b0 N0 N l) (hmi : mi < 2 ^ 31) (hy0 : 1 ≤ y) (hy : y < 10000) (hm : mo < 20) (hd : d < 100) (hd1 : 1 ≤ d) (hdd : (d : Int) = (mi / 1440 : Nat) - d_days y mo 1 + 1) (hl : l.length < 130000) (k : ∀ h1 N', WS h0 h1 w b0 N0 N' (e_tm mi y mo d ++ l) → Q h1) : m_Iss_time_62 Q i (lN mi) (lN (mi / 1440)) (nI y) (nI mo) h := by
  have hr := dd_rng hy0 hy hm
  refine s_days (d := 1) hy0 (by omega) (by omega) (by decide) (fun _ => ?_)
  rw [lN_lZ, lZ_sub, show ((mi / 1440 : Nat) : Int) - d_days y mo 1 = ((d - 1 : Nat) : Int) by omega, ← lN_lZ, lN_i, nI_1, show d - 1 + 1 = d by omega]
  rintro _ rfl
  rw [show (1440 : Int64) = lN 1440 from rfl, show (60 : Int64) = lN 60 from rfl, lN_div hmi (by decide) (by decide), lN_mul, lN_sub (by omega), lN_div (by omega) (by decide) (by decide), lN_div hmi (by decide) (by decide), lN_mul, lN_sub (by omega), lN_i, lN_i, show mi - mi / 1440 * 1440 = mi % 1440 by omega, show mi - mi / 60 * 60 = mi % 60 by omega]
  rintro _ rfl _ rfl
  obtain ⟨a1, a2, a3, a4⟩ := I.at W
  refine ⟨a1, w, a2, a3, s_wsize W (fun _ => ⟨w, a2, a3, s_wone (u := 90) r W (by omega) (by decide) (fun h2 N2 W2 _ => ?_)⟩)⟩
  refine s_itwo (n := 0) r I W2 (by decide) (by rw [List.length_cons]; omega) (fun h3 N3 W3 _ => ?_)
  refine s_itwo r I W3 (by omega) (by simp only [e_two, List.length_append, List.length_cons, List.length_nil]; omega) (fun h4 N4 W4 _ => ?_)
  refine s_itwo r I W4 (by omega) (by simp only [e_two, List.length_append, List.length_cons, List.length_nil]; omega) (fun h5 N5 W5 _ => ?_)
  refine s_itwo r I W5 (by omega) (by simp only [e_two, List.length_append, List.length_cons, List.length_nil]; omega) (fun h6 N6 W6 _ => ?_)
  refine s_itwo r I W6 (by omega) (by simp only [e_two, List.length_append, List.length_cons, List.length_nil]; omega) (fun h7 N7 W7 _ => ?_)
  rw [show (100 : Int32) = nI 100 from rfl, nI_div (by omega) (by omega), nI_mul, nI_sub (by omega), show y - y / 100 * 100 = y % 100 by omega]
  refine s_itwo r I W7 (by omega) (by simp only [e_two, List.length_append, List.length_cons, List.length_nil]; omega) (fun h8 N8 W8 _ => ?_)
  have fin : ∀ h9 N9 c, c.length ≤ 2 → c = (if y < 2050 then [] else e_two (y / 100)) → WS h0 h9 w b0 N0 N9 (c ++ (e_two (y % 100) ++ (e_two mo ++ (e_two d ++ (e_two (mi % 1440 / 60) ++ (e_two (mi % 60) ++ (e_two 0 ++ (90 :: l)))))))) → m_Iss_time_170 Q i (nI y) (nI l.length) h9 := fun h9 N9 c hcl hc W9 => by
    obtain ⟨q1, q2, q3, q4⟩ := I.at W9
    have W9' : WS h0 h9 w b0 N0 N9 ((c ++ (e_two (y % 100) ++ (e_two mo ++ (e_two d ++ (e_two (mi % 1440 / 60) ++ (e_two (mi % 60) ++ (e_two 0 ++ [90]))))))) ++ l) := by simpa using W9
    have ll : ((c ++ (e_two (y % 100) ++ (e_two mo ++ (e_two d ++ (e_two (mi % 1440 / 60) ++ (e_two (mi % 60) ++ (e_two 0 ++ [90]))))))) ++ l).length < 134000 := by
      simp only [e_two, List.length_append, List.length_cons, List.length_nil]; omega
    unfold e_tm at k
    rw [← hc] at k
    refine ⟨q1, w, q2, ?_⟩
    rw [show (2050 : Int32) = nI 2050 from rfl, nI_ltI (by omega) (by omega)]
    refine ⟨fun c2 => ⟨q3, ?_⟩, fun c2 => ⟨q3, ?_⟩⟩
    · rw [if_pos c2] at k
      exact s_wwrap (tag := 23) r W9' rfl ll (by decide) (fun h10 N10 W10 _ => k h10 N10 W10)
    · rw [if_neg c2] at k
      exact s_wwrap (tag := 24) r W9' rfl ll (by decide) (fun h10 N10 W10 _ => k h10 N10 W10)
  rw [show (2050 : Int32) = nI 2050 from rfl, nI_ltI (by omega) (by omega)]
  refine ⟨fun c => fin h8 N8 [] (by decide) (by rw [if_pos c]) W8, fun c => s_itwo r I W8 (by omega) (by simp only [e_two, List.length_append, List.length_cons, List.length_nil]; omega) (fun h9 N9 W9 _ => fin h9 N9 (e_two (y / 100)) (by simp [e_two]) (by rw [if_neg c]) W9)⟩
theorem s_itime {Q : AH → Prop} {h0 h : AH} {w b0 N0 N i mi : Nat} {l : List Nat} (r : rm h0 2000 2000000) (I : IC h0 i w) (W : WS h0 h w b0 N0 N l) (hmi : mi < 2 ^ 31) (hl : l.length < 130000) (k : ∀ h1 N', WS h0 h1 w b0 N0 N' (e_time mi ++ l) → Q h1) : m_Iss_time Q i (lN mi) h := by
  have hday : mi / 1440 < 1491309 := by omega
  obtain ⟨y1, y2, y3, y4⟩ := e_yr_ok hmi
  obtain ⟨m1, m2, m3, m4⟩ := e_mo_ok hmi
  obtain ⟨d1, d2, d3⟩ := e_dy_ok hmi
  unfold m_Iss_time
  rw [show (1440 : Int64) = lN 1440 from rfl, lN_div hmi (by decide) (by decide)]
  rintro _ rfl
  unfold e_time at k
  have hY : d_yr 6000 (mi / 1440 : Nat) 1970 = e_yr mi := rfl
  have hM : d_mo 11 (mi / 1440 : Nat) (e_yr mi) 1 = e_mo mi := rfl
  generalize e_yr mi = Y at *
  generalize e_mo mi = M at *
  generalize e_dy mi = D at *
  -- the months
  have mon : m_Iss_time_34 Q i (lN mi) (lN (mi / 1440)) (nI Y) 1 h := by
    refine ⟨fun st => ∃ n m, m + n = 12 ∧ 1 ≤ m ∧ st = (nI m, h) ∧ d_mo n (mi / 1440 : Nat) Y m = M, fun st => 12 - st.1.toNatClampNeg, ⟨11, 1, by decide, by decide, rfl, hM⟩, ?_⟩
    rintro _ ⟨n, m, hmn, hm1, rfl, hmo⟩
    simp only
    have fin : m = M → m_Iss_time_62 Q i (lN mi) (lN (mi / 1440)) (nI Y) (nI m) h := fun e => by
      subst e
      exact s_itime62 r I W hmi (by omega) (by omega) (by omega) (by omega) d1 d3 hl k
    unfold m_Iss_time_34_b
    rw [show (12 : Int32) = nI 12 from rfl, nI_leI (by omega) (by omega)]
    refine ⟨fun c => fin ?_, fun c => ?_⟩
    · have : n = 0 := by omega
      subst this
      exact hmo
    · obtain ⟨n', rfl⟩ : ∃ n', n = n' + 1 := ⟨n - 1, by omega⟩
      simp only [d_mo] at hmo
      rw [nI_1]
      have hr := dd_rng (y := Y) (mo := m + 1) (by omega) (by omega) (by omega)
      refine s_days (d := 1) (by omega) (by omega) (by omega) (by decide) (fun _ => ?_)
      rw [lg_cmp_lt, lN_lZ, lZ_lt (by omega) (by omega) (by omega) (by omega)]
      refine ⟨fun c2 => fin ?_, fun c2 => ?_⟩
      · rw [if_pos c2] at hmo
        exact hmo
      · rw [if_neg c2] at hmo
        rintro _ rfl
        refine ⟨⟨n', m + 1, by omega, by omega, rfl, hmo⟩, ?_⟩
        simp (disch := omega) only [nI_clamp]
        omega
  refine ⟨fun st => ∃ n y, y + n = 7970 ∧ 1970 ≤ y ∧ y ≤ Y ∧ st = (nI y, h) ∧ d_yr n (mi / 1440 : Nat) y = Y ∧ d_days y 1 1 ≤ (mi / 1440 : Nat), fun st => 7970 - st.1.toNatClampNeg, ⟨6000, 1970, by decide, by decide, y3, rfl, hY, by rw [dd_1970]; omega⟩, ?_⟩
  rintro _ ⟨n, y, hyn, hy1, hyY, rfl, hyr, hyd⟩
  simp only
  unfold m_Iss_time_11_b
  rw [nI_1]
  have hy6 : y < 6100 := by omega
  have hr := dd_rng (y := y + 1) (mo := 1) (by omega) (by omega) (by omega)
  refine s_days (mo := 1) (d := 1) (by omega) (by omega) (by omega) (by decide) (fun _ => ?_)
  rw [lg_cmp_lt, lN_lZ, lZ_lt (by omega) (by omega) (by omega) (by omega)]
  obtain ⟨n', rfl⟩ : ∃ n', n = n' + 1 := ⟨n - 1, by omega⟩
  simp only [d_yr] at hyr
  refine ⟨fun c2 => ?_, fun c2 => ?_⟩
  · rw [if_pos c2] at hyr
    subst hyr
    exact mon
  · rw [if_neg c2] at hyr
    have hle : y + 1 ≤ Y := by
      apply Classical.byContradiction
      intro hc
      have : y = Y := by omega
      subst this
      omega
    rintro _ rfl
    refine ⟨⟨n', y + 1, by omega, by omega, hle, rfl, hyr, by omega⟩, ?_⟩
    simp (disch := omega) only [nI_clamp]
    omega
def e_times (f t : Nat) : List Nat := e_tlv 48 (e_time f ++ e_time t)
theorem e_time_le {mi : Nat} : (e_time mi).length ≤ 20 := e_tm_le
theorem s_itimes {Q : AH → Prop} {h0 h : AH} {w b0 N0 N i f t : Nat} {l : List Nat} (r : rm h0 2000 2000000) (I : IC h0 i w) (W : WS h0 h w b0 N0 N l) (hf : f < 2 ^ 31) (ht : t < 2 ^ 31) (hl : l.length < 129000) (k : ∀ h1 N', WS h0 h1 w b0 N0 N' (e_times f t ++ l) → Q h1) : m_Iss_times Q i (lN f) (lN t) h := by
  obtain ⟨a1, a2, a3, a4⟩ := I.at W
  have t1 := e_time_le (mi := t)
  have t2 := e_time_le (mi := f)
  refine ⟨a1, w, a2, a3, s_wsize W (fun _ => s_itime r I W ht (by omega) (fun h2 N2 W2 _ => s_itime r I W2 hf (by rw [List.length_append]; omega) (fun h3 N3 W3 _ => ?_)))⟩
  obtain ⟨q1, q2, q3, q4⟩ := I.at W3
  exact ⟨w, q2, q3, s_wwrap (tag := 48) (c := e_time f ++ e_time t) (rest := l) r (by simpa using W3) rfl (by simp only [List.length_append]; omega) (by decide) (fun h4 N4 W4 _ => k h4 N4 W4)⟩
