set_option maxRecDepth 10000
/-- the tape of the model: cell tp, n bytes t -/
def TP (h0 : AH) (m o tp n : Nat) (t : Nat → Nat) : Prop := hp_R h0 m 1 = some tp ∧ hp_k h0 tp = 101 ∧ hp_n h0 tp = 65536 ∧ tp ≠ o ∧ tp ≠ m ∧ hp_I h0 m 4 = nI n ∧ n ≤ 65536 ∧ ∀ j, j < n → ub (hp_I h0 tp j) = t j
theorem TP.at {h0 h : AH} {m o tp n : Nat} {t : Nat → Nat} {l : List Nat} (T : TP h0 m o tp n t) (O : OS h0 h m o l) : hp_R h m 1 = some tp ∧ hp_k h tp = 101 ∧ hp_n h tp = 65536 ∧ hp_I h m 4 = nI n ∧ ∀ j, j < n → ub (hp_I h tp j) = t j := by
  obtain ⟨t1, t2, t3, t4, t5, t6, t7, t8⟩ := T
  obtain ⟨f1, f2, f3, f4⟩ := O.fr t5 t4
  exact ⟨by rw [f4]; exact t1, by rw [f1]; exact t2, by rw [f2]; exact t3, by rw [O.mf (by decide)]; exact t6, fun j hj => by rw [f3]; exact t8 j hj⟩
theorem ub_cut {x : Int32} (h : by8 x) : ub x.toInt8.toInt32 = ub x := by rw [cut_id h]
def g0603 (i : Nat) : Nat := if i = 0 then 6 else if i = 1 then 3 else if i = 2 then 85 else if i = 3 then 4 else 3
theorem g0603_ok : ∀ i, i < 5 → ((sh_lr (25825707011 : Int64) (nI (8 * (5 - 1 - i)))) &&& 255).toInt32 = nI (g0603 i) ∧ g0603 i < 256 := by decide +kernel
theorem g0603_eq : e_sub g0603 0 5 = e_tlv 6 (e_oid 0) := by decide +kernel
theorem e_sub_s {f : Nat → Nat} {a i : Nat} : e_sub f a (i + 1) = e_sub f a i ++ [f (a + i)] := by
  unfold e_sub
  rw [List.range_succ, List.map_append]
  rfl
theorem s_oname {Q : AH → Prop} {h0 h : AH} {m o tp nt n : Nat} {t : Nat → Nat} {l : List Nat} (O : OS h0 h m o l) (T : TP h0 m o tp nt t) (hn : n ≤ nt) (hn2 : n ≤ 64) (hl : l.length < 139000) (k : ∀ h1, OS h0 h1 m o (l ++ e_name t n) → Q h1) : m_M_putName Q m (nI n) h := by
  refine ⟨O.k.1, ?_⟩
  rw [O.l]
  rintro _ rfl
  refine s_oputJS (n := 5) O (by omega) (by decide) g0603_ok (fun h1 O1 _ => ?_)
  rw [g0603_eq] at O1
  have o14 := e_oid_tlv (i := 0) (by decide)
  generalize hz : e_tlv 6 (e_oid 0) = z at O1 o14
  rw [O1.l]
  rintro _ rfl
  refine ⟨fun s => ∃ i, i ≤ n ∧ s.1 = nI i ∧ OS h0 s.2 m o (l ++ z ++ e_sub t 0 i), fun s => n - s.1.toNatClampNeg, ⟨0, by omega, rfl, by simpa [e_sub] using O1⟩, ?_⟩
  rintro ⟨v, s⟩ ⟨i, hi, hv, Os⟩
  simp only at hv Os ⊢
  subst hv
  have ll : (l ++ z ++ e_sub t 0 i).length = l.length + z.length + i := by rw [List.length_append, List.length_append, e_sub_len]
  unfold m_M_putName_21_b
  rw [nI_leI (by omega) (by omega)]
  refine ⟨fun c => ⟨Os.k.1, ?_⟩, fun c => ⟨Os.k.1, tp, (T.at Os).1, Or.inl (T.at Os).2.1, ?_⟩⟩
  · have : i = n := by omega
    subst this
    have t1 := e_tlv_le (t := 12) (c := e_sub t 0 i)
    rw [e_sub_len] at t1
    refine s_owrap (tag := 12) (p := l ++ z) (c := e_sub t 0 i) Os rfl (by rw [List.length_append, e_sub_len]; omega) (by decide) (fun h2 O2 _ => ?_)
    refine s_owrap (tag := 48) (p := l) (c := z ++ e_tlv 12 (e_sub t 0 i)) (by simpa using O2) rfl (by rw [List.length_append]; omega) (by decide) (fun h3 O3 _ => ?_)
    have t2 := e_tlv_le (t := 48) (c := z ++ e_tlv 12 (e_sub t 0 i))
    rw [List.length_append] at t2
    refine s_owrap (tag := 49) (p := l) O3 rfl (by omega) (by decide) (fun h4 O4 _ => ?_)
    have t3 := e_tlv_le (t := 49) (c := e_tlv 48 (z ++ e_tlv 12 (e_sub t 0 i)))
    refine s_owrap (tag := 48) (p := l) O4 rfl (by omega) (by decide) (fun h5 O5 _ => k h5 ?_)
    unfold e_name
    rw [hz]
    exact O5
  · obtain ⟨a1, a2, a3, a4, a5⟩ := T.at Os
    have t7 := T.2.2.2.2.2.2.1
    rw [a3, vp_iff (by omega), nI_clamp (by omega)]
    refine ⟨by omega, fun h8 => s_oputS (u := t i) Os (by omega) (by rw [ub_cut h8, a5 i (by omega)]) (fun h2 O2 _ => ?_)⟩
    rintro _ rfl
    refine ⟨⟨i + 1, by omega, by simp only [nI_1], ?_⟩, ?_⟩
    · rw [e_sub_s, ← List.append_assoc, Nat.zero_add]
      exact O2
    · simp (disch := omega) only [nI_1, nI_clamp]
      omega
/-! the time -/
theorem s_otm {Q : AH → Prop} {h0 h : AH} {m o mi y mo d : Nat} {l : List Nat} (O : OS h0 h m o l) (hmi : mi < 2 ^ 31) (hy : y < 10000) (hm : mo < 20) (hd : d < 100) (hd1 : 1 ≤ d) (hl : l.length < 139000) (k : ∀ h1, OS h0 h1 m o (l ++ e_tm mi y mo d) → Q h1) : (nI y < 2050 → m_M_putTime_116 Q m (nI mi) (nI l.length) (lN (d - 1)) (nI y) (nI mo) h) ∧ (¬ nI y < 2050 → hp_k h m = 13 ∧ m_M_putTwo (fun h2 => fx_ext h h2 → m_M_putTime_116 Q m (nI mi) (nI l.length) (lN (d - 1)) (nI y) (nI mo) h2) m (nI y / (100 : Int32)) h) := by
  have fin : ∀ h2 z, z.length ≤ 2 → z = (if y < 2050 then [] else e_two (y / 100)) → OS h0 h2 m o (l ++ z) → m_M_putTime_116 Q m (nI mi) (nI l.length) (lN (d - 1)) (nI y) (nI mo) h2 := fun h2 z hzl hz O2 => by
    have ez : ∀ n, (e_two n).length = 2 := fun n => rfl
    refine ⟨O2.k.1, ?_⟩
    rw [lN_i, nI_1, show d - 1 + 1 = d by omega]
    simp (disch := omega) only [show (100 : Int32) = nI 100 from rfl, show (1440 : Int32) = nI 1440 from rfl, show (60 : Int32) = nI 60 from rfl, nI_div, nI_mul, nI_sub]
    rw [show y - y / 100 * 100 = y % 100 by omega, show mi - mi / 1440 * 1440 = mi % 1440 by omega, show mi - mi / 60 * 60 = mi % 60 by omega]
    refine s_otwo O2 (by omega) (by simp only [List.length_append]; omega) (fun h3 O3 _ => ?_)
    refine s_otwo O3 (by omega) (by simp only [List.length_append, ez]; omega) (fun h4 O4 _ => ?_)
    refine s_otwo O4 (by omega) (by simp only [List.length_append, ez]; omega) (fun h5 O5 _ => ?_)
    refine s_otwo O5 (by omega) (by simp only [List.length_append, ez]; omega) (fun h6 O6 _ => ?_)
    refine s_otwo O6 (by omega) (by simp only [List.length_append, ez]; omega) (fun h7 O7 _ => ?_)
    refine s_otwo (n := 0) O7 (by omega) (by simp only [List.length_append, ez]; omega) (fun h8 O8 _ => ?_)
    refine s_oputS (u := 90) O8 (by simp only [List.length_append, ez]; omega) (by decide) (fun h9 O9 _ => ?_)
    have O9' : OS h0 h9 m o (l ++ (z ++ (e_two (y % 100) ++ (e_two mo ++ (e_two d ++ (e_two (mi % 1440 / 60) ++ (e_two (mi % 60) ++ (e_two 0 ++ [90])))))))) := by simpa using O9
    have lz : (z ++ (e_two (y % 100) ++ (e_two mo ++ (e_two d ++ (e_two (mi % 1440 / 60) ++ (e_two (mi % 60) ++ (e_two 0 ++ [90]))))))).length ≤ 20 := by
      simp only [List.length_append, ez, List.length_cons, List.length_nil]; omega
    unfold e_tm at k
    rw [← hz] at k
    rw [show (2050 : Int32) = nI 2050 from rfl, nI_ltI (by omega) (by omega)]
    refine ⟨fun c => ⟨O9.k.1, ?_⟩, fun c => ⟨O9.k.1, ?_⟩⟩
    · rw [if_pos c] at k
      exact s_owrap (tag := 23) O9' rfl (by omega) (by decide) (fun h10 O10 _ => k h10 O10)
    · rw [if_neg c] at k
      exact s_owrap (tag := 24) O9' rfl (by omega) (by decide) (fun h10 O10 _ => k h10 O10)
  rw [show (2050 : Int32) = nI 2050 from rfl, nI_ltI (by omega) (by omega), show (100 : Int32) = nI 100 from rfl, nI_div (by omega) (by omega)]
  refine ⟨fun c => fin h [] (by decide) (by rw [if_pos c]) (by simpa using O), fun c => ⟨O.k.1, s_otwo O (by omega) (by omega) (fun h2 O2 _ => fin h2 (e_two (y / 100)) (by simp [e_two]) (by rw [if_neg c]) O2)⟩⟩
theorem s_otime {Q : AH → Prop} {h0 h : AH} {m o mi : Nat} {l : List Nat} (O : OS h0 h m o l) (hmi : mi < 2 ^ 31) (hl : l.length < 139000) (k : ∀ h1, OS h0 h1 m o (l ++ e_time mi) → Q h1) : m_M_putTime Q m (nI mi) h := by
  have hday : mi / 1440 < 1491309 := by omega
  obtain ⟨y1, y2, y3, y4⟩ := e_yr_ok hmi
  obtain ⟨m1, m2, m3, m4⟩ := e_mo_ok hmi
  obtain ⟨d1, d2, d3⟩ := e_dy_ok hmi
  refine ⟨O.k.1, ?_⟩
  rw [O.l]
  rintro _ rfl
  rw [show (1440 : Int32) = nI 1440 from rfl, nI_div (by omega) (by omega), nI_l (by omega)]
  rintro _ rfl
  unfold e_time at k
  have hY : d_yr 6000 (mi / 1440 : Nat) 1970 = e_yr mi := rfl
  have hM : d_mo 11 (mi / 1440 : Nat) (e_yr mi) 1 = e_mo mi := rfl
  generalize e_yr mi = Y at *
  generalize e_mo mi = M at *
  generalize e_dy mi = D at *
  have mon : ∀ dd : Nat, (dd : Int) = (mi / 1440 : Nat) - d_days Y 1 1 → m_M_putTime_69 Q m (nI mi) (nI l.length) (nI Y) (lN dd) 1 h := fun dd hdd => by
    refine ⟨fun st => ∃ n mo dd, mo + n = 12 ∧ 1 ≤ mo ∧ st = (lN dd, nI mo, h) ∧ d_mo n (mi / 1440 : Nat) Y mo = M ∧ (dd : Int) = (mi / 1440 : Nat) - d_days Y mo 1, fun st => 12 - st.2.1.toNatClampNeg, ⟨11, 1, dd, by decide, by decide, rfl, hM, hdd⟩, ?_⟩
    rintro _ ⟨n, mo, dd, hmn, hm1, rfl, hmo, hdd⟩
    simp only
    have hdb : dd < 2 ^ 31 := by
      have hr := dd_rng (y := Y) (mo := mo) (by omega) (by omega) (by omega)
      have : d_days Y 1 1 ≤ d_days Y mo 1 := by
        unfold d_days
        repeat' split
        all_goals omega
      have := dd_low (Y - 1970)
      rw [show 1970 + (Y - 1970) = Y by omega] at this
      omega
    unfold m_M_putTime_69_b
    have hmd := md_le (y := Y) (mo := mo)
    refine s_daysOf (by omega) (by omega) (fun _ => ?_)
    rw [nI_l (by omega), lg_cmp_lt, lN_lt hdb (by omega)]
    refine ⟨fun c => ?_, fun c => s_daysOf (by omega) (by omega) (fun _ => ?_)⟩
    · have hmM : mo = M := by
        cases n with
        | zero => exact hmo
        | succ n =>
          simp only [d_mo] at hmo
          have := dd_month (y := Y) (mo := mo) (by omega) hm1 (by omega)
          rw [if_pos (by omega)] at hmo
          exact hmo
      subst hmM
      have hD : dd = D - 1 := by omega
      subst hD
      exact s_otm O hmi (by omega) (by omega) (by omega) d1 hl k
    · have hn0 : n ≠ 0 := fun e => by
        have hm12 : mo = 12 := by omega
        subst hm12
        have h1 := dd_dec (y := Y) (by omega)
        have h2 : d_md Y 12 = 31 := by unfold d_md; simp
        omega
      obtain ⟨n', rfl⟩ : ∃ n', n = n' + 1 := ⟨n - 1, by omega⟩
      simp only [d_mo] at hmo
      have hdm := dd_month (y := Y) (mo := mo) (by omega) hm1 (by omega)
      rw [if_neg (by omega)] at hmo
      rw [nI_l (by omega), lN_sub (by omega), nI_1]
      rintro _ rfl _ rfl
      refine ⟨⟨n', mo + 1, dd - d_md Y mo, by omega, by omega, rfl, hmo, by omega⟩, ?_⟩
      simp (disch := omega) only [nI_clamp]
      omega
  refine ⟨fun st => ∃ n y dd, y + n = 7970 ∧ 1970 ≤ y ∧ y ≤ Y ∧ st = (lN dd, nI y, h) ∧ d_yr n (mi / 1440 : Nat) y = Y ∧ (dd : Int) = (mi / 1440 : Nat) - d_days y 1 1, fun st => 7970 - st.2.1.toNatClampNeg, ⟨6000, 1970, mi / 1440, by decide, by decide, y3, rfl, hY, by rw [dd_1970]; omega⟩, ?_⟩
  rintro _ ⟨n, y, dd, hyn, hy1, hyY, rfl, hyr, hdd⟩
  simp only
  have hdb : dd < 2 ^ 31 := by
    have := dd_low (y - 1970)
    rw [show 1970 + (y - 1970) = y by omega] at this
    omega
  obtain ⟨n', rfl⟩ : ∃ n', n = n' + 1 := ⟨n - 1, by omega⟩
  simp only [d_yr] at hyr
  have hyear := dd_year (y := y) (by omega)
  have key : ∀ len : Nat, (d_days (y + 1) 1 1 = d_days y 1 1 + len) → 365 ≤ len → len ≤ 366 → (¬ dd < len → m_M_leap (fun v1 h1 => fx_ext h h1 → zb v1 → (v1 = 0 → m_M_putTime_58 Q (fun s' => (∃ n y dd, y + n = 7970 ∧ 1970 ≤ y ∧ y ≤ Y ∧ s' = (lN dd, nI y, h) ∧ d_yr n (mi / 1440 : Nat) y = Y ∧ (dd : Int) = (mi / 1440 : Nat) - d_days y 1 1) ∧ 7970 - s'.2.1.toNatClampNeg < 7970 - (nI y).toNatClampNeg) m (nI mi) (nI l.length) (nI y) (lN dd) (365 : Int64) h1) ∧ (¬ v1 = 0 → m_M_putTime_58 Q (fun s' => (∃ n y dd, y + n = 7970 ∧ 1970 ≤ y ∧ y ≤ Y ∧ s' = (lN dd, nI y, h) ∧ d_yr n (mi / 1440 : Nat) y = Y ∧ (dd : Int) = (mi / 1440 : Nat) - d_days y 1 1) ∧ 7970 - s'.2.1.toNatClampNeg < 7970 - (nI y).toNatClampNeg) m (nI mi) (nI l.length) (nI y) (lN dd) (366 : Int64) h1)) (nI y) h) → m_M_putTime_35 Q (fun s' => (∃ n y dd, y + n = 7970 ∧ 1970 ≤ y ∧ y ≤ Y ∧ s' = (lN dd, nI y, h) ∧ d_yr n (mi / 1440 : Nat) y = Y ∧ (dd : Int) = (mi / 1440 : Nat) - d_days y 1 1) ∧ 7970 - s'.2.1.toNatClampNeg < 7970 - (nI y).toNatClampNeg) m (nI mi) (nI l.length) (lN dd) (nI y) (lN dd) (nI len) h := fun len hlen h365 h366 hx => by
    unfold m_M_putTime_35
    rw [nI_l (by omega), lg_cmp_lt, lN_lt hdb (by omega)]
    refine ⟨fun c => ?_, hx⟩
    rw [if_pos (by omega)] at hyr
    subst hyr
    exact mon dd hdd
  have nx : ∀ len : Nat, (d_days (y + 1) 1 1 = d_days y 1 1 + len) → 365 ≤ len → len ≤ 366 → ¬ dd < len → m_M_putTime_58 Q (fun s' => (∃ n y dd, y + n = 7970 ∧ 1970 ≤ y ∧ y ≤ Y ∧ s' = (lN dd, nI y, h) ∧ d_yr n (mi / 1440 : Nat) y = Y ∧ (dd : Int) = (mi / 1440 : Nat) - d_days y 1 1) ∧ 7970 - s'.2.1.toNatClampNeg < 7970 - (nI y).toNatClampNeg) m (nI mi) (nI l.length) (nI y) (lN dd) (lN len) h := fun len hlen h365 h366 hc => by
    unfold m_M_putTime_58
    rw [lN_sub (by omega), nI_1]
    rintro _ rfl _ rfl
    rw [if_neg (by omega)] at hyr
    have hle : y + 1 ≤ Y := by
      apply Classical.byContradiction
      intro hc'
      have : y = Y := by omega
      subst this
      omega
    refine ⟨⟨n', y + 1, dd - len, by omega, by omega, hle, rfl, hyr, by omega⟩, ?_⟩
    simp (disch := omega) only [nI_clamp]
    omega
  unfold m_M_putTime_17_b
  refine s_leap (by omega) (fun _ _ => ?_)
  cases hlp : d_leap y with
  | true =>
    rw [hlp, if_pos rfl] at hyear
    refine ⟨fun c => absurd c (by decide), fun _ => key 366 hyear (by decide) (by decide) (fun hc => s_leap (by omega) (fun _ _ => ?_))⟩
    rw [hlp]
    exact ⟨fun c => absurd c (by decide), fun _ => nx 366 hyear (by decide) (by decide) hc⟩
  | false =>
    rw [hlp, if_neg (by decide)] at hyear
    refine ⟨fun _ => key 365 hyear (by decide) (by decide) (fun hc => s_leap (by omega) (fun _ _ => ?_)), fun c => absurd rfl c⟩
    rw [hlp]
    exact ⟨fun _ => nx 365 hyear (by decide) (by decide) hc, fun c => absurd rfl c⟩
