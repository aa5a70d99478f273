set_option maxRecDepth 10000
/-- the hosts of a text: from s on, at i -/
def e_hs (t : Nat → Nat) (e : Nat) : Nat → Nat → Nat → List Nat
  | 0, _, _ => []
  | k + 1, s, i => if i < e ∧ t i ≠ 44 then e_hs t e k s (i + 1) else e_tlv 130 (e_sub t s (i - s)) ++ (if i < e then e_hs t e k (i + 1) (i + 1) else [])
def e_hosts (t : Nat → Nat) (a e : Nat) : List Nat := e_hs t e (e + 1 - a) a a
theorem e_tlv_le2 {t : Nat} {c : List Nat} : (e_tlv t c).length ≤ 2 * (c.length + 1) := by
  unfold e_tlv
  rw [List.length_cons, List.length_append]
  by_cases h : c.length < 128
  · have : e_len c.length = [c.length] := by unfold e_len; rw [if_pos h]
    rw [this]
    simp
    omega
  · have := e_len_le (n := c.length)
    omega
theorem e_hs_le {t : Nat → Nat} {e : Nat} : ∀ k s i, s ≤ i → (e_hs t e k s i).length ≤ 2 * (k + (i - s))
  | 0, _, _, _ => by simp [e_hs]
  | k + 1, s, i, h => by
    simp only [e_hs]
    split
    · have := e_hs_le (t := t) (e := e) k s (i + 1) (by omega)
      omega
    · rw [List.length_append]
      have h1 := e_tlv_le2 (t := 130) (c := e_sub t s (i - s))
      rw [e_sub_len] at h1
      split
      · have := e_hs_le (t := t) (e := e) k (i + 1) (i + 1) (by omega)
        omega
      · simp
        omega
theorem e_hs_run {t : Nat → Nat} {e s : Nat} : ∀ n a, a + n ≤ e → (∀ j, a ≤ j → j < a + n → t j ≠ 44) → e_hs t e (e + 1 - a) s a = e_hs t e (e + 1 - (a + n)) s (a + n)
  | 0, a, _, _ => rfl
  | n + 1, a, h, hn => by
    obtain ⟨k, hk⟩ : ∃ k, e + 1 - a = k + 1 := ⟨e - a, by omega⟩
    rw [hk]
    simp only [e_hs]
    rw [if_pos ⟨by omega, hn a (by omega) (by omega)⟩, show k = e + 1 - (a + 1) by omega, e_hs_run n (a + 1) (by omega) (fun j h1 h2 => hn j (by omega) (by omega))]
    rw [show a + 1 + n = a + (n + 1) by omega]
theorem e_hs_end {t : Nat → Nat} {e s q : Nat} (hq : q ≤ e) (h : q = e ∨ t q = 44) : e_hs t e (e + 1 - q) s q = e_tlv 130 (e_sub t s (q - s)) ++ (if q < e then e_hosts t (q + 1) e else []) := by
  obtain ⟨k, hk⟩ : ∃ k, e + 1 - q = k + 1 := ⟨e - q, by omega⟩
  rw [hk]
  simp only [e_hs]
  rw [if_neg (by omega)]
  unfold e_hosts
  rw [show e + 1 - (q + 1) = k by omega]
/-- a host from a to q -/
theorem e_hosts_st {t : Nat → Nat} {a q e : Nat} (h1 : a ≤ q) (h2 : q ≤ e) (h3 : q = e ∨ t q = 44) (h4 : ∀ j, a ≤ j → j < q → t j ≠ 44) : e_hosts t a e = e_tlv 130 (e_sub t a (q - a)) ++ (if q < e then e_hosts t (q + 1) e else []) := by
  have e1 := e_hs_run (t := t) (e := e) (s := a) (q - a) a (by omega) (fun j j1 j2 => h4 j j1 (by omega))
  rw [show a + (q - a) = q by omega] at e1
  rw [← e_hs_end h2 h3]
  exact e1
theorem e_hosts_le {t : Nat → Nat} {a e : Nat} : (e_hosts t a e).length ≤ 2 * (e + 1 - a) := by
  have := e_hs_le (t := t) (e := e) (e + 1 - a) a a (Nat.le_refl _)
  unfold e_hosts
  omega
theorem s_ihosts {Q : AH → Prop} {h0 h : AH} {w b0 N0 N i a e s : Nat} {t : Nat → Nat} {l : List Nat} (r : rm h0 2000 2000000) (I : IC h0 i w) (W : WS h0 h w b0 N0 N l) (hs : bk (hp_k h0 s)) (hsb : s ≠ b0) (hsz : s < hp_z h0) (hsn : e ≤ hp_n h0 s) (hae : a < e) (ha1 : 1 ≤ a) (he : e ≤ 20000) (hc : t (a - 1) = 44) (hc2 : t a ≠ 44) (hg : ∀ j, j < e → ub (hp_I h0 s j) = t j) (hl : l.length < 1000) (k : ∀ h1 N', WS h0 h1 w b0 N0 N' (e_ext 3 false (e_tlv 48 (e_hosts t a e)) ++ l) → Q h1) : m_Iss_hosts Q i s (nI a) (nI e) h := by
  obtain ⟨a1, a2, a3, a4⟩ := I.at W
  have hsw : s ≠ w := by rintro rfl; rcases hs with hs | hs <;> (have := W.2.2.2.2.1; omega)
  refine ⟨a1, w, a2, a3, s_wsize W (fun _ => ?_)⟩
  have hhl := e_hosts_le (t := t) (a := a) (e := e)
  have tot : ∀ q, (e_hosts t q e).length ≤ 2 * (e + 1 - q) := fun q => e_hosts_le
  refine ⟨fun st => ∃ q N2, q ≤ e ∧ st.1 = nI q ∧ WS h0 st.2 w b0 N0 N2 ((if q < e then e_hosts t (q + 1) e else []) ++ l) ∧ ((q = e ∨ t q = 44) ∧ a ≤ q + 1), fun st => (st.1 + 1).toNatClampNeg, ⟨e, N, Nat.le_refl _, rfl, by rw [if_neg (by omega)]; exact W, Or.inl rfl, by omega⟩, ?_⟩
  rintro ⟨v, s2⟩ ⟨q, N2, hq, hv, W2, hq2, hq3⟩
  simp only at hv W2 ⊢
  subst hv
  obtain ⟨q1, q2, q3, q4⟩ := I.at W2
  have lq : ((if q < e then e_hosts t (q + 1) e else []) ++ l).length ≤ 2 * e + 1002 := by
    rw [List.length_append]
    split
    · have := tot (q + 1); omega
    · simp; omega
  unfold m_Iss_hosts_12_b
  rw [nI_leI (by omega) (by omega)]
  refine ⟨fun c => ⟨q1, w, q2, q3, ?_⟩, fun c => ?_⟩
  · -- all hosts are written
    have hqa : q + 1 = a := by
      apply Classical.byContradiction
      intro hne
      have : q = a := by omega
      subst this
      rcases hq2 with h | h
      · omega
      · exact hc2 h
    rw [if_pos (by omega), hqa] at W2
    refine s_wwrap (tag := 48) r W2 rfl (by rw [List.length_append]; omega) (by decide) (fun h3 N3 W3 _ => ?_)
    have t5 := e_tlv_le (t := 48) (c := e_hosts t a e)
    rw [(I.at W3).2.2.2]
    exact s_iext (cn := 3) (crit := false) r I W3 rfl (by decide) rfl (by omega) (fun h4 N4 W4 _ => k h4 N4 W4)
  -- back to the comma
  refine ⟨fun st => ∃ p, p ≤ q ∧ a ≤ p ∧ st = (nI p, s2) ∧ ∀ j, p ≤ j → j < q → t j ≠ 44, fun st => st.1.toNatClampNeg, ⟨q, Nat.le_refl _, by omega, rfl, fun j j1 j2 => by omega⟩, ?_⟩
  rintro _ ⟨p, hp, hp2, rfl, hn⟩
  obtain ⟨⟨f1, f2⟩, f3⟩ := W2.fr (a := s) (by rcases hs with hs | hs <;> omega) hsw hsb hsz
  simp only
  unfold m_Iss_hosts_22_b
  refine ⟨by rw [f1]; exact hs, ?_⟩
  rw [show (1 : Int32) = nI 1 from rfl, nI_sub (by omega), nI_clamp (by omega), vp_iff (by omega), f2, (f3 _).1]
  refine ⟨by omega, fun h8 => ?_⟩
  rw [show (44 : Int32) = nI 44 from rfl, b_eq h8 (by decide), hg (p - 1) (by omega)]
  refine ⟨fun c2 => ⟨q1, w, q2, q3, ?_⟩, fun c2 => ?_⟩
  · rw [nI_sub (by omega)]
    refine s_wpart (tag := 130) (g := t) r W2 (by omega) hs hsb hsz (by omega) (by omega) (fun j hj => hg _ (by omega)) (by decide) (fun h3 N3 W3 _ => ?_)
    rintro _ rfl
    refine ⟨⟨p - 1, N3, by omega, rfl, ?_, Or.inr c2, by omega⟩, ?_⟩
    · rw [if_pos (by omega), show p - 1 + 1 = p by omega, e_hosts_st hp hq hq2 hn, List.append_assoc]
      exact W3
    · simp only
      rw [nI_add, nI_add, nI_clamp (by omega), nI_clamp (by omega)]
      omega
  · rw [← Int32.sub_eq_add_neg, nI_sub (by omega)]
    rintro _ rfl
    have hpa : p ≠ a := fun e => by subst e; exact c2 hc
    refine ⟨⟨p - 1, by omega, by omega, rfl, fun j j1 j2 => ?_⟩, ?_⟩
    · by_cases hj : j = p - 1
      · rw [hj]; exact c2
      · exact hn j (by omega) j2
    · simp (disch := omega) only [nI_clamp]
      omega
theorem hw_bits : ∀ n, n < 2048 → ((nI n &&& 1024 = 0 ↔ n / 1024 % 2 = 0) ∧ (nI n &&& 768 = 0 ↔ n / 256 % 4 = 0) ∧ (nI n &&& 512 = 0 ↔ n / 512 % 2 = 0) ∧ (nI n &&& 256 = 0 ↔ n / 256 % 2 = 0) ∧ (nI n &&& 1 = 0 ↔ n % 2 = 0) ∧ (nI n >>> ((1 : Int32) &&& 31)) &&& 127 = nI (n / 2 % 128)) := by decide +kernel
def e_x1 (how : Nat) : List Nat := e_ext 1 true (e_tlv 48 (if how % 2 = 0 then [] else [1, 1, 255] ++ (if how / 2 % 128 = 0 then [] else e_tlv 2 (e_num (how / 2 % 128 - 1)))))
def e_x2 (how : Nat) : List Nat := e_ext 2 true (e_tlv 3 (if how % 2 = 0 then [7, 128] else [1, 6]))
def e_x3 (t : Nat → Nat) (cm e : Nat) : List Nat := if cm < e then e_ext 3 false (e_tlv 48 (e_hosts t (cm + 1) e)) else []
def e_x4 (how : Nat) : List Nat := if how / 256 % 4 = 0 then [] else e_ext 4 false (e_tlv 48 ((if how / 256 % 2 = 0 then [] else e_tlv 6 (e_oid 5)) ++ (if how / 512 % 2 = 0 then [] else e_tlv 6 (e_oid 6))))
def e_x5 (how : Nat) : List Nat := if how / 1024 % 2 = 0 then [] else e_ext 7 true [5, 0]
def e_exts (how : Nat) (t : Nat → Nat) (cm e : Nat) : List Nat := e_tlv 163 (e_tlv 48 (e_x1 how ++ (e_x2 how ++ (e_x3 t cm e ++ (e_x4 how ++ e_x5 how)))))
theorem e_ext_le {i : Nat} {crit : Bool} {c : List Nat} (hi : i < 9) : (e_ext i crit c).length ≤ c.length + 27 := by
  unfold e_ext
  have h1 := e_tlv_le (t := 48) (c := e_tlv 6 (e_oid i) ++ ((if crit = true then [1, 1, 255] else []) ++ e_tlv 4 c))
  have h2 := e_tlv_le (t := 6) (c := e_oid i)
  have h3 := e_tlv_le (t := 4) (c := c)
  have h4 := e_oid_le hi
  have h5 : (if crit = true then [1, 1, 255] else ([] : List Nat)).length ≤ 3 := by split <;> simp
  simp only [List.length_append] at h1
  omega
theorem e_oid_tlv {i : Nat} (hi : i < 9) : (e_tlv 6 (e_oid i)).length ≤ 14 := by
  have h2 := e_tlv_le (t := 6) (c := e_oid i)
  have h4 := e_oid_le hi
  omega
theorem e_x5_le {how : Nat} : (e_x5 how).length ≤ 29 := by
  unfold e_x5
  split
  · simp
  · have := e_ext_le (i := 7) (crit := true) (c := [5, 0]) (by decide)
    simp at this
    omega
theorem e_x4_le {how : Nat} : (e_x4 how).length ≤ 60 := by
  unfold e_x4
  split
  · simp
  · refine Nat.le_trans (e_ext_le (by decide)) ?_
    have h1 := e_tlv_le (t := 48) (c := (if how / 256 % 2 = 0 then [] else e_tlv 6 (e_oid 5)) ++ (if how / 512 % 2 = 0 then [] else e_tlv 6 (e_oid 6)))
    have h2 : (if how / 256 % 2 = 0 then ([] : List Nat) else e_tlv 6 (e_oid 5)).length ≤ 14 := by
      split
      · simp
      · exact e_oid_tlv (by decide)
    have h3 : (if how / 512 % 2 = 0 then ([] : List Nat) else e_tlv 6 (e_oid 6)).length ≤ 14 := by
      split
      · simp
      · exact e_oid_tlv (by decide)
    rw [List.length_append] at h1
    omega
theorem e_x3_le {t : Nat → Nat} {cm e : Nat} : (e_x3 t cm e).length ≤ 2 * (e - cm) + 32 := by
  unfold e_x3
  split
  · refine Nat.le_trans (e_ext_le (by decide)) ?_
    have h1 := e_tlv_le (t := 48) (c := e_hosts t (cm + 1) e)
    have h2 := e_hosts_le (t := t) (a := cm + 1) (e := e)
    omega
  · simp
theorem e_x2_le {how : Nat} : (e_x2 how).length ≤ 34 := by
  unfold e_x2
  refine Nat.le_trans (e_ext_le (by decide)) ?_
  have h1 := e_tlv_le (t := 3) (c := if how % 2 = 0 then [7, 128] else [1, 6])
  have h2 : (if how % 2 = 0 then [7, 128] else [1, 6]).length = 2 := by split <;> rfl
  omega
theorem e_x1c_le {how : Nat} : (if how % 2 = 0 then ([] : List Nat) else [1, 1, 255] ++ (if how / 2 % 128 = 0 then [] else e_tlv 2 (e_num (how / 2 % 128 - 1)))).length ≤ 10 := by
  split
  · simp
  · rw [List.length_append]
    split
    · simp
    · have h1 := e_tlv_le (t := 2) (c := e_num (how / 2 % 128 - 1))
      have h2 : (e_num (how / 2 % 128 - 1)).length ≤ 2 := by unfold e_num; split <;> simp
      simp
      omega
theorem e_x1_le {how : Nat} : (e_x1 how).length ≤ 42 := by
  unfold e_x1
  refine Nat.le_trans (e_ext_le (by decide)) ?_
  have h1 := e_tlv_le (t := 48) (c := if how % 2 = 0 then ([] : List Nat) else [1, 1, 255] ++ (if how / 2 % 128 = 0 then [] else e_tlv 2 (e_num (how / 2 % 128 - 1))))
  have h2 := e_x1c_le (how := how)
  omega
theorem e_exts_le {how : Nat} {t : Nat → Nat} {cm e : Nat} : (e_exts how t cm e).length ≤ 2 * (e - cm) + 210 := by
  unfold e_exts
  refine Nat.le_trans e_tlv_le ?_
  have h0 := e_tlv_le (t := 48) (c := e_x1 how ++ (e_x2 how ++ (e_x3 t cm e ++ (e_x4 how ++ e_x5 how))))
  have h1 := e_x1_le (how := how)
  have h2 := e_x2_le (how := how)
  have h3 := e_x3_le (t := t) (cm := cm) (e := e)
  have h4 := e_x4_le (how := how)
  have h5 := e_x5_le (how := how)
  simp only [List.length_append] at h0
  omega
