set_option maxRecDepth 10000
theorem iu8 {v : Nat} (hv : v < 2 ^ 31) : sh_iu (nI v) 8 = nI (v / 256) := iu_nI (N := v) (s := 8) (by omega) (by decide)
/-- the k lowest bytes, the highest first -/
def e_b (n : Nat) : Nat → List Nat
  | 0 => []
  | k + 1 => (n / 256 ^ k % 256) :: e_b n k
theorem e_b_len {n : Nat} : ∀ {k}, (e_b n k).length = k
  | 0 => rfl
  | k + 1 => by simp only [e_b, List.length_cons]; rw [e_b_len]
theorem e_len_b {n k : Nat} (h1 : 128 ≤ n) (h2 : n < 2 ^ 24) (hk : n / 256 ^ k = 0) (hk2 : k = 0 ∨ 0 < n / 256 ^ (k - 1)) : e_len n = (128 + k) :: e_b n k := by
  have hk3 : k = 1 ∨ k = 2 ∨ k = 3 := by
    apply Classical.byContradiction
    intro hc
    rcases hk2 with rfl | hk2
    · simp at hk; omega
    · have : 4 ≤ k ∨ k = 0 := by omega
      rcases this with h4 | rfl
      · have : 256 ^ 3 ≤ 256 ^ (k - 1) := Nat.pow_le_pow_right (by decide) (by omega)
        have : n / 256 ^ (k - 1) = 0 := Nat.div_eq_of_lt (by omega)
        omega
      · simp at hk; omega
  unfold e_len
  rw [if_neg (by omega)]
  rcases hk3 with rfl | rfl | rfl
  · rw [if_pos (by simp at hk; omega)]
    simp only [e_b, Nat.pow_zero, Nat.div_one]
    simp at hk
    rw [Nat.mod_eq_of_lt (by omega)]
  · simp only [Nat.add_one_sub_one, Nat.pow_one] at hk2 hk
    simp at hk hk2
    rw [if_neg (by omega), if_pos (by omega)]
    simp only [e_b, Nat.pow_zero, Nat.div_one, Nat.pow_one]
    rw [Nat.mod_eq_of_lt (a := n / 256) (by omega)]
  · simp at hk hk2
    rw [if_neg (by omega), if_neg (by omega)]
    simp only [e_b, Nat.pow_zero, Nat.div_one, Nat.pow_one]
    rw [show 256 ^ 2 = 65536 from rfl, Nat.mod_eq_of_lt (a := n / 65536) (by omega)]
theorem s_wwrap {Q : AH → Prop} {h0 h : AH} {w b0 N0 N tag bf : Nat} {c rest : List Nat} (r : rm h0 2000 2000000) (W : WS h0 h w b0 N0 N (c ++ rest)) (hbf : bf = rest.length) (hl : (c ++ rest).length < 134000) (ht : tag < 256) (k : ∀ h1 N', WS h0 h1 w b0 N0 N' (e_tlv tag c ++ rest) → Q h1) : m_Wr_wrap Q w (nI tag) (nI bf) h := by
  have hl' : c.length + rest.length < 134000 := by rw [List.length_append] at hl; exact hl
  refine ⟨W.k, s_wsize W (fun _ => ?_)⟩
  rw [List.length_append, nI_sub (by omega), show c.length + rest.length - bf = c.length by omega]
  rintro _ rfl
  rw [show (128 : Int32) = nI 128 from rfl, nI_leI (by omega) (by omega)]
  have last : ∀ h2 N2, WS h0 h2 w b0 N0 N2 (e_len c.length ++ (c ++ rest)) → m_Wr_wrap_62 Q w (nI tag) h2 := fun h2 N2 W2 => by
    have hle : (e_len c.length).length ≤ 4 := by unfold e_len; repeat' split
                                                 all_goals simp
    refine ⟨W2.k, s_wone r W2 (by simp only [List.length_append]; omega) (cut_nI tag) (fun h3 N3 W3 _ => k h3 N3 ?_)⟩
    rw [Nat.mod_eq_of_lt ht] at W3
    unfold e_tlv
    simpa using W3
  refine ⟨fun c1 => ?_, fun c1 => ?_⟩
  · refine ⟨fun s => ∃ i N2, i ≤ 3 ∧ s.1 = nI i ∧ s.2.1 = nI (c.length / 256 ^ i) ∧ WS h0 s.2.2 w b0 N0 N2 (e_b c.length i ++ (c ++ rest)) ∧ (i = 0 ∨ 0 < c.length / 256 ^ (i - 1)), fun s => s.2.1.toNatClampNeg, ⟨0, N, by decide, rfl, by simp, W, Or.inl rfl⟩, ?_⟩
    rintro ⟨v1, v2, s⟩ ⟨i, N2, hi, e1, e2, W2, hi2⟩
    simp only at e1 e2 W2 ⊢
    subst e1
    subst e2
    have hdl : c.length / 256 ^ i < 2 ^ 31 := Nat.lt_of_le_of_lt (Nat.div_le_self _ _) (by omega)
    unfold m_Wr_wrap_28_b
    rw [show (0 : Int32) = nI 0 from rfl, nI_leI hdl (by omega), show (128 : Int32) = nI 128 from rfl, nI_add]
    refine ⟨fun c2 => ⟨W2.k, s_wone r W2 (by simp only [List.length_append, e_b_len]; omega) (cut_nI _) (fun h3 N3 W3 _ => last h3 N3 ?_)⟩, fun c2 => ⟨W2.k, s_wone r W2 (by simp only [List.length_append, e_b_len]; omega) (cut_nI _) (fun h3 N3 W3 _ => ?_)⟩⟩
    · rw [e_len_b c1 (by omega) (Nat.le_zero.mp c2) hi2]
      rw [Nat.mod_eq_of_lt (by omega)] at W3
      exact W3
    · rintro _ rfl _ rfl
      have hlt : i < 3 := by
        apply Classical.byContradiction
        intro hc
        have : i = 3 := by omega
        subst this
        have : c.length / 256 ^ 3 = 0 := Nat.div_eq_of_lt (by omega)
        exact c2 (Nat.le_of_eq this)
      have c2' : 0 < c.length / 256 ^ i := Nat.pos_of_ne_zero (fun e => c2 (Nat.le_of_eq e))
      have e3 : c.length / 256 ^ i / 256 = c.length / 256 ^ (i + 1) := by rw [Nat.div_div_eq_div_mul, Nat.pow_succ]
      rw [iu8 hdl, e3]
      refine ⟨⟨i + 1, N3, by omega, by simp only [nI_1], rfl, W3, Or.inr (by rw [Nat.add_sub_cancel]; exact c2')⟩, ?_⟩
      simp only
      generalize c.length / 256 ^ i = q at *
      rw [← e3, nI_clamp (by omega), nI_clamp (by omega)]
      omega
  · refine s_wone r W (by rw [List.length_append]; omega) (cut_nI _) (fun h2 N2 W2 _ => last h2 N2 ?_)
    rw [Nat.mod_eq_of_lt (by omega)] at W2
    have : e_len c.length = [c.length] := by unfold e_len; rw [if_pos (by omega)]
    rw [this]
    exact W2
theorem s_wpart {Q : AH → Prop} {h0 h : AH} {w b0 N0 N a n s tag : Nat} {g : Nat → Nat} {l : List Nat} (r : rm h0 2000 2000000) (W : WS h0 h w b0 N0 N l) (hl : l.length + n < 133000) (hs : bk (hp_k h0 s)) (hsb : s ≠ b0) (hsz : s < hp_z h0) (hsn : a + n ≤ hp_n h0 s) (han : a + n < 2 ^ 30) (hg : ∀ j, j < n → ub (hp_I h0 s (a + j)) = g (a + j)) (ht : tag < 256) (k : ∀ h1 N', WS h0 h1 w b0 N0 N' (e_tlv tag (e_sub g a n) ++ l) → Q h1) : m_Wr_part Q w (nI tag) s (nI a) (nI n) h := by
  refine ⟨W.k, s_wsize W (fun _ => s_wall r W (by omega) hs hsb hsz hsn han hg (fun h1 N1 W1 _ => s_wwrap r W1 rfl ?_ ht (fun h2 N2 W2 _ => k h2 N2 W2)))⟩
  rw [List.length_append, e_sub_len]
  omega
def e_num (n : Nat) : List Nat := if n < 128 then [n] else [n / 256, n % 256]
theorem s_wnum {Q : AH → Prop} {h0 h : AH} {w b0 N0 N n : Nat} {l : List Nat} (r : rm h0 2000 2000000) (W : WS h0 h w b0 N0 N l) (hl : l.length < 133000) (hn : n < 32768) (k : ∀ h1 N', WS h0 h1 w b0 N0 N' (e_tlv 2 (e_num n) ++ l) → Q h1) : m_Wr_number Q w (nI n) h := by
  refine ⟨W.k, s_wsize W (fun _ => ?_)⟩
  have fin : ∀ h2 N2, WS h0 h2 w b0 N0 N2 (e_num n ++ l) → m_Wr_number_38 Q w (nI l.length) h2 := fun h2 N2 W2 => by
    have : (e_num n).length ≤ 2 := by unfold e_num; split <;> simp
    refine ⟨W2.k, s_wwrap r W2 rfl (by rw [List.length_append]; omega) (by decide) (fun h3 N3 W3 _ => k h3 N3 W3)⟩
  -- the first byte tells the sign
  have sgn : ∀ h2 N2 u m, WS h0 h2 w b0 N0 N2 (u :: m) → (u :: m).length < 134000 → (u < 128 → m_Wr_number_38 Q w (nI l.length) h2) → (128 ≤ u → ∀ h3 N3, WS h0 h3 w b0 N0 N3 (0 :: u :: m) → m_Wr_number_38 Q w (nI l.length) h3) → ∃ b1, hp_R h2 w 0 = some b1 ∧ bk (hp_k h2 b1) ∧ vp_in (hp_I h2 w 1) (hp_n h2 b1) ∧ (by8 (hp_I h2 b1 ((hp_I h2 w 1)).toNatClampNeg) → (0 ≤ (hp_I h2 b1 ((hp_I h2 w 1)).toNatClampNeg) → m_Wr_number_38 Q w (nI l.length) h2) ∧ (¬ 0 ≤ (hp_I h2 b1 ((hp_I h2 w 1)).toNatClampNeg) → m_Wr_one (fun h3 => fx_ext h2 h3 → m_Wr_number_38 Q w (nI l.length) h3) w (0 : Int32) h2)) := fun h2 N2 u m W2 hlen k1 k2 => by
    have W0 := W2
    obtain ⟨w1, w2, w3, w4, w5, w6, b, b1, b2, b3, b4, b5, b6, b7⟩ := W2
    rw [List.length_cons] at b5 b6 b7
    refine ⟨b, b1, Or.inl b3, ?_⟩
    rw [b5, b4, vp_iff (by omega), nI_clamp (by omega)]
    refine ⟨by omega, fun h8 => ?_⟩
    have hu : ub (hp_I h2 b (N2 - (m.length + 1))) = u := b7 0 (by omega)
    rw [b_ge0 h8, hu]
    refine ⟨fun c => k1 c, fun c => s_wone r W0 (by omega) (u := 0) (by decide) (fun h3 N3 W3 _ => k2 (by omega) h3 N3 W3)⟩
  refine ⟨fun s => (s = (nI n, h)) ∨ (256 ≤ n ∧ s.1 = nI (n / 256) ∧ ∃ N2, WS h0 s.2 w b0 N0 N2 ((n % 256) :: l)), fun s => s.1.toNatClampNeg, Or.inl rfl, ?_⟩
  rintro ⟨v, s⟩ (hs | ⟨hn2, hv, N2, W2⟩)
  · cases hs
    simp only
    refine ⟨W.k, s_wone r W (by omega) (cut_nI n) (fun h2 N2 W2 _ => ?_)⟩
    rw [show (8 : Int32) = 8 from rfl, iu8 (by omega)]
    rintro _ rfl
    rw [show (0 : Int32) = nI 0 from rfl, nI_ltI (by omega) (by omega)]
    refine ⟨fun c => ⟨Or.inr ⟨by omega, rfl, N2, W2⟩, ?_⟩, fun c => ?_⟩
    · simp only
      rw [nI_clamp (by omega), nI_clamp (by omega)]
      omega
    · refine sgn h2 N2 _ _ W2 (by rw [List.length_cons]; omega) (fun cu => fin h2 N2 ?_) (fun cu h3 N3 W3 => fin h3 N3 ?_)
      · have : e_num n = [n % 256] := by unfold e_num; rw [if_pos (by omega), Nat.mod_eq_of_lt (by omega)]
        rw [this]; exact W2
      · have : e_num n = [0, n % 256] := by unfold e_num; rw [if_neg (by omega), show n / 256 = 0 by omega]
        rw [this]; exact W3
  · simp only at hv W2 ⊢
    subst hv
    refine ⟨W2.k, s_wone r W2 (by rw [List.length_cons]; omega) (cut_nI _) (fun h2 N3 W3 _ => ?_)⟩
    rw [iu8 (by omega)]
    rintro _ rfl
    rw [show (0 : Int32) = nI 0 from rfl, nI_ltI (by omega) (by omega)]
    refine ⟨fun c => by omega, fun c => ?_⟩
    refine sgn h2 N3 _ _ W3 (by rw [List.length_cons, List.length_cons]; omega) (fun cu => fin h2 N3 ?_) (fun cu h3 N3 W3 => by omega)
    have : e_num n = [n / 256 % 256, n % 256] := by unfold e_num; rw [if_neg (by omega), Nat.mod_eq_of_lt (a := n / 256) (by omega)]
    rw [this]; exact W3
