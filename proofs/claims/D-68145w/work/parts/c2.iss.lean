set_option maxRecDepth 10000
/-- the issuer's cell i, its writer w, the constants -/
def IC (h0 : AH) (i w : Nat) : Prop := hp_k h0 i = 10 ∧ hp_R h0 i 0 = some w ∧ i < hp_z h0 ∧ CON h0 ∧ ∀ k, k < 11 → hp_c h0 k < hp_z h0
theorem IC.at {h0 h : AH} {i w b0 N0 N : Nat} {l : List Nat} (I : IC h0 i w) (W : WS h0 h w b0 N0 N l) : hp_k h i = 10 ∧ hp_R h i 0 = some w ∧ hp_k h w = 11 ∧ hp_c h = hp_c h0 := by
  obtain ⟨i1, i2, i3, i4, i5⟩ := I
  have w5 := W.2.2.2.2.1
  have w6 := W.2.2.2.2.2.1
  obtain ⟨⟨f1, f2⟩, f3⟩ := W.fr (a := i) (by omega) (k_ne i1 w5 (by decide)) (k_ne i1 w6 (by decide)) i3
  exact ⟨f1.trans i1, (f3 0).2.2.trans i2, W.k, W.1.2.2.2.2.2.2.2⟩
def e_oid (i : Nat) : List Nat := e_sub (ko i) 0 (kl i)
def e_ext (i : Nat) (crit : Bool) (c : List Nat) : List Nat := e_tlv 48 (e_tlv 6 (e_oid i) ++ ((if crit = true then [1, 1, 255] else []) ++ e_tlv 4 c))
theorem e_len_le {n : Nat} : (e_len n).length ≤ 4 := by
  unfold e_len
  repeat' split
  all_goals simp
theorem e_tlv_le {t : Nat} {c : List Nat} : (e_tlv t c).length ≤ c.length + 5 := by
  unfold e_tlv
  rw [List.length_cons, List.length_append]
  have := e_len_le (n := c.length)
  omega
theorem kl_le : ∀ i, i < 9 → kl i ≤ 9 := by decide +kernel
theorem e_oid_le {i : Nat} (hi : i < 9) : (e_oid i).length ≤ 9 := by
  unfold e_oid
  rw [e_sub_len]
  exact kl_le i hi
/-- a constant's part -/
theorem s_wcon {Q : AH → Prop} {h0 h : AH} {w b0 N0 N i c : Nat} {l : List Nat} (r : rm h0 2000 2000000) (I : IC h0 i w) (W : WS h0 h w b0 N0 N l) (hc : c < 9) (hl : l.length < 132900) (k : ∀ h1 N', WS h0 h1 w b0 N0 N' (e_tlv 6 (e_oid c) ++ l) → Q h1) : m_Wr_part Q w 6 (hp_c h0 (c + 2)) 0 (nI (kl c)) h := by
  obtain ⟨c1, c2, c3⟩ := I.2.2.2.1.b c hc
  have := kl_le c hc
  have kc : hp_k h0 (hp_c h0 (c + 2)) = 111 := (I.2.2.2.1.2.2.1 c hc).1
  exact s_wpart (a := 0) (tag := 6) r W (by omega) c1 (k_ne kc W.2.2.2.2.2.1 (by decide)) (I.2.2.2.2 (c + 2) (by omega)) (by omega) (by omega) (fun j hj => by rw [Nat.zero_add]; exact c3 j hj) (by decide) k
theorem s_iext {Q : AH → Prop} {h0 h : AH} {w b0 N0 N i cn bf : Nat} {x2 : Int32} {crit : Bool} {c rest : List Nat} (r : rm h0 2000 2000000) (I : IC h0 i w) (W : WS h0 h w b0 N0 N (c ++ rest)) (hbf : bf = rest.length) (hc : cn < 9) (hx : x2 = b2 crit) (hl : c.length + rest.length < 132000) (k : ∀ h1 N', WS h0 h1 w b0 N0 N' (e_ext cn crit c ++ rest) → Q h1) : m_Iss_extension Q i (hp_c h0 (cn + 2)) x2 (nI bf) h := by
  obtain ⟨a1, a2, a3, a4⟩ := I.at W
  have kc : hp_k h0 (hp_c h0 (cn + 2)) = 111 := (I.2.2.2.1.2.2.1 cn hc).1
  have nc : hp_n h0 (hp_c h0 (cn + 2)) = kl cn := (I.2.2.2.1.2.2.1 cn hc).2.1
  have o9 := e_oid_le hc
  refine ⟨a1, w, a2, a3, s_wwrap (tag := 4) r W hbf (by rw [List.length_append]; omega) (by decide) (fun h1 N1 W1 _ => ?_)⟩
  have t5 := e_tlv_le (t := 4) (c := c)
  have tail : ∀ h2 N2 d, d.length ≤ 3 → WS h0 h2 w b0 N0 N2 (d ++ (e_tlv 4 c ++ rest)) → e_ext cn crit c = e_tlv 48 (e_tlv 6 (e_oid cn) ++ (d ++ e_tlv 4 c)) → m_Iss_extension_39 Q i (hp_c h0 (cn + 2)) (nI bf) h2 := fun h2 N2 d hd W2 he => by
    obtain ⟨q1, q2, q3, q4⟩ := I.at W2
    obtain ⟨⟨f1, f2⟩, -⟩ := W2.fr (a := hp_c h0 (cn + 2)) (by omega) (k_ne kc W2.2.2.2.2.1 (by decide)) (k_ne kc W2.2.2.2.2.2.1 (by decide)) (I.2.2.2.2 (cn + 2) (by omega))
    refine ⟨q1, w, q2, Or.inr (f1.trans kc), q3, ?_⟩
    rw [f2, nc]
    refine s_wcon r I W2 hc (by simp only [List.length_append]; omega) (fun h3 N3 W3 _ => ?_)
    obtain ⟨p1, p2, p3, p4⟩ := I.at W3
    refine ⟨w, p2, p3, s_wwrap (tag := 48) (c := e_tlv 6 (e_oid cn) ++ (d ++ e_tlv 4 c)) (rest := rest) r (by simpa using W3) hbf ?_ (by decide) (fun h4 N4 W4 _ => k h4 N4 (by rw [he]; exact W4))⟩
    have t6 := e_tlv_le (t := 6) (c := e_oid cn)
    simp only [List.length_append]
    omega
  subst hx
  cases crit with
  | false => exact ⟨fun _ => tail h1 N1 [] (by decide) W1 rfl, fun c => absurd rfl c⟩
  | true =>
    refine ⟨fun c => absurd c (by decide), fun _ => ?_⟩
    obtain ⟨q1, q2, q3, q4⟩ := I.at W1
    have l1 : (e_tlv 4 c ++ rest).length < 132100 := by rw [List.length_append]; omega
    refine ⟨w, q2, q3, s_wone (u := 255) r W1 (by omega) (by decide) (fun h2 N2 W2 _ => ?_)⟩
    obtain ⟨q1, q2, q3, q4⟩ := I.at W2
    refine ⟨w, q2, q3, s_wone (u := 1) r W2 (by rw [List.length_cons]; omega) (by decide) (fun h3 N3 W3 _ => ?_)⟩
    obtain ⟨q1, q2, q3, q4⟩ := I.at W3
    refine ⟨w, q2, q3, s_wone (u := 1) r W3 (by rw [List.length_cons, List.length_cons]; omega) (by decide) (fun h4 N4 W4 _ => tail h4 N4 [1, 1, 255] (by decide) W4 rfl)⟩
def e_two (n : Nat) : List Nat := [48 + n / 10, 48 + n % 10]
theorem s_itwo {Q : AH → Prop} {h0 h : AH} {w b0 N0 N i n : Nat} {l : List Nat} (r : rm h0 2000 2000000) (I : IC h0 i w) (W : WS h0 h w b0 N0 N l) (hn : n < 100) (hl : l.length < 134000) (k : ∀ h1 N', WS h0 h1 w b0 N0 N' (e_two n ++ l) → Q h1) : m_Iss_two Q i (nI n) h := by
  obtain ⟨a1, a2, a3, a4⟩ := I.at W
  refine ⟨a1, w, a2, a3, ?_⟩
  rw [show (10 : Int32) = nI 10 from rfl, show (48 : Int32) = nI 48 from rfl, nI_div (by omega) (by omega), nI_mul, nI_sub (by omega), nI_add, nI_add]
  refine s_wone (u := 48 + n % 10) r W (by omega) (by rw [cut_nI]; omega) (fun h1 N1 W1 _ => ?_)
  obtain ⟨q1, q2, q3, q4⟩ := I.at W1
  exact ⟨w, q2, q3, s_wone (u := 48 + n / 10) r W1 (by rw [List.length_cons]; omega) (by rw [cut_nI]; omega) (fun h2 N2 W2 _ => k h2 N2 W2)⟩
def e_name (t : Nat → Nat) (n : Nat) : List Nat := e_tlv 48 (e_tlv 49 (e_tlv 48 (e_tlv 6 (e_oid 0) ++ e_tlv 12 (e_sub t 0 n))))
theorem s_iname {Q : AH → Prop} {h0 h : AH} {w b0 N0 N i n s : Nat} {t : Nat → Nat} {l : List Nat} (r : rm h0 2000 2000000) (I : IC h0 i w) (W : WS h0 h w b0 N0 N l) (hs : bk (hp_k h0 s)) (hsb : s ≠ b0) (hsz : s < hp_z h0) (hsn : n ≤ hp_n h0 s) (hn : n ≤ 64) (hg : ∀ j, j < n → ub (hp_I h0 s j) = t j) (hl : l.length < 132000) (k : ∀ h1 N', WS h0 h1 w b0 N0 N' (e_name t n ++ l) → Q h1) : m_Iss_name Q i s (nI n) h := by
  obtain ⟨a1, a2, a3, a4⟩ := I.at W
  refine ⟨a1, w, a2, a3, s_wsize W (fun _ => ⟨w, a2, a3, ?_⟩)⟩
  refine s_wpart (a := 0) (tag := 12) (g := t) r W (by omega) hs hsb hsz (by omega) (by omega) (fun j hj => by rw [Nat.zero_add]; exact hg j hj) (by decide) (fun h1 N1 W1 _ => ?_)
  obtain ⟨q1, q2, q3, q4⟩ := I.at W1
  have t5 := e_tlv_le (t := 12) (c := e_sub t 0 n)
  rw [e_sub_len] at t5
  refine ⟨w, q2, q3, ?_⟩
  rw [q4]
  refine s_wcon (c := 0) r I W1 (by decide) (by rw [List.length_append]; omega) (fun h2 N2 W2 _ => ?_)
  have t6 := e_tlv_le (t := 6) (c := e_oid 0)
  have o9 := e_oid_le (i := 0) (by decide)
  obtain ⟨q1, q2, q3, q4⟩ := I.at W2
  refine ⟨w, q2, q3, s_wwrap (tag := 48) (c := e_tlv 6 (e_oid 0) ++ e_tlv 12 (e_sub t 0 n)) (rest := l) r (by simpa using W2) rfl (by simp only [List.length_append]; omega) (by decide) (fun h3 N3 W3 _ => ?_)⟩
  have t7 := e_tlv_le (t := 48) (c := e_tlv 6 (e_oid 0) ++ e_tlv 12 (e_sub t 0 n))
  rw [List.length_append] at t7
  obtain ⟨q1, q2, q3, q4⟩ := I.at W3
  refine ⟨w, q2, q3, s_wwrap (tag := 49) r W3 rfl (by simp only [List.length_append]; omega) (by decide) (fun h4 N4 W4 _ => ?_)⟩
  have t8 := e_tlv_le (t := 49) (c := e_tlv 48 (e_tlv 6 (e_oid 0) ++ e_tlv 12 (e_sub t 0 n)))
  obtain ⟨q1, q2, q3, q4⟩ := I.at W4
  exact ⟨w, q2, q3, s_wwrap (tag := 48) r W4 rfl (by simp only [List.length_append]; omega) (by decide) (fun h5 N5 W5 _ => k h5 N5 W5)⟩
def e_head (n : Nat) : List Nat := [160, 3, 2, 1, 2] ++ e_tlv 2 (e_num n)
theorem s_ihead {Q : AH → Prop} {h0 h : AH} {w b0 N0 N i n : Nat} {l : List Nat} (r : rm h0 2000 2000000) (I : IC h0 i w) (W : WS h0 h w b0 N0 N l) (hn : n < 32768) (hl : l.length < 132000) (k : ∀ h1 N', WS h0 h1 w b0 N0 N' (e_head n ++ l) → Q h1) : m_Iss_head Q i (nI n) h := by
  obtain ⟨a1, a2, a3, a4⟩ := I.at W
  have e2 : (e_num n).length ≤ 2 := by unfold e_num; split <;> simp
  have t5 := e_tlv_le (t := 2) (c := e_num n)
  refine ⟨a1, w, a2, a3, s_wnum r W (by omega) hn (fun h1 N1 W1 _ => ?_)⟩
  have l1 : (e_tlv 2 (e_num n) ++ l).length < 132100 := by rw [List.length_append]; omega
  obtain ⟨q1, q2, q3, q4⟩ := I.at W1
  refine ⟨w, q2, q3, s_wone (u := 2) r W1 (by omega) (by decide) (fun h2 N2 W2 _ => ?_)⟩
  obtain ⟨q1, q2, q3, q4⟩ := I.at W2
  refine ⟨w, q2, q3, s_wone (u := 1) r W2 (by simp only [List.length_cons]; omega) (by decide) (fun h3 N3 W3 _ => ?_)⟩
  obtain ⟨q1, q2, q3, q4⟩ := I.at W3
  refine ⟨w, q2, q3, s_wone (u := 2) r W3 (by simp only [List.length_cons]; omega) (by decide) (fun h4 N4 W4 _ => ?_)⟩
  obtain ⟨q1, q2, q3, q4⟩ := I.at W4
  refine ⟨w, q2, q3, s_wone (u := 3) r W4 (by simp only [List.length_cons]; omega) (by decide) (fun h5 N5 W5 _ => ?_)⟩
  obtain ⟨q1, q2, q3, q4⟩ := I.at W5
  exact ⟨w, q2, q3, s_wone (u := 160) r W5 (by simp only [List.length_cons]; omega) (by decide) (fun h6 N6 W6 _ => k h6 N6 W6)⟩
