set_option maxRecDepth 10000
theorem kl3 : kl 1 = 3 ∧ kl 2 = 3 ∧ kl 3 = 3 ∧ kl 4 = 3 := by decide +kernel
theorem x19_ok : ∀ j, j < 3 → ((sh_lr (5578003 : Int64) (nI (8 * (3 - 1 - j)))) &&& 255).toInt32 = nI (ko 1 j) ∧ ko 1 j < 256 := by decide +kernel
theorem x15_ok : ∀ j, j < 3 → ((sh_lr (5577999 : Int64) (nI (8 * (3 - 1 - j)))) &&& 255).toInt32 = nI (ko 2 j) ∧ ko 2 j < 256 := by decide +kernel
theorem x17_ok : ∀ j, j < 3 → ((sh_lr (5578001 : Int64) (nI (8 * (3 - 1 - j)))) &&& 255).toInt32 = nI (ko 3 j) ∧ ko 3 j < 256 := by decide +kernel
theorem x37_ok : ∀ j, j < 3 → ((sh_lr (5578021 : Int64) (nI (8 * (3 - 1 - j)))) &&& 255).toInt32 = nI (ko 4 j) ∧ ko 4 j < 256 := by decide +kernel
def gl (l : List Nat) (i : Nat) : Nat := l.getD i 0
theorem gl_sub {l : List Nat} {n : Nat} (h : l.length = n) : e_sub (gl l) 0 n = l := by
  subst h
  apply List.ext_getElem?
  intro i
  unfold e_sub gl
  rw [List.getElem?_map]
  by_cases hi : i < l.length
  · rw [List.getElem?_range hi]
    simp [hi]
  · rw [List.getElem?_eq_none (by simp; omega), List.getElem?_eq_none (by omega)]
    rfl
/-- a number's bytes as a list -/
theorem s_oputL {Q : AH → Prop} {h0 h : AH} {m o n : Nat} {w : Int64} {l d : List Nat} (O : OS h0 h m o l) (hd : d.length = n) (hl : l.length + n < 139990) (hn : n ≤ 8) (ho : ∀ i, i < n → ((sh_lr w (nI (8 * (n - 1 - i)))) &&& 255).toInt32 = nI (gl d i) ∧ gl d i < 256) (k : ∀ h1, OS h0 h1 m o (l ++ d) → Q h1) : m_M_put_IJ Q m (nI n) w h := s_oputJS O hl hn ho (fun h1 O1 => k h1 (by rw [gl_sub hd] at O1; exact O1))
theorem w4a : ∀ i, i < 4 → ((sh_lr (50464640 : Int64) (nI (8 * (4 - 1 - i)))) &&& 255).toInt32 = nI (gl [3, 2, 7, 128] i) ∧ gl [3, 2, 7, 128] i < 256 := by decide +kernel
theorem w4b : ∀ i, i < 4 → ((sh_lr (50462982 : Int64) (nI (8 * (4 - 1 - i)))) &&& 255).toInt32 = nI (gl [3, 2, 1, 6] i) ∧ gl [3, 2, 1, 6] i < 256 := by decide +kernel
theorem w3p : ∀ p, p < 127 → ∀ i, i < 3 → ((sh_lr ((131328 : Int64) ||| ((nI p).toInt64)) (nI (8 * (3 - 1 - i)))) &&& 255).toInt32 = nI (gl [2, 1, p] i) ∧ gl [2, 1, p] i < 256 := by decide +kernel
theorem w0608 : ∀ i, i < 2 → ((sh_lr (1544 : Int64) (nI (8 * (2 - 1 - i)))) &&& 255).toInt32 = nI (gl [6, 8] i) ∧ gl [6, 8] i < 256 := by decide +kernel
theorem w0500 : ∀ i, i < 2 → ((sh_lr (1280 : Int64) (nI (8 * (2 - 1 - i)))) &&& 255).toInt32 = nI (gl [5, 0] i) ∧ gl [5, 0] i < 256 := by decide +kernel
theorem w0609 : ∀ i, i < 2 → ((sh_lr (1545 : Int64) (nI (8 * (2 - 1 - i)))) &&& 255).toInt32 = nI (gl [6, 9] i) ∧ gl [6, 9] i < 256 := by decide +kernel
theorem w2B : ∀ i, i < 1 → ((sh_lr (43 : Int64) (nI (8 * (1 - 1 - i)))) &&& 255).toInt32 = nI (gl [43] i) ∧ gl [43] i < 256 := by decide +kernel
theorem wUn : ∀ i, i < 8 → ((sh_lr (432631443803152129 : Int64) (nI (8 * (8 - 1 - i)))) &&& 255).toInt32 = nI (gl [6, 1, 4, 1, 134, 141, 31, 1] i) ∧ gl [6, 1, 4, 1, 134, 141, 31, 1] i < 256 := by decide +kernel
theorem w0402 : ∀ i, i < 4 → ((sh_lr (67241216 : Int64) (nI (8 * (4 - 1 - i)))) &&& 255).toInt32 = nI (gl [4, 2, 5, 0] i) ∧ gl [4, 2, 5, 0] i < 256 := by decide +kernel
theorem w0101 : ∀ i, i < 3 → ((sh_lr (66047 : Int64) (nI (8 * (3 - 1 - i)))) &&& 255).toInt32 = nI (gl [1, 1, 255] i) ∧ gl [1, 1, 255] i < 256 := by decide +kernel
theorem wSv : ∀ k, k < 2 → ∀ i, i < 8 → ((sh_lr ((3100166514561975041 : Int64) + ((nI k).toInt64)) (nI (8 * (8 - 1 - i)))) &&& 255).toInt32 = nI (gl (e_oid (5 + k)) i) ∧ gl (e_oid (5 + k)) i < 256 := by decide +kernel
theorem oid56 : ∀ k, k < 2 → (e_oid (5 + k)).length = 8 ∧ e_tlv 6 (e_oid (5 + k)) = [6, 8] ++ e_oid (5 + k) := by decide +kernel
theorem oid7 : e_tlv 6 (e_oid 7) = [6, 9] ++ ([43] ++ [6, 1, 4, 1, 134, 141, 31, 1]) := by decide +kernel
theorem s_ounk {Q : AH → Prop} {h0 h : AH} {m o fr : Nat} {p : List Nat} (O : OS h0 h m o (p ++ [5, 0])) (hfr : fr = p.length) (hl : p.length < 139000) (k : ∀ h1, OS h0 h1 m o (p ++ e_ext 7 true [5, 0]) → Q h1) : m_M_unknown Q m (nI fr) h := by
  subst hfr
  refine ⟨O.k.1, s_owrap (tag := 4) O rfl (by simp; omega) (by decide) (fun h1 O1 _ => ?_)⟩
  rintro h2 hh2
  have O2 : OS h0 h2 m o p := by
    obtain ⟨k1, k2, k3, k4, k5⟩ := O1.k
    obtain ⟨o1, o2, o3, o4, o5, o6, o7, o8, o9, o10, o11⟩ := O1
    rw [hh2]
    refine ⟨o1.tr (fm.I (Or.inl ⟨rfl, rfl⟩)), o2, o3, o4, o5, o6, rI1, by omega, o9, fun j hj => ?_, fun j hj => by simp at hj⟩
    rw [rI2 k5.symm, o10 j (by rw [List.length_append]; omega), gd_app, if_pos hj]
  refine s_oputL (n := 2) (d := [6, 9]) O2 rfl (by omega) (by decide) w0609 (fun h3 O3 _ => ?_)
  refine s_oputL (n := 1) (d := [43]) O3 rfl (by simp; omega) (by decide) w2B (fun h4 O4 _ => ?_)
  refine s_oputL (n := 8) (d := [6, 1, 4, 1, 134, 141, 31, 1]) O4 rfl (by simp; omega) (by decide) wUn (fun h5 O5 _ => ?_)
  refine s_oputL (n := 3) (d := [1, 1, 255]) O5 rfl (by simp; omega) (by decide) w0101 (fun h6 O6 _ => ?_)
  refine s_oputL (n := 4) (d := [4, 2, 5, 0]) O6 rfl (by simp; omega) (by decide) w0402 (fun h7 O7 _ => ?_)
  refine s_owrap (tag := 48) (p := p) (c := e_tlv 6 (e_oid 7) ++ ([1, 1, 255] ++ [4, 2, 5, 0])) (by rw [oid7]; simpa using O7) rfl (by rw [oid7]; simp; omega) (by decide) (fun h8 O8 _ => k h8 ?_)
  exact O8
theorem hw_bits2 : ∀ n, n < 2048 → (((nI n >>> (((8 : Int32) + nI 0) &&& 31)) &&& 1 = 0 ↔ n / 256 % 2 = 0) ∧ ((nI n >>> (((8 : Int32) + nI 1) &&& 31)) &&& 1 = 0 ↔ n / 512 % 2 = 0) ∧ (nI n &&& 1 = 1 ↔ n % 2 = 1)) := by decide +kernel
theorem s_oexts308 {Q : AH → Prop} {h0 h : AH} {m o how al : Nat} {p c : List Nat} (O : OS h0 h m o (p ++ c)) (hh : how < 2048) (hal : al = p.length) (hl : p.length + c.length < 138000) (k : ∀ h1, OS h0 h1 m o (p ++ e_tlv 163 (e_tlv 48 (c ++ e_x5 how))) → Q h1) : m_M_putExtensions_308 Q m (nI how) (nI al) h := by
  obtain ⟨b1024, -⟩ := hw_bits how hh
  have fin : ∀ h1 d, d = e_x5 how → OS h0 h1 m o (p ++ (c ++ d)) → m_M_putExtensions_336 Q m (nI al) h1 := fun h1 d hd O1 => by
    have l5 := e_x5_le (how := how)
    rw [← hd] at k l5
    have t1 := e_tlv_le (t := 48) (c := c ++ d)
    rw [List.length_append] at t1
    exact ⟨O1.k.1, s_owrap (tag := 48) O1 hal (by rw [List.length_append]; omega) (by decide) (fun h2 O2 _ => s_owrap (tag := 163) O2 hal (by omega) (by decide) (fun h3 O3 _ => k h3 O3))⟩
  unfold m_M_putExtensions_308
  rw [b1024]
  refine ⟨fun c1 => fin h [] (by unfold e_x5; rw [if_pos c1]) (by simpa using O), fun c1 => ⟨O.k.1, ?_⟩⟩
  rw [O.l]
  rintro _ rfl
  refine s_oputL (n := 2) (d := [5, 0]) O rfl (by rw [List.length_append]; omega) (by decide) w0500 (fun h1 O1 _ => ?_)
  exact s_ounk O1 rfl (by rw [List.length_append]; omega) (fun h2 O2 _ => fin h2 (e_ext 7 true [5, 0]) (by unfold e_x5; rw [if_neg c1]) (by simpa using O2))
theorem s_oexts224 {Q : AH → Prop} {h0 h : AH} {m o how al : Nat} {p c : List Nat} (O : OS h0 h m o (p ++ c)) (hh : how < 2048) (hal : al = p.length) (hl : p.length + c.length < 137000) (k : ∀ h1, OS h0 h1 m o (p ++ e_tlv 163 (e_tlv 48 (c ++ (e_x4 how ++ e_x5 how)))) → Q h1) : m_M_putExtensions_224 Q m (nI how) (nI al) h := by
  obtain ⟨-, b768, -⟩ := hw_bits how hh
  obtain ⟨c8, c9, -⟩ := hw_bits2 how hh
  unfold m_M_putExtensions_224
  rw [b768]
  refine ⟨fun c1 => ?_, fun c1 => ⟨O.k.1, ?_⟩⟩
  · have h4 : e_x4 how = [] := by unfold e_x4; rw [if_pos c1]
    rw [h4] at k
    exact s_oexts308 O hh hal (by omega) k
  have h4 : e_x4 how = e_ext 4 false (e_tlv 48 ((if how / 256 % 2 = 0 then [] else e_tlv 6 (e_oid 5)) ++ (if how / 512 % 2 = 0 then [] else e_tlv 6 (e_oid 6)))) := by unfold e_x4; rw [if_neg c1]
  have l4 := e_x4_le (how := how)
  rw [O.l]
  rintro _ rfl
  have s14 : ∀ i, i < 9 → (e_tlv 6 (e_oid i)).length ≤ 14 := fun i hi => e_oid_tlv hi
  refine ⟨fun st => ∃ i d, i ≤ 2 ∧ st.1 = nI i ∧ d.length ≤ 14 * i ∧ (i = 0 → d = []) ∧ (i = 1 → d = if how / 256 % 2 = 0 then [] else e_tlv 6 (e_oid 5)) ∧ (i = 2 → d = (if how / 256 % 2 = 0 then [] else e_tlv 6 (e_oid 5)) ++ (if how / 512 % 2 = 0 then [] else e_tlv 6 (e_oid 6))) ∧ OS h0 st.2 m o (p ++ c ++ d), fun st => 2 - st.1.toNatClampNeg, ⟨0, [], by decide, rfl, by decide, fun _ => rfl, fun e => by omega, fun e => by omega, by simpa using O⟩, ?_⟩
  rintro ⟨v, s⟩ ⟨i, d, hi, hv, hdl, d0, d1, d2, Os⟩
  simp only at hv Os ⊢
  subst hv
  have ll : (p ++ c ++ d).length = p.length + c.length + d.length := by rw [List.length_append, List.length_append]
  unfold m_M_putExtensions_241_b
  rw [show (2 : Int32) = nI 2 from rfl, nI_leI (by omega) (by omega)]
  refine ⟨fun c2 => ⟨Os.k.1, ?_⟩, fun c2 => ?_⟩
  · have hd := d2 (by omega)
    have t1 := e_tlv_le (t := 48) (c := d)
    refine s_owrap (tag := 48) (p := p ++ c) Os rfl (by rw [List.length_append]; omega) (by decide) (fun h2 O2 _ => ?_)
    refine s_oext (i := 4) (crit := false) O2 rfl (by rw [List.length_append]; omega) rfl kl3.2.2.2 x37_ok (fun h3 O3 _ => ?_)
    rw [hd, ← h4] at O3
    refine s_oexts308 (p := p) (c := c ++ e_x4 how) (by simpa using O3) hh hal (by rw [List.length_append]; omega) (fun h5 O5 => k h5 ?_)
    rw [List.append_assoc] at O5
    exact O5
  · have i01 : i = 0 ∨ i = 1 := by omega
    have nx : ∀ s' d', d'.length ≤ 14 * (i + 1) → (i = 0 → d' = if how / 256 % 2 = 0 then [] else e_tlv 6 (e_oid 5)) → (i = 1 → d' = (if how / 256 % 2 = 0 then [] else e_tlv 6 (e_oid 5)) ++ (if how / 512 % 2 = 0 then [] else e_tlv 6 (e_oid 6))) → OS h0 s' m o (p ++ c ++ d') → m_M_putExtensions_283 Q (fun st => (∃ i d, i ≤ 2 ∧ st.1 = nI i ∧ d.length ≤ 14 * i ∧ (i = 0 → d = []) ∧ (i = 1 → d = if how / 256 % 2 = 0 then [] else e_tlv 6 (e_oid 5)) ∧ (i = 2 → d = (if how / 256 % 2 = 0 then [] else e_tlv 6 (e_oid 5)) ++ (if how / 512 % 2 = 0 then [] else e_tlv 6 (e_oid 6))) ∧ OS h0 st.2 m o (p ++ c ++ d)) ∧ 2 - st.1.toNatClampNeg < 2 - (nI i).toNatClampNeg) m (nI how) (nI al) (nI (p ++ c).length) (nI i) s' := fun s' d' l' e0 e1 O' => by
      rintro _ rfl
      refine ⟨⟨i + 1, d', by omega, by simp only [nI_1], l', fun e => by omega, fun e => e0 (by omega), fun e => e1 (by omega), O'⟩, ?_⟩
      simp (disch := omega) only [nI_1, nI_clamp]
      omega
    obtain ⟨o8, oe⟩ := oid56 i (by omega)
    rcases i01 with rfl | rfl
    · rw [c8]
      refine ⟨fun c3 => ⟨Os.k.1, s_oputL (n := 2) (d := [6, 8]) Os rfl (by omega) (by decide) w0608 (fun h2 O2 _ => s_oputL (n := 8) (d := e_oid 5) O2 o8 (by simp only [List.length_append, List.length_cons, List.length_nil]; omega) (by decide) (wSv 0 (by decide)) (fun h3 O3 _ => ?_))⟩, fun c3 => nx s d (by omega) (fun _ => by rw [if_pos c3]; exact d0 rfl) (fun e => by omega) Os⟩
      have hd0 := d0 rfl
      subst hd0
      refine nx h3 (e_tlv 6 (e_oid 5)) (s14 5 (by decide)) (fun _ => by rw [if_neg c3]) (fun e => by omega) ?_
      rw [show e_tlv 6 (e_oid 5) = [6, 8] ++ e_oid 5 from oe]
      simpa using O3
    · rw [c9]
      have hd1 := d1 rfl
      refine ⟨fun c3 => ⟨Os.k.1, s_oputL (n := 2) (d := [6, 8]) Os rfl (by omega) (by decide) w0608 (fun h2 O2 _ => s_oputL (n := 8) (d := e_oid 6) O2 o8 (by simp only [List.length_append, List.length_cons, List.length_nil]; omega) (by decide) (wSv 1 (by decide)) (fun h3 O3 _ => ?_))⟩, fun c3 => nx s d (by omega) (fun e => by omega) (fun _ => by rw [if_pos c3, ← hd1]; simp) Os⟩
      have := s14 6 (by decide)
      refine nx h3 (d ++ e_tlv 6 (e_oid 6)) (by rw [List.length_append]; omega) (fun e => by omega) (fun _ => by rw [if_neg c3, ← hd1]) ?_
      rw [show e_tlv 6 (e_oid 6) = [6, 8] ++ e_oid 6 from oe]
      simpa using O3
