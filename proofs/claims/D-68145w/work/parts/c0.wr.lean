set_option maxRecDepth 10000
/-! WRITING. DER, plain: lists of bytes -/
def e_len (n : Nat) : List Nat := if n < 128 then [n] else if n < 256 then [129, n] else if n < 65536 then [130, n / 256, n % 256] else [131, n / 65536, n / 256 % 256, n % 256]
def e_tlv (tag : Nat) (c : List Nat) : List Nat := tag :: (e_len c.length ++ c)
/-- the component's writer: cell w, first bytes b0 (N0 of them); since the heap h0 it wrote; the list l stands in it -/
def Sw (Z w b0 : Nat) : Nat → Nat → Prop := fun a _ => a = w ∨ a = b0 ∨ Z ≤ a
def WS (h0 h : AH) (w b0 N0 N : Nat) (l : List Nat) : Prop := fa (Sw (hp_z h0) w b0) ((N - N0) / 512) (2 * (N - N0)) h0 h ∧ N0 ≤ N ∧ N ≤ 450000 ∧ 512 ≤ N0 ∧ hp_k h0 w = 11 ∧ hp_k h0 b0 = 101 ∧ ∃ b, hp_R h w 0 = some b ∧ (b = b0 ∨ hp_z h0 ≤ b) ∧ hp_k h b = 101 ∧ hp_n h b = N ∧ hp_I h w 1 = nI (N - l.length) ∧ l.length ≤ N ∧ ∀ j, j < l.length → ub (hp_I h b (N - l.length + j)) = l.getD j 0
theorem WS.k {h0 h : AH} {w b0 N0 N : Nat} {l : List Nat} (W : WS h0 h w b0 N0 N l) : hp_k h w = 11 := W.1.k (i := 10) W.2.2.2.2.1
theorem WS.fr {h0 h : AH} {w b0 N0 N : Nat} {l : List Nat} (W : WS h0 h w b0 N0 N l) {a : Nat} (ha : hp_k h0 a ≠ 0) (h1 : a ≠ w) (h2 : a ≠ b0) (h3 : a < hp_z h0) : (hp_k h a = hp_k h0 a ∧ hp_n h a = hp_n h0 a) ∧ ∀ j, hp_I h a j = hp_I h0 a j ∧ hp_L h a j = hp_L h0 a j ∧ hp_R h a j = hp_R h0 a j :=
  ⟨W.1.2.1 a ha, fun j => W.1.1 a j ha (fun q => by rcases q with q | q | q; exact h1 q; exact h2 q; omega)⟩
theorem WS.ne {h0 h : AH} {w b0 N0 N : Nat} {l : List Nat} (W : WS h0 h w b0 N0 N l) : ∀ b, hp_k h b = 101 → b ≠ w := fun b hb e => by
  have := W.k
  subst e
  omega
/-- the size -/
theorem s_wsize {Q : Int32 → AH → Prop} {h0 h : AH} {w b0 N0 N : Nat} {l : List Nat} (W : WS h0 h w b0 N0 N l) (k : Q (nI l.length) h) : m_Wr_size Q w h := by
  have hk := W.k
  obtain ⟨-, w2, w3, w4, -, -, b, b1, b2, b3, b4, b5, b6, b7⟩ := W
  refine ⟨hk, b, b1, Or.inl b3, ?_⟩
  rw [b4, b5, nI_sub (by omega), show N - (N - l.length) = l.length by omega]
  exact k
theorem s_wbegin {Q : AH → Prop} {h : AH} {w b0 N0 : Nat} (hw : hp_k h w = 11) (hR : hp_R h w 0 = some b0) (hb : hp_k h b0 = 101) (hn : hp_n h b0 = N0) (hN : 512 ≤ N0) (hN2 : N0 ≤ 450000) (k : ∀ h1, WS h h1 w b0 N0 N0 [] → Q h1) : m_Wr_begin Q w h := by
  have hwb : b0 ≠ w := k_ne hb hw (by decide)
  refine ⟨hw, b0, hR, Or.inl hb, ?_⟩
  rintro _ rfl
  refine k _ ⟨(fm.I (Or.inl rfl)).fa, Nat.le_refl _, hN2, hN, hw, hb, b0, hR, Or.inl rfl, hb, hn, ?_, by simp, fun j hj => by simp at hj⟩
  rw [rI1, hn]
  simp
/-- room for n more bytes -/
theorem s_wroom {Q : AH → Prop} {h0 h : AH} {w b0 N0 N n : Nat} {l : List Nat} (r : rm h0 2000 2000000) (W : WS h0 h w b0 N0 N l) (hl : l.length + n ≤ 140000) (k : ∀ h1 N', WS h0 h1 w b0 N0 N' l → n + l.length ≤ N' → Q h1) : m_Wr_room Q w (nI n) h := by
  have hk := W.k
  have W0 := W
  obtain ⟨w1, w2, w3, w4, w5, w6, b, b1, b2, b3, b4, b5, b6, b7⟩ := W
  have hbw : b ≠ w := W0.ne b b3
  refine ⟨hk, ?_⟩
  rw [b5, nI_ltI (by omega) (by omega)]
  refine ⟨fun c => ⟨b, b1, Or.inl b3, ?_⟩, fun c => k h N W0 (by omega)⟩
  rw [b4, show (2 : Int32) = nI 2 from rfl, nI_mul, nI_add, nI_clamp (by omega), show (0 : Int32) = nI 0 from rfl, nI_ltI (by omega) (by omega)]
  generalize hM : 2 * N + n = M
  have r1 : rm h 1 1000000 := r.fa w1 (by omega) (by omega)
  refine ⟨by omega, by omega, ⟨r1.1, by have := r1.2; omega⟩, ?_⟩
  rintro wf q rfl h1 hh1
  have hz : hp_z h0 ≤ hp_z h := w1.2.2.1
  have bz : b ≠ hp_z h := w_ne wf b3
  have wz : w ≠ hp_z h := w_ne wf hk
  have k1 : hp_k h1 w = 11 := by rw [hh1, rkN2 wz]; exact hk
  have R1 : hp_R h1 w 0 = some b := by rw [hh1, rRN2 wz]; exact b1
  have kb1 : hp_k h1 b = 101 := by rw [hh1, rkN2 bz]; exact b3
  have nb1 : hp_n h1 b = N := by rw [hh1, rnN2 bz]; exact b4
  have i1 : hp_I h1 w 1 = nI (N - l.length) := by rw [hh1, rIN2 wz]; exact b5
  have nq : hp_n h1 (hp_z h) = M := by rw [hh1, rnN1]
  have kq : hp_k h1 (hp_z h) = 101 := by rw [hh1, rkN1]
  refine ⟨k1, b, R1, Or.inl kb1, fun _ => ⟨b, R1, Or.inl kb1, ?_⟩⟩
  rw [nq, nb1, i1, nI_sub (by omega), show N - (N - l.length) = l.length by omega, nI_sub (by omega), nI_clamp (by omega), nI_clamp (by omega), nI_clamp (by omega), nI_ltI (by omega) (by omega), nI_ltI (by omega) (by omega), nI_ltI (by omega) (by omega)]
  refine ⟨by omega, by omega, by omega, by omega, by omega, ?_⟩
  rintro h2 hh2 h3 hh3
  have nq3 : hp_n h3 (hp_z h) = M := by rw [hh3, hh2]; exact nq
  rw [nq3, nI_sub (by omega)]
  rintro h4 hh4
  have f1 : fa (Sw (hp_z h0) w b0) 1 M h h1 := by rw [hh1]; exact fa.N wf
  have f2 : fa (Sw (hp_z h0) w b0) 0 0 h1 h4 := by
    rw [hh4, hh3, hh2]
    exact (((fm.CI (fun j _ _ => Or.inr (Or.inr hz))).tr (fm.R (Or.inl rfl))).tr (fm.I (Or.inl rfl))).fa
  refine k h4 M ⟨w1.tr (f1.tr f2 (DZ := 1) (DS := M) (by omega) (by omega)) (by omega) (by omega), by omega, by omega, w4, w5, w6, hp_z h, ?_, Or.inr hz, ?_, ?_, ?_, by omega, ?_⟩ (by omega)
  · rw [hh4, rRI, hh3, rR1]
  · rw [hh4, hh3, hh2]; exact kq
  · rw [hh4, hh3, hh2]; exact nq
  · rw [hh4, rI1]
  · intro j hj
    rw [hh4, rI2 wz.symm, hh3, rIR, hh2, rIC1 (by omega) (by omega), hh1, rIN2 bz]
    rw [show N - l.length + (M - l.length + j - (M - l.length)) = N - l.length + j by omega]
    exact b7 j hj
theorem s_wone {Q : AH → Prop} {h0 h : AH} {w b0 N0 N u : Nat} {v : Int32} {l : List Nat} (r : rm h0 2000 2000000) (W : WS h0 h w b0 N0 N l) (hl : l.length < 135000) (hv : ub v.toInt8.toInt32 = u) (k : ∀ h1 N', WS h0 h1 w b0 N0 N' (u :: l) → Q h1) : m_Wr_one Q w v h := by
  refine ⟨W.k, s_wroom (n := 1) r W (by omega) (fun h1 N1 W1 hN _ => ?_)⟩
  have W0 := W1
  have hk := W1.k
  obtain ⟨w1, w2, w3, w4, w5, w6, b, b1, b2, b3, b4, b5, b6, b7⟩ := W1
  have hbw : b ≠ w := W0.ne b b3
  refine ⟨b, b1, ?_⟩
  rw [b5, show (1 : Int32) = nI 1 from rfl, nI_sub (by omega), nI_clamp (by omega)]
  rintro _ rfl
  refine ⟨b3, by rw [rnI, b4, vp_iff (by omega)]; omega, ?_⟩
  rintro _ rfl
  have Sb : ∀ j, Sw (hp_z h0) w b0 b j := fun j => by rcases b2 with rfl | b2; exact Or.inr (Or.inl rfl); exact Or.inr (Or.inr b2)
  refine k _ N1 ⟨w1.tr (((fm.I (Or.inl rfl)).tr (fm.I (Sb _))).fa (dz := 0) (ds := 0)) (by omega) (by omega), w2, w3, w4, w5, w6, b, b1, b2, b3, b4, ?_, by simp; omega, fun j hj => ?_⟩
  · rw [rI2 hbw.symm, rI1, List.length_cons, Nat.sub_sub]
  · cases j with
    | zero =>
      simp only [List.length_cons, Nat.add_zero, List.getD_cons_zero]
      rw [show N1 - (l.length + 1) = N1 - l.length - 1 by omega, rI1, by8_cut]
      exact hv
    | succ j =>
      simp only [List.length_cons, List.getD_cons_succ] at hj ⊢
      rw [show N1 - (l.length + 1) + (j + 1) = N1 - l.length + j by omega, rI3 (by omega), rI2 hbw]
      exact b7 j (by omega)
/-- bytes of a cell, as a list -/
def e_sub (g : Nat → Nat) (a n : Nat) : List Nat := (List.range n).map fun i => g (a + i)
theorem e_sub_len {g : Nat → Nat} {a n : Nat} : (e_sub g a n).length = n := by simp [e_sub]
theorem e_sub_get {g : Nat → Nat} {a n j : Nat} (hj : j < n) : (e_sub g a n).getD j 0 = g (a + j) := by
  unfold e_sub
  rw [List.getD_eq_getElem?_getD, List.getElem?_map, List.getElem?_range hj]
  rfl
theorem gd_app {l l' : List Nat} {j : Nat} : (l ++ l').getD j 0 = if j < l.length then l.getD j 0 else l'.getD (j - l.length) 0 := by
  rw [List.getD_eq_getElem?_getD, List.getD_eq_getElem?_getD, List.getD_eq_getElem?_getD]
  by_cases h : j < l.length
  · rw [if_pos h, List.getElem?_append_left h]
  · rw [if_neg h, List.getElem?_append_right (by omega)]
theorem s_wall {Q : AH → Prop} {h0 h : AH} {w b0 N0 N a n s : Nat} {g : Nat → Nat} {l : List Nat} (r : rm h0 2000 2000000) (W : WS h0 h w b0 N0 N l) (hl : l.length + n < 135000) (hs : bk (hp_k h0 s)) (hsb : s ≠ b0) (hsz : s < hp_z h0) (hsn : a + n ≤ hp_n h0 s) (han : a + n < 2 ^ 30) (hg : ∀ j, j < n → ub (hp_I h0 s (a + j)) = g (a + j)) (k : ∀ h1 N', WS h0 h1 w b0 N0 N' (e_sub g a n ++ l) → Q h1) : m_Wr_all Q w s (nI a) (nI n) h := by
  refine ⟨W.k, s_wroom r W (by omega) (fun h1 N1 W1 hN _ => ?_)⟩
  have W0 := W1
  have hk := W1.k
  have hsw : s ≠ w := by rintro rfl; rcases hs with hs | hs <;> (have := W1.2.2.2.2.1; omega)
  obtain ⟨⟨f1, f2⟩, f3⟩ := W1.fr (a := s) (by rcases hs with hs | hs <;> omega) hsw hsb hsz
  obtain ⟨w1, w2, w3, w4, w5, w6, b, b1, b2, b3, b4, b5, b6, b7⟩ := W1
  have hbw : b ≠ w := W0.ne b b3
  have hsb2 : s ≠ b := by rcases b2 with rfl | b2; exact hsb; omega
  rw [b5, nI_sub (by omega)]
  rintro h2 hh2
  refine ⟨b, by rw [hh2]; exact b1, by rw [hh2, rkI, f1]; exact hs, by rw [hh2]; exact b3, ?_⟩
  have i2 : hp_I h2 w 1 = nI (N1 - l.length - n) := by rw [hh2, rI1]
  rw [i2, show (0 : Int32) = nI 0 from rfl, nI_ltI (by omega) (by omega), nI_ltI (by omega) (by omega), nI_ltI (by omega) (by omega), nI_clamp (by omega), nI_clamp (by omega), nI_clamp (by omega)]
  have n2 : hp_n h2 s = hp_n h0 s := by rw [hh2, rnI, f2]
  have nb2 : hp_n h2 b = N1 := by rw [hh2]; exact b4
  refine ⟨by omega, by omega, by omega, by omega, by omega, ?_⟩
  rintro _ rfl
  have Sb : ∀ j, Sw (hp_z h0) w b0 b j := fun j => by rcases b2 with rfl | b2; exact Or.inr (Or.inl rfl); exact Or.inr (Or.inr b2)
  have e1 : (e_sub g a n ++ l).length = n + l.length := by rw [List.length_append, e_sub_len]
  refine k _ N1 ⟨w1.tr (S := Sw (hp_z h0) w b0) (dz' := 0) (ds' := 0) ?_ (by omega) (by omega), w2, w3, w4, w5, w6, b, by rw [rRCI, hh2]; exact b1, b2, by rw [rkCI, hh2]; exact b3, by rw [rnCI]; exact nb2, ?_, by rw [e1]; omega, fun j hj => ?_⟩
  · rw [hh2]; exact ((fm.I (Or.inl rfl)).tr (fm.CI (fun j _ _ => Sb j))).fa
  · rw [rIC2 hbw.symm, i2, e1]; congr 1; omega
  · rw [e1] at hj ⊢
    by_cases hjn : j < n
    · rw [rIC1 (by omega) (by omega), hh2, rI2 hsw, (f3 _).1, show a + (N1 - (n + l.length) + j - (N1 - l.length - n)) = a + j by omega, hg j hjn]
      rw [gd_app, if_pos (by rw [e_sub_len]; exact hjn), e_sub_get hjn]
    · rw [rIC3 (by omega), hh2, rI2 hbw, show N1 - (n + l.length) + j = N1 - l.length + (j - n) by omega, b7 _ (by omega)]
      rw [gd_app, if_neg (by rw [e_sub_len]; omega), e_sub_len]
