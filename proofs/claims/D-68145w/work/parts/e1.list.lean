set_option maxRecDepth 10000
/-! lists: cell l, elements e (N places), n elements f -/
def AL (h : AH) (l e N n : Nat) (f : Nat → Nat) : Prop := hp_k h l = 12 ∧ hp_R h l 0 = some e ∧ hp_n h e = N ∧ hp_I h l 1 = nI n ∧ n ≤ N ∧ N ≤ 2000 ∧ ((N = 0 ∧ e = hp_c h 11 ∧ hp_k h e = 106) ∨ (10 ≤ N ∧ hp_k h e = 104)) ∧ (∀ j, j < n → hp_R h e j = some (f j))
def Sl (Z l e N : Nat) : Nat → Nat → Prop := fun a _ => a = l ∨ (a = e ∧ N ≠ 0) ∨ Z ≤ a
theorem s_lsize {Q : Int32 → AH → Prop} {h : AH} {l e N n : Nat} {f : Nat → Nat} (L : AL h l e N n f) (k : Q (nI n) h) : m_AL_size Q l h := by
  refine ⟨L.1, ?_⟩
  rw [L.2.2.2.1]
  exact k
theorem s_lget {Q : Nat → AH → Prop} {h : AH} {l e N n i : Nat} {f : Nat → Nat} (L : AL h l e N n f) (hi : i < n) (k : Q (f i) h) : m_AL_get Q l (nI i) h := by
  obtain ⟨l1, l2, l3, l4, l5, l6, l7, l8⟩ := L
  refine ⟨l1, ?_⟩
  unfold m_Objs_checkIndex m_Pre_checkIndex
  rw [l4, show (0 : Int32) = nI 0 from rfl, nI_ltI (by omega) (by omega), nI_ltI (by omega) (by omega)]
  refine ⟨fun c => by omega, fun _ => ⟨fun _ _ _ => ⟨l1, e, l2, ?_, by rw [l3, vp_iff (by omega)]; omega, f i, by rw [nI_clamp (by omega)]; exact l8 i hi, fun _ => k⟩, fun c => absurd hi c⟩⟩
  rcases l7 with q | q
  · exact Or.inr q.2.2
  · exact Or.inl q.2
theorem s_ladd {Q : Int32 → AH → Prop} {h : AH} {l e N n c : Nat} {f : Nat → Nat} (r : rm h 2 5000) (L : AL h l e N n f) (hn : n < 1100) (hc : hp_k h c = 3 ∨ hp_k h c = 8) (hf : ∀ j, j < n → hp_k h (f j) = 3 ∨ hp_k h (f j) = 8) (kQ : ∀ h1 e' N', AL h1 l e' N' (n + 1) (upN f n c) → N ≤ N' → (e' = e ∧ N ≠ 0 ∨ hp_z h ≤ e') → e' < hp_z h1 ∨ e' = e → fa (Sl (hp_z h) l e N) ((N' - N) / 5) (4 * (N' - N)) h h1 → Q 1 h1) : m_AL_add_O Q l c h := by
  obtain ⟨l1, l2, l3, l4, l5, l6, l7, l8⟩ := L
  have hel : e ≠ l := by
    rcases l7 with q | q
    · exact k_ne q.2.2 l1 (by decide)
    · exact k_ne q.2 l1 (by decide)
  have hcl : c ≠ l := by rintro rfl; omega
  refine ⟨l1, ?_⟩
  rintro h1 hh1
  have k1 : ∀ a, hp_k h1 a = hp_k h a := fun a => by rw [hh1, rkI]
  have R1 : ∀ a j, hp_R h1 a j = hp_R h a j := fun a j => by rw [hh1, rRI]
  have i1 : hp_I h1 l 1 = nI n := by rw [hh1, rI3 (by decide)]; exact l4
  have z1 : hp_z h1 = hp_z h := by rw [hh1]; rfl
  have n1 : hp_n h1 e = N := by rw [hh1]; exact l3
  have c1 : hp_c h1 = hp_c h := by rw [hh1]; rfl
  have F1 : fm (Sl (hp_z h) l e N) h h1 := by rw [hh1]; exact fm.I (Or.inl rfl)
  refine ⟨e, by rw [R1]; exact l2, ?_, ?_⟩
  · rw [k1]
    rcases l7 with q | q
    · exact Or.inr q.2.2
    · exact Or.inl q.2
  have rm1 : rm h1 2 5000 := r.fm F1
  clear hh1
  -- the element is put
  have fin : ∀ h2 e' N', hp_k h2 l = 12 → hp_R h2 l 0 = some e' → hp_n h2 e' = N' → n < N' → N' ≤ 2000 → 10 ≤ N' → hp_k h2 e' = 104 → (hp_k h2 c = 3 ∨ hp_k h2 c = 8) → (∀ j, j < n → hp_R h2 e' j = some (f j)) → e' ≠ l → N ≤ N' → (e' = e ∧ N ≠ 0 ∨ hp_z h ≤ e') → e' < hp_z h2 ∨ e' = e → fa (Sl (hp_z h) l e N) ((N' - N) / 5) (4 * (N' - N)) h h2 → m_AL_add_OOI_11 (fun h3 => fx_ext h1 h3 → Q 1 h3) l c e' (nI n) h2 := fun h2 e' N' q1 q2 q3 q4 q5 q6 q7 q8 q9 q10 q11 q12 q13 q14 => by
    refine ⟨q7, by rw [q3, vp_iff (by omega)]; omega, q8, ?_⟩
    rw [nI_clamp (by omega), nI_1]
    rintro h3 hh3
    refine ⟨by rw [hh3]; exact q1, ?_⟩
    rintro h4 hh4 _
    have Se : ∀ j, Sl (hp_z h) l e N e' j := fun j => by
      rcases q12 with q | q
      · exact Or.inr (Or.inl q)
      · exact Or.inr (Or.inr q)
    refine kQ h4 e' N' ⟨by rw [hh4, hh3]; exact q1, ?_, by rw [hh4, hh3]; exact q3, by rw [hh4, rI1], by omega, q5, Or.inr ⟨q6, by rw [hh4, hh3]; exact q7⟩, fun j hj => ?_⟩ q11 q12 (by rw [hh4, hh3]; exact q13) ?_
    · rw [hh4, rRI, hh3, rR2 q10.symm]; exact q2
    · rw [hh4, rRI, hh3]
      unfold upN
      by_cases hjn : j = n
      · rw [if_pos hjn, hjn, rR1]
      · rw [if_neg hjn, rR3 hjn]; exact q9 j (by omega)
    · have F4 : fm (Sl (hp_z h) l e N) h2 h4 := by
        rw [hh4, hh3]
        exact (fm.R (Se _)).tr (fm.I (Or.inl rfl))
      exact q14.tr (F4.fa (dz := 0) (ds := 0)) (by omega) (by omega)
  rw [i1, n1, nI_eq (by omega) (by omega)]
  refine ⟨fun cn => ?_, fun cn => ?_⟩
  · have hN : 10 ≤ N ∧ hp_k h e = 104 := by
      rcases l7 with q | q
      · omega
      · exact q
    exact fin h1 e N (by rw [k1]; exact l1) (by rw [R1]; exact l2) n1 (by omega) l6 hN.1 (by rw [k1]; exact hN.2) (by rw [k1]; exact hc) (fun j hj => by rw [R1]; exact l8 j hj) hel (Nat.le_refl _) (Or.inl ⟨rfl, by omega⟩) (Or.inr rfl) (F1.fa.wk (dz := 0) (ds := 0) (fun a j _ q => q) (by omega) (by omega))
  -- a new array
  subst cn
  refine ⟨by rw [k1]; exact l1, by rw [k1]; exact l1, ?_⟩
  rw [i1, nI_1]
  refine ⟨by rw [k1]; exact l1, e, by rw [R1]; exact l2, by rw [k1]; rcases l7 with q | q; exact Or.inr q.2.2; exact Or.inl q.2, ?_⟩
  rw [n1]
  rintro _ rfl
  rw [show (0 : Int32) = nI 0 from rfl, nI_ltI (by omega) (by omega)]
  refine ⟨fun hp => ?_, fun hz => ⟨fun _ => ?_, fun hne => ?_⟩⟩
  · have hN : 10 ≤ n ∧ hp_k h e = 104 := by
      rcases l7 with q | q
      · omega
      · exact q
    unfold m_AL_grow_I_20 m_ASup_newLength
    rw [nI_sub (by omega), show n + 1 - n = 1 by omega, show (1 : Int32) = nI 1 from rfl, sr_nI (by omega) (by decide), Nat.pow_one]
    unfold m_Math_max m_Math_max_10
    rw [nI_ltI (by omega) (by omega)]
    refine ⟨fun _ _ => ?_, fun c2 => by omega⟩
    rw [nI_add]
    rintro _ rfl
    rw [show (0 : Int32) = nI 0 from rfl, nI_leI (by omega) (by omega), show (2147483639 : Int32) = nI 2147483639 from rfl, nI_ltI (by decide) (by omega)]
    refine ⟨fun c2 => by omega, fun _ => ⟨fun c2 => by omega, fun _ _ => ⟨by rw [k1]; exact l1, e, by rw [R1]; exact l2, by rw [k1]; exact hN.2, fun c2 => absurd rfl c2, fun _ => ?_⟩⟩⟩
    rw [show (0 : Int32) = nI 0 from rfl, nI_ltI (by omega) (by omega), nI_clamp (by omega)]
    refine ⟨by omega, by omega, ⟨by have := rm1.1; omega, by have := rm1.2; omega⟩, ?_⟩
    rintro wf q rfl h2 hh2
    have ez : e ≠ hp_z h1 := w_ne wf (by rw [k1]; exact hN.2)
    have lz : l ≠ hp_z h1 := w_ne wf (by rw [k1]; exact l1)
    have cz : c ≠ hp_z h1 := by
      rcases hc with hc | hc
      · exact w_ne (i := 2) wf (by rw [k1]; exact hc)
      · exact w_ne (i := 7) wf (by rw [k1]; exact hc)
    have k2e : hp_k h2 e = 104 := by rw [hh2, rkN2 ez, k1]; exact hN.2
    have n2e : hp_n h2 e = n := by rw [hh2, rnN2 ez]; exact n1
    refine ⟨Or.inl k2e, ?_⟩
    rw [n2e]
    refine s_min (by omega) (by omega) (fun _ => ⟨k2e, ?_⟩)
    rw [Nat.min_eq_left (by omega), nI_clamp (by omega), nI_ltI (by omega) (by omega), nI_ltI (by omega) (by omega), nI_clamp (by omega), n2e, show hp_n h2 (hp_z h1) = n + n / 2 by rw [hh2, rnN1]]
    refine ⟨by omega, by omega, by omega, by omega, by omega, fun i hi b hb => ?_, ?_⟩
    · rw [Nat.zero_add, hh2, rRN2 ez, R1, l8 i hi] at hb
      cases hb
      have fz : f i ≠ hp_z h1 := by
        rcases hf i hi with q | q
        · exact w_ne (i := 2) wf (by rw [k1]; exact q)
        · exact w_ne (i := 7) wf (by rw [k1]; exact q)
      rw [hh2, rkN2 fz, k1]
      exact hf i hi
    rintro h3 hh3 _ _ h4 hh4 _ _
    have f2 : fa (Sl (hp_z h) l e n) 1 (n + n / 2) h1 h2 := by rw [hh2]; exact fa.N wf
    have f4 : fa (Sl (hp_z h) l e n) 0 0 h2 h4 := by
      rw [hh4, hh3]
      refine fm.fa (fm.tr ?_ (fm.R (Or.inl rfl)))
      refine ⟨fun x j hx => ⟨rfl, rfl, ?_⟩, rfl, rfl, rfl, rfl, rfl, rfl⟩
      rw [rRC2 (fun e => hx (Or.inr (Or.inr (by rw [e, z1]; exact Nat.le_refl _))))]
    refine fin h4 (hp_z h1) (n + n / 2) ?_ ?_ ?_ (by omega) (by omega) (by omega) ?_ ?_ (fun j hj => ?_) lz.symm (by omega) (Or.inr (by omega)) ?_ ?_
    · rw [hh4, hh3, rkR, rkCR, hh2, rkN2 lz, k1]; exact l1
    · rw [hh4, rR1]
    · rw [hh4, hh3, rnR, rnCR, hh2, rnN1]
    · rw [hh4, hh3, rkR, rkCR, hh2, rkN1]
    · rw [hh4, hh3, rkR, rkCR, hh2, rkN2 cz, k1]; exact hc
    · rw [hh4, rR2 lz.symm, hh3, rRC1 (by omega) (by omega), hh2, rRN2 ez, R1, Nat.zero_add, Nat.sub_zero]
      exact l8 j hj
    · left
      rw [hh4, hh3, rzR, rzCR, hh2, rzN]
      omega
    · exact (F1.fa (dz := 0) (ds := 0)).tr (f2.tr f4 (DZ := 1) (DS := n + n / 2) (by omega) (by omega)) (by omega) (by omega)
  · have hn0 : n = 0 := by omega
    subst hn0
    unfold m_Math_max m_Math_max_10
    rw [show (10 : Int32) = nI 10 from rfl, nI_ltI (by omega) (by omega)]
    refine ⟨fun c2 => by omega, fun _ _ => ?_⟩
    rw [nI_ltI (by omega) (by omega), nI_clamp (by omega)]
    refine ⟨by omega, by omega, ⟨by have := rm1.1; omega, by have := rm1.2; omega⟩, ?_⟩
    rintro wf q rfl h2 hh2 h3 hh3 _ _
    have lz : l ≠ hp_z h1 := w_ne wf (by rw [k1]; exact l1)
    have cz : c ≠ hp_z h1 := by
      rcases hc with hc | hc
      · exact w_ne (i := 2) wf (by rw [k1]; exact hc)
      · exact w_ne (i := 7) wf (by rw [k1]; exact hc)
    have f2 : fa (Sl (hp_z h) l e 0) 1 10 h1 h2 := by rw [hh2]; exact fa.N wf
    have f3 : fa (Sl (hp_z h) l e 0) 0 0 h2 h3 := by rw [hh3]; exact fm.fa (fm.R (Or.inl rfl))
    refine fin h3 (hp_z h1) 10 ?_ ?_ ?_ (by omega) (by omega) (by omega) ?_ ?_ (fun j hj => by omega) lz.symm (by omega) (Or.inr (by omega)) ?_ ?_
    · rw [hh3, rkR, hh2, rkN2 lz, k1]; exact l1
    · rw [hh3, rR1]
    · rw [hh3, rnR, hh2, rnN1]
    · rw [hh3, rkR, hh2, rkN1]
    · rw [hh3, rkR, hh2, rkN2 cz, k1]; exact hc
    · left
      rw [hh3, rzR, hh2, rzN]
      omega
    · exact (F1.fa (dz := 0) (ds := 0)).tr (f2.tr f3 (DZ := 1) (DS := 10) (by omega) (by omega)) (by omega) (by omega)
  · rcases l7 with q | q
    · exact absurd (by rw [c1, q.2.1]) hne
    · omega
