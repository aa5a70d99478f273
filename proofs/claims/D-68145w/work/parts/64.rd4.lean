set_option maxRecDepth 10000
theorem s_is {Q : Int32 → AH → Prop} {h : AH} {r b n a c len f : Nat} {g o : Nat → Nat} (R : RD h r b n a g) (hc : bk (hp_k h c)) (hl : hp_n h c = len) (hv : ∀ j, j < len → ub (hp_I h c j) = o j) (hlen : len < 1000) (hf : f ≤ a) (ha : a ≤ n) (k1 : d_is g o len f a = true → Q 1 h) (k0 : d_is g o len f a = false → Q 0 h) : m_Rd_is Q r c (nI f) h := by
  obtain ⟨h1, h2, h3, h4, h5, h6, h7⟩ := R
  unfold m_Rd_is
  simp (disch := omega) only [h3, hl, lit_nI, nI_add, nI_sub, nI_mul, nI_neg, nI_leI, nI_ltI, nI_eq, nI_clamp, vp_iff, nI_negne, nI_l]
  refine ⟨h1, hc, fun c1 => ?_, fun c1 => k0 (by simp [d_is, c1])⟩
  unfold m_Rd_is_15
  refine ⟨fun st => ∃ k, k ≤ len ∧ st = (nI k, h) ∧ ∀ j, j < k → g (f + j) = o j, fun st => len - st.1.toNatClampNeg, ⟨0, by omega, rfl, fun j hj => by omega⟩, ?_⟩
  rintro _ ⟨k, hk, rfl, hal⟩
  unfold m_Rd_is_15_b
  simp (disch := omega) only [hl, lit_nI, nI_add, nI_sub, nI_mul, nI_neg, nI_leI, nI_ltI, nI_eq, nI_clamp, vp_iff, nI_negne, nI_l]
  refine ⟨hc, fun c2 => k1 ?_, fun c2 => ⟨h1, b, h2, h4, by omega, fun h8 => ⟨by omega, fun h9 => ?_⟩⟩⟩
  · simp only [d_is, Bool.and_eq_true, decide_eq_true_eq]
    exact ⟨c1, allB_iff.mpr fun i hi => by simp only [Nat.zero_add]; rw [hal i (by omega)]; exact beq_self_eq_true _⟩
  rw [b_inj h8 h9, h7 _ (by omega), hv k (by omega)]
  refine ⟨fun c3 => ?_, fun c3 => k0 ?_⟩
  · rintro _ rfl
    refine ⟨⟨k + 1, by omega, rfl, fun j hj => ?_⟩, by rw [nI_clamp (by omega)]; omega⟩
    by_cases e : j = k
    · rw [e]; exact c3
    · exact hal j (by omega)
  · unfold d_is
    rw [allB_no (i := k) (by omega) (by simp only [Nat.zero_add]; exact beq_eq_false_iff_ne.mpr c3), Bool.and_false]
theorem s_truth {Q : Int32 → AH → Prop} {E : Nat → AH → Prop} {h : AH} {r b n a e : Nat} {g : Nat → Nat} (R : RD h r b n a g) (hg : Gb g n) (he : e ≤ n) (ha : a ≤ n) (m : rm h 1 6) (kE : d_truth g a e = none → ∀ q h1, bx 14 (Sr r) h h1 q → E q h1) (k1 : ∀ t, d_truth g a e = some (true, t) → Q 1 (up_I h r 1 (nI t))) (k0 : d_truth g a e = some (false, a) → Q 0 h) : m_Rd_truth Q E r (nI e) h := by
  have hne := R.ne
  have RT := R.to
  obtain ⟨h1, h2, h3, h4, h5, h6, h7⟩ := id R
  unfold m_Rd_truth m_Rd_truth_41
  refine ⟨h1, s_tag R he (by omega) (fun hlt hga _ => ?_) (fun hge _ => ?_)⟩
  rotate_left
  · refine ⟨fun c => ?_, fun _ => k0 (by unfold d_truth; rw [if_neg (by omega)])⟩
    exact absurd c.symm (by simp (disch := omega) only [lit_nI, nI_add, nI_sub, nI_mul, nI_neg, nI_leI, nI_ltI, nI_eq, nI_clamp, vp_iff, nI_negne, nI_l]; exact id)
  simp (disch := omega) only [lit_nI, nI_add, nI_sub, nI_mul, nI_neg, nI_leI, nI_ltI, nI_eq, nI_clamp, vp_iff, nI_negne, nI_l]
  refine ⟨fun c => ?_, fun c => k0 (by unfold d_truth; rw [if_neg (by omega)])⟩
  have hd0 : d_truth g a e = (d_in g 1 a e).bind fun p => if p.2 - p.1 = 1 ∧ g p.1 = 255 then some (true, p.2) else none := by unfold d_truth; rw [if_pos ⟨hlt, c⟩]
  refine s_enter R hg he ha (by decide) m (fun hd q h1 hb _ => kE (by rw [hd0, hd]; rfl) q h1 hb) (fun f t hd _ => ?_)
  have hle := d_in_le hd
  rw [hd] at hd0
  simp only [Option.bind_some] at hd0
  obtain ⟨t1, t2, t3, t4, t5, t6, t7⟩ := RT f
  have F : fm (Sr r) h (up_I h r 1 (nI f)) := fm.I ⟨rfl, rfl⟩
  have bad : d_truth g a e = none → m_Rd_bad (fun q1 h1 => fx_ext (up_I h r 1 (nI f)) h1 → E q1 h1) (up_I h r 1 (nI f)) := fun hd => s_bad (Sr r) (m.fm F) (fun q h1 hb _ => kE hd q h1 (hb.pre F))
  simp (disch := omega) only [rI1, lit_nI, nI_add, nI_sub, nI_mul, nI_neg, nI_leI, nI_ltI, nI_eq, nI_clamp, vp_iff, nI_negne, nI_l]
  refine ⟨fun c2 => bad (by rw [hd0, if_neg (by omega)]), fun c2 => ⟨b, t2, t4, by omega, fun h8 => ?_⟩⟩
  rw [show (-nI 1 : Int32) = -1 from rfl, b_m1 h8, t7 _ (by omega)]
  refine ⟨fun c3 => ?_, fun c3 => bad (by rw [hd0, if_neg (by omega)])⟩
  rintro _ rfl
  rw [uII]
  exact k1 t (by rw [hd0, if_pos ⟨c2, c3⟩])
/-! the constant arrays -/
def ko (i j : Nat) : Nat := ub ((k_bytes.getD i []).getD j 0)
def kl (i : Nat) : Nat := (k_bytes.getD i []).length
def CON (h : AH) : Prop := (hp_k h (hp_c h 0) = 113 ∧ hp_n h (hp_c h 0) = 80 ∧ ∀ j, j < 80 → hp_L h (hp_c h 0) j = k_roots.getD j 0) ∧
  (hp_k h (hp_c h 1) = 113 ∧ hp_n h (hp_c h 1) = 8 ∧ ∀ j, j < 8 → hp_L h (hp_c h 1) j = k_first.getD j 0) ∧
  (∀ i, i < 9 → hp_k h (hp_c h (i + 2)) = 111 ∧ hp_n h (hp_c h (i + 2)) = kl i ∧ ∀ j, j < kl i → hp_I h (hp_c h (i + 2)) j = (k_bytes.getD i []).getD j 0) ∧ hp_k h (hp_c h 11) = 106 ∧ hp_n h (hp_c h 11) = 0
theorem CON.b {h : AH} (C : CON h) (i : Nat) (hi : i < 9) : bk (hp_k h (hp_c h (i + 2))) ∧ hp_n h (hp_c h (i + 2)) = kl i ∧ ∀ j, j < kl i → ub (hp_I h (hp_c h (i + 2)) j) = ko i j := by
  obtain ⟨h1, h2, h3⟩ := C.2.2.1 i hi
  exact ⟨Or.inr h1, h2, fun j hj => by rw [h3 j hj]; rfl⟩
theorem CON.fa {S : Nat → Nat → Prop} {h h1 : AH} {dz ds : Nat} (C : CON h) (x : fa S dz ds h h1) (hS : ∀ a j, 106 ≤ hp_k h a → ¬ S a j) : CON h1 := by
  obtain ⟨⟨a1, a2, a3⟩, ⟨b1, b2, b3⟩, c1, d1, d2⟩ := C
  have xc := x.2.2.2.2.2.2.2
  refine ⟨⟨?_, ?_, fun j hj => ?_⟩, ⟨?_, ?_, fun j hj => ?_⟩, fun i hi => ?_, ?_, ?_⟩
  · rw [xc]; exact x.k a1
  · rw [xc, x.n a1]; exact a2
  · rw [xc, x.L (by omega) (hS _ _ (by omega))]; exact a3 j hj
  · rw [xc]; exact x.k b1
  · rw [xc, x.n b1]; exact b2
  · rw [xc, x.L (by omega) (hS _ _ (by omega))]; exact b3 j hj
  · obtain ⟨e1, e2, e3⟩ := c1 i hi
    rw [xc]
    exact ⟨x.k e1, by rw [x.n e1]; exact e2, fun j hj => by rw [x.I (by omega) (hS _ _ (by omega))]; exact e3 j hj⟩
  · rw [xc]; exact x.k d1
  · rw [xc, x.n d1]; exact d2
def d_alg (g : Nat → Nat) (a e : Nat) : Option Nat := (d_in g 48 a e).bind fun p => (d_oid g p.1 p.2).bind fun q => if d_is g (ko 8) 8 q.1 q.2 = true ∧ q.2 = p.2 then some p.2 else none
theorem d_alg_le {g : Nat → Nat} {a e t : Nat} (h : d_alg g a e = some t) : a + 2 ≤ t ∧ t ≤ e := by
  unfold d_alg at h
  cases hd : d_in g 48 a e with
  | none => rw [hd] at h; cases h
  | some p =>
    rw [hd] at h
    simp only [Option.bind_some] at h
    cases ho : d_oid g p.1 p.2 with
    | none => rw [ho] at h; cases h
    | some q =>
      rw [ho] at h
      simp only [Option.bind_some] at h
      split at h
      · cases h
        have := d_in_le hd
        omega
      · cases h
theorem RD.con {h : AH} {r b n a a' : Nat} {g : Nat → Nat} (R : RD h r b n a g) (C : CON h) : CON (up_I h r 1 (nI a')) := C.fa (S := Sr r) (dz := 0) (ds := 0) (fm.I ⟨rfl, rfl⟩).fa (fun x j hk hs => by
  obtain ⟨rfl, -⟩ := hs
  have := R.1
  omega)
theorem s_alg {Q : Int32 → AH → Prop} {E : Nat → AH → Prop} {h : AH} {w r b n a e : Nat} {g : Nat → Nat} (R : RD h r b n a g) (C : CON h) (hg : Gb g n) (he : e ≤ n) (ha : a ≤ n) (m : rm h 1 6) (kE : d_alg g a e = none → ∀ q h1, bx 14 (Sr r) h h1 q → E q h1) (kQ : ∀ t, d_alg g a e = some t → Q 0 (up_I h r 1 (nI t))) : m_KM_algorithm Q E w r (nI e) h := by
  unfold m_KM_algorithm
  rw [show (48 : Int32) = nI 48 from rfl]
  refine ⟨R.1, s_enter R hg he ha (by decide) m (fun hd q h1 hb _ => kE (by unfold d_alg; rw [hd]; rfl) q h1 hb) (fun f t hd _ => ?_)⟩
  have hle := d_in_le hd
  have F : fm (Sr r) h (up_I h r 1 (nI f)) := fm.I ⟨rfl, rfl⟩
  refine s_oid (R.to f) hg (by omega) (by omega) (m.fm F) (fun ho q h1 hb _ => kE (by unfold d_alg; rw [hd]; simp only [Option.bind_some]; rw [ho]; rfl) q h1 (hb.pre F)) (fun o p ho _ => ?_)
  have hlo := d_oid_le ho
  rw [uII]
  have R2 := R.to p
  have F2 : fm (Sr r) h (up_I h r 1 (nI p)) := fm.I ⟨rfl, rfl⟩
  obtain ⟨e1, e2, e3⟩ := (R.con C (a' := p)).b 8 (by decide)
  have hda : d_alg g a e = if d_is g (ko 8) 8 o p = true ∧ p = t then some t else none := by unfold d_alg; rw [hd]; simp only [Option.bind_some]; rw [ho]; rfl
  refine s_is (o := ko 8) (len := 8) R2 e1 e2 e3 (by decide) (by omega) (by omega) (fun hi _ _ => ⟨fun _ => ?_, fun c => absurd c (by decide)⟩) (fun hi _ _ => ⟨fun c => absurd rfl c, fun _ => ?_⟩)
  · exact s_leave R2 (by omega) (by omega) (m.fm F2) (fun hn q h1 hb _ => kE (by rw [hda, if_neg (fun c => hn c.2)]) q h1 (hb.pre F2)) (fun hp _ => by subst hp; exact kQ _ (by rw [hda, if_pos ⟨hi, rfl⟩]))
  · exact s_bad (Sr r) (m.fm F2) (fun q h1 hb _ => kE (by rw [hda, if_neg (fun c => by rw [hi] at c; cases c.1)]) q h1 (hb.pre F2))
