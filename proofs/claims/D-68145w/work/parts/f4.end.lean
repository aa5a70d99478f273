set_option maxRecDepth 10000
/-- a command's premises and its end -/
def KX (i Z : Nat) (A : Nat → Nat) (h : AH) (X : Int32 × AH → Prop) : Prop := ∀ A' s' h', INV (i + 1) Z A' s' h' → A' 0 = A 0 → A' 40 = A 40 → A' 37 = A 37 → ro h h' → X (nI (6 * (i + 1)), h')
def SC (b i : Nat) (h : AH) : Prop := hp_k h b = 112 ∧ 6 * i + 6 ≤ hp_n h b ∧ hp_n h b ≤ 3072
theorem SC.ro {b i : Nat} {h h1 : AH} (c : SC b i h) (o : ro h h1) : SC b i h1 ∧ hp_I h1 b = hp_I h b := by
  obtain ⟨x1, x2, x3, x4, x5⟩ := o b (by have := c.1; omega)
  exact ⟨⟨by rw [x1]; exact c.1, by rw [x2]; exact c.2.1, by rw [x2]; exact c.2.2⟩, x3⟩
theorem SC.vp {b i : Nat} {h : AH} (c : SC b i h) (j : Nat) (hj : j < 6) : vp_in (nI (6 * i) + nI j) (hp_n h b) := by
  rw [nI_add, vp_iff (by have := c.2; omega)]
  have := c.2
  omega
theorem K1011 {Q : Int32 → AH → Prop} {X : Int32 × AH → Prop} {i Z b : Nat} {A A' : Nat → Nat} {s' : SG} {h h' : AH} (k : KX i Z A h X) (I : INV (i + 1) Z A' s' h') (a0 : A' 0 = A 0) (a40 : A' 40 = A 40) (a37 : A' 37 = A 37) (o : ro h h') : m_Law_law_1011 Q X b (A 0) (A 40) (A 37) (nI (6 * i)) h' := by
  rintro _ rfl
  rw [show (6 : Int32) = nI 6 from rfl, nI_add]
  exact k A' s' h' I a0 a40 a37 o
theorem INV.k {i Z : Nat} {A : Nat → Nat} {s : SG} {h : AH} (I : INV i Z A s h) : hp_k h (A 0) = 1 ∧ hp_k h (A 40) = 13 ∧ hp_k h (A 37) = 103 ∧ hp_n h (A 37) = 1 := ⟨I.1.2.2.1.1.1, I.1.2.2.2.1.1, I.1.2.2.1.2.2.2.2.2.2.2.2.2.2.2.2.2.2.2.1, I.1.2.2.1.2.2.2.2.2.2.2.2.2.2.2.2.2.2.2.2⟩
theorem PO.k {i Z : Nat} {A A' : Nat → Nat} {s' s : SG} {h h1 : AH} (p : PO i Z A h A' s' s h1) : hp_k h1 (A 0) = 1 ∧ hp_k h1 (A 40) = 13 ∧ hp_k h1 (A 37) = 103 ∧ hp_n h1 (A 37) = 1 := by
  obtain ⟨w, -, a0, a40, a37, -⟩ := p
  rw [← a0, ← a40, ← a37]
  exact ⟨w.2.2.1.1.1, w.2.2.2.1.1, w.2.2.1.2.2.2.2.2.2.2.2.2.2.2.2.2.2.2.1, w.2.2.1.2.2.2.2.2.2.2.2.2.2.2.2.2.2.2.2⟩
theorem v0 {n : Nat} (h : n = 1) : vp_in (0 : Int32) n := by rw [h]; exact (vp_iff (c := 0) (by decide)).mpr (by decide)
/-- no change but room for a command -/
theorem PO.same {i Z : Nat} {A : Nat → Nat} {s : SG} {h : AH} (I : INV i Z A s h) : PO i Z A h A s s h := by
  obtain ⟨w, p, ⟨r1, r2, r3⟩, hi⟩ := I
  exact ⟨w, ⟨r1, by omega, by omega⟩, rfl, rfl, rfl, ro.rf⟩
/-! joining both -/
theorem fin_ok {Q : Int32 → AH → Prop} {X : Int32 × AH → Prop} {i Z b : Nat} {A A' : Nat → Nat} {s s' : SG} {h h1 h2 : AH} {u : Int64} (p : PO i Z A h A' s' s h1) (hv : hp_L h1 (A 37) 0 = u) (m : MO A' s' h1 h2 0) (pi : PI (i + 1) s') (hi : i < 512) (k : KX i Z A h X) : m_M_thrown (fun v3 h3 => fx_ext h2 h3 → (v3 = (0 : Int32) → (¬ (0 : Int32) = 0 → m_Law_law_1011 Q X b (A 0) (A 40) (A 37) (nI (6 * i)) h3) ∧ ((0 : Int32) = 0 → lk (hp_k h3 (A 37)) ∧ vp_in (0 : Int32) (hp_n h3 (A 37)) ∧ ((lg_cmp (hp_L h3 (A 37) (0 : Int32).toNatClampNeg) u) = 0 → m_Law_law_1011 Q X b (A 0) (A 40) (A 37) (nI (6 * i)) h3) ∧ (¬ (lg_cmp (hp_L h3 (A 37) (0 : Int32).toNatClampNeg) u) = 0 → Q (0 : Int32) h3))) ∧ (¬ v3 = (0 : Int32) → Q (0 : Int32) h3)) (A 40) h2 := by
  obtain ⟨j1, j2⟩ := m.end p pi hi
  obtain ⟨R, S, F, f, r, w, e⟩ := m
  obtain ⟨-, -, a0, a40, a37, -⟩ := id p
  have jk := j1.k
  rw [a40, a37] at jk
  rw [a40] at e
  refine L_ok jk.2.1 e jk.2.2.1 jk.2.2.2 ?_ (K1011 k j1 a0 a40 a37 j2)
  have e37 := (f.1 37 (fun q => by have := r 37 q; omega) (by rw [a37]; have := p.k.2.2.1; omega)).2.2.2.1
  rw [a37] at e37
  rw [e37]
  exact hv
theorem fin_no {Q : Int32 → AH → Prop} {X : Int32 × AH → Prop} {i Z b : Nat} {A : Nat → Nat} {s : SG} {h h1 h2 : AH} {u : Int64} {c : Int32} (p : PO i Z A h A s s h1) (hc : ¬ c = 0) (m : MO A s h1 h2 c) (pi : PI i s) (hi : i < 512) (k : KX i Z A h X) : m_M_thrown (fun v3 h3 => fx_ext h2 h3 → (v3 = c → (¬ c = 0 → m_Law_law_1011 Q X b (A 0) (A 40) (A 37) (nI (6 * i)) h3) ∧ (c = 0 → lk (hp_k h3 (A 37)) ∧ vp_in (0 : Int32) (hp_n h3 (A 37)) ∧ ((lg_cmp (hp_L h3 (A 37) (0 : Int32).toNatClampNeg) u) = 0 → m_Law_law_1011 Q X b (A 0) (A 40) (A 37) (nI (6 * i)) h3) ∧ (¬ (lg_cmp (hp_L h3 (A 37) (0 : Int32).toNatClampNeg) u) = 0 → Q (0 : Int32) h3))) ∧ (¬ v3 = c → Q (0 : Int32) h3)) (A 40) h2 := by
  obtain ⟨j1, j2⟩ := m.end p pi.nx hi
  obtain ⟨R, S, F, f, r, w, e⟩ := m
  exact L_no j1.k.2.1 e hc (K1011 k j1 rfl rfl rfl j2)
/-! end -/
theorem C_end {Q : Int32 → AH → Prop} {E : Nat → AH → Prop} {i Z : Nat} {A : Nat → Nat} {s : SG} {h : AH} {x : Int32} (I : INV i Z A s h) (kE : (x < 0 ∨ ∃ n, n < 2 ^ 31 ∧ x = nI n ∧ q_tn s < n) → ∀ q h1, hp_k h1 q = 14 → PO i Z A h A s s h1 → E q h1) (kQ : ∀ n, x = nI n → n ≤ q_tn s → ∀ h1, PO i Z A h A (upS s 0 (fun _ _ => n)) s h1 → Q x h1) : m_J_end Q E (A 0) x h := by
  have r := I.room
  obtain ⟨⟨a, c, g, m⟩, p, o, hi⟩ := id I
  have gx := g.1
  have gt := g.2.1
  have bad : (x < 0 ∨ ∃ n, n < 2 ^ 31 ∧ x = nI n ∧ q_tn s < n) → m_J_end_15 Q E h := fun hc => by
    refine ⟨⟨by have := r.1; omega, by have := r.2; omega⟩, ?_⟩
    rintro wf q rfl h1 rfl
    exact kE hc _ _ rkN1 (PO.ex I wf)
  refine ⟨fun hx => bad (Or.inl hx), fun hx => ⟨gx.1, A 1, gx.2.1, gt.1, ?_⟩⟩
  obtain ⟨n, hn, rfl⟩ := nat_of hx
  have ht : q_tn s < 2 ^ 31 := by have := p.1; omega
  rw [gt.2.2.1, nI_leI hn ht]
  refine ⟨fun hc => ?_, fun hc => bad (Or.inr ⟨n, hn, rfl, by omega⟩)⟩
  rintro h1 hh1
  have F : fm (fun y _ => y = A 1) h h1 := by rw [hh1]; exact fm.I rfl
  have f : fr A (fun i => i = 1) h h1 := fr.ofm a F (fun y j e _ => ⟨by rw [e, gt.1]; decide, 1, rfl, e⟩)
  obtain ⟨c1, -, c3, c4, c5, c6, c7, c8, c9, c10, c11, c12⟩ := g.all c.1 f As.rf (fun _ q => q.elim)
  have n21 : A 2 ≠ A 1 := a.ne (i := 2) (k := 100) gt.2.2.2.1 (by decide)
  have gt' : gT A (upS s 0 (fun _ _ => n)) h1 := by
    obtain ⟨t1, t2, t3, t4, t5, t6, t7, t8, t9⟩ := gt
    rw [hh1]
    exact ⟨t1, t2, rI1, t4, t5, show n ≤ q_TN s by omega, t7, t8, fun j hj => by rw [rI2 n21]; exact t9 j (show j < q_tn s from Nat.lt_of_lt_of_le hj hc)⟩
  obtain ⟨o1, o2, o3⟩ := o
  refine kQ n rfl hc h1 ⟨⟨a.fr f, c.fr f, ⟨c1 (by decide), gt', c3 (by decide) (by decide), c4 (by decide) (fun k _ => by omega), c5 (by decide) (by decide) (fun k _ => by omega), c6 (fun i _ _ => by omega), c7 (by decide) (by decide), c8 (by decide) (by decide) (fun k _ => by omega), c9 (by decide) (by decide) (fun k _ => by omega) (fun _ _ q => q), c10 (by decide) (by decide), c11 (by decide) (by decide) (by decide) (by decide) (by decide), c12 (by decide) (by decide)⟩, m.fr f (fun i _ _ => by omega)⟩, ⟨?_, ?_, ?_⟩, rfl, rfl, rfl, f.2.2.2.2⟩
  · rw [F.2.2.2.2.2.1]; exact o1
  · rw [F.2.2.2.1]; exact Nat.le_trans o2 (show _ ≤ Z + 300 + 60 * (i + 1) + (q_W1 s + q_W2 s) / 512 + q_TN s / 256 + (q_LH s + q_LR s + q_LA s) / 5 by omega)
  · rw [F.2.2.2.2.1]; exact Nat.le_trans o3 (show _ ≤ 800000 + 2500 * (i + 1) + q_cf s (q_cn s) + 2 * (q_W1 s + q_W2 s) + 2 * q_TN s + 4 * (q_LH s + q_LR s + q_LA s) by omega)
theorem M_end {Q : Int32 → AH → Prop} {A : Nat → Nat} {s : SG} {h : AH} {x : Int32} (w : MW A s h) (a : AI A h) (ht : q_tn s < 2 ^ 31) (kF : (x < 0 ∨ ∃ n, n < 2 ^ 31 ∧ x = nI n ∧ q_tn s < n) → ∀ h2, MO A s h h2 1 → Q 0 h2) (kQ : ∀ n, x = nI n → n ≤ q_tn s → ∀ h2, MO A (upS s 0 (fun _ _ => n)) h h2 0 → Q x h2) : m_M_end Q (A 40) x h := by
  refine ⟨w.1.1, ?_⟩
  rintro h1 hh1
  have k1 : hp_k h1 (A 40) = 13 := by rw [hh1]; exact w.1.1
  have e4 : hp_I h1 (A 40) 4 = nI (q_tn s) := by rw [hh1, rI3 (by decide)]; exact w.1.2.2.2.2.2.2.2.2.2.2.2.2.1
  have fail : (x < 0 ∨ ∃ n, n < 2 ^ 31 ∧ x = nI n ∧ q_tn s < n) → m_M_end_17 Q (A 40) h1 := fun hc => by
    refine ⟨k1, k1, ?_⟩
    rintro _ rfl _
    rw [hh1, uII]
    exact kF hc _ (MO.th w a)
  refine ⟨fun hx => fail (Or.inl hx), fun hx => ?_⟩
  obtain ⟨n, hn, rfl⟩ := nat_of hx
  rw [e4, nI_leI hn ht]
  refine ⟨fun hc => ?_, fun hc => fail (Or.inr ⟨n, hn, rfl, by omega⟩)⟩
  rintro h2 hh2
  have row : hp_I h2 (A 40) = up (up (hp_I h (A 40)) 0 0) 4 (nI n) := by rw [hh2, up_row, hh1, up_row]
  have hR : hp_R h2 = hp_R h := by rw [hh2, hh1]; rfl
  have hk : hp_k h2 = hp_k h := by rw [hh2, hh1]; rfl
  refine kQ n rfl hc h2 (MO.own w a (by rw [hh2, hh1]; exact (fm.I ⟨40, rfl, rfl⟩).tr (fm.I ⟨40, rfl, rfl⟩)) (by rw [hR]) ?_ (fun g => ⟨g.1, g.2.1, fun j hj => g.2.2 j (show j < q_tn s from Nat.lt_of_lt_of_le hj hc)⟩) id id id id (by rw [row]; rfl))
  have g := w.1
  unfold nM at *
  rw [row, hR, hk]
  obtain ⟨g1, g2, g3, g4, g5, g6, g7, g8, g9, g10, g11, g12, g13, g14⟩ := g
  exact ⟨g1, g2, g3, g4, g5, g6, g7, g8, g9, g10, g11, g12, rfl, g14⟩
theorem c_end {Q : Int32 → AH → Prop} {X : Int32 × AH → Prop} {i Z b : Nat} {A : Nat → Nat} {s : SG} {h : AH} (I : INV i Z A s h) (hi : i < 512) (hb : SC b i h) (k : KX i Z A h X) : m_Law_law_220 Q X b (A 0) (A 40) (A 37) (nI (6 * i)) h := by
  refine ⟨Or.inr hb.1, hb.vp 1 (by decide), I.k.1, ?_⟩
  generalize hx : hp_I h b (nI (6 * i) + 1).toNatClampNeg = x
  have pi := I.2.1
  have ht : q_tn s < 2 ^ 31 := by have := pi.1; omega
  refine C_end I (fun hc q h1 hk p _ => ⟨hk, fun _ => ?_⟩) (fun n hn hc h1 p _ => ⟨p.k.2.2.1, v0 p.k.2.2.2, ?_⟩)
  · obtain ⟨hb1, hbI⟩ := hb.ro p.2.2.2.2.2
    refine ⟨hb1.vp 1 (by decide), p.k.2.1, ?_⟩
    rw [hbI, hx]
    refine M_end p.1.2.2.2 p.1.1 ht (fun _ h2 m _ => fin_no p (by decide) m pi hi k) (fun n hn hc2 => ?_)
    rcases hc with hc | ⟨n', hn', e, hlt⟩
    · rw [hn, show (0 : Int32) = nI 0 from rfl, nI_ltI (by omega) (by decide)] at hc; omega
    · rw [hn, nI_eq (by omega) hn'] at e; omega
  · intro h2 hh2
    obtain ⟨p2, v2⟩ := p.out (v := x.toInt64)
    rw [show h2 = up_L h1 (A 37) 0 x.toInt64 from hh2]
    intro _
    obtain ⟨hb1, hbI⟩ := hb.ro p2.2.2.2.2.2
    refine ⟨hb1.vp 1 (by decide), p2.k.2.1, ?_⟩
    rw [hbI, hx]
    refine M_end p2.1.2.2.2 p2.1.1 ht (fun hc2 => ?_) (fun n' hn' hc2 h3 m _ => ?_)
    · rcases hc2 with hc2 | ⟨n', hn', e, hlt⟩
      · rw [hn, show (0 : Int32) = nI 0 from rfl, nI_ltI (by omega) (by decide)] at hc2; omega
      · rw [hn, nI_eq (by omega) hn'] at e; omega
    · have hnn : n' = n := by rw [hn, nI_eq (by omega) (by omega)] at hn'; omega
      subst hnn
      refine fin_ok p2 v2 m ?_ hi k
      obtain ⟨q1, q2, q3, q4, q5, q6, q7, q8, q9⟩ := pi.nx
      exact ⟨show n' ≤ 20 * (i + 1) by omega, q2, q3, q4, q5, q6, q7, q8, q9⟩
