set_option maxRecDepth 10000
abbrev frA (A : Nat → Nat) (R : Nat → Prop) (h h1 : AH) : Prop := fr A R h h1
/-! closing a command -/
theorem L_ok {K : AH → Prop} {Q : Int32 → AH → Prop} {h : AH} {m o : Nat} {u : Int64} (hm : hp_k h m = 13) (ht : hp_I h m 0 = 0) (ho : hp_k h o = 103) (hn : hp_n h o = 1) (hv : hp_L h o 0 = u) (k : K h) : m_M_thrown (fun v3 h3 => fx_ext h h3 → (v3 = (0 : Int32) → (¬ (0 : Int32) = 0 → K h3) ∧ ((0 : Int32) = 0 → lk (hp_k h3 o) ∧ vp_in (0 : Int32) (hp_n h3 o) ∧ ((lg_cmp (hp_L h3 o (0 : Int32).toNatClampNeg) u) = 0 → K h3) ∧ (¬ (lg_cmp (hp_L h3 o (0 : Int32).toNatClampNeg) u) = 0 → Q (0 : Int32) h3))) ∧ (¬ v3 = (0 : Int32) → Q (0 : Int32) h3)) m h := by
  refine ⟨hm, fun _ => ⟨fun _ => ⟨fun c => absurd rfl c, fun _ => ⟨Or.inl ho, by rw [hn]; exact (vp_iff (c := 0) (by decide)).mpr (by decide), fun _ => k, fun c => absurd ?_ c⟩⟩, fun c => absurd ht c⟩⟩
  rw [lg_cmp_eq]
  exact hv
theorem L_no {K : AH → Prop} {Q : Int32 → AH → Prop} {h : AH} {m o : Nat} {u : Int64} {c : Int32} (hm : hp_k h m = 13) (ht : hp_I h m 0 = c) (hc : ¬ c = 0) (k : K h) : m_M_thrown (fun v3 h3 => fx_ext h h3 → (v3 = c → (¬ c = 0 → K h3) ∧ (c = 0 → lk (hp_k h3 o) ∧ vp_in (0 : Int32) (hp_n h3 o) ∧ ((lg_cmp (hp_L h3 o (0 : Int32).toNatClampNeg) u) = 0 → K h3) ∧ (¬ (lg_cmp (hp_L h3 o (0 : Int32).toNatClampNeg) u) = 0 → Q (0 : Int32) h3))) ∧ (¬ v3 = c → Q (0 : Int32) h3)) m h := ⟨hm, fun _ => ⟨fun _ => ⟨fun _ => k, fun e => absurd e hc⟩, fun e => absurd ht e⟩⟩
section ALL
variable {A A' : Nat → Nat} {s t : SG} {h h1 : AH} {R P : Nat → Prop}
theorem MW.ks (w : MW A t h) : ∀ i, (40 ≤ i ∧ i ≤ 57) ∨ i = 60 → 0 < hp_k h (A i) ∧ hp_k h (A i) < 106 := by
  obtain ⟨m1, m2, m3, m4, m5, m6, m7, m8⟩ := w
  obtain ⟨s1, s2, s3, s4, s5, s6, -⟩ := m5
  obtain ⟨w1, w2, -, w4, w5, -, w7, w8, -⟩ := m6
  obtain ⟨e1, e2, e3, e4⟩ := m7
  obtain ⟨-, -, -, -, -, -, -, -, n9, n10, n11, n12, n13, n14, n15, -, -⟩ := m8
  have k40 := m1.1
  have k41 := m2.1
  have k42 := m3.1
  have k43 := m4.1
  intro i hi
  have : i = 40 ∨ i = 41 ∨ i = 42 ∨ i = 43 ∨ i = 44 ∨ i = 45 ∨ i = 46 ∨ i = 47 ∨ i = 48 ∨ i = 49 ∨ i = 50 ∨ i = 51 ∨ i = 52 ∨ i = 53 ∨ i = 54 ∨ i = 55 ∨ i = 56 ∨ i = 57 ∨ i = 60 := by omega
  rcases this with rfl | rfl | rfl | rfl | rfl | rfl | rfl | rfl | rfl | rfl | rfl | rfl | rfl | rfl | rfl | rfl | rfl | rfl | rfl <;> omega
theorem MW.fra (w : MW A t h) (a : AI A h) (F : fm (Rl A R) h h1) (hR : ∀ i, R i → (40 ≤ i ∧ i ≤ 57) ∨ i = 60) : frA A R h h1 := fr.ofm a F (fun x j ⟨i, r, e⟩ _ => ⟨by rw [e]; exact (w.ks i (hR i r)).2, i, r, e⟩)
theorem MW.all (w : MW A t h) (f : frA A R h h1) : (¬ R 40 → nM A t h1) ∧ (¬ R 41 → nT A t h1) ∧ (¬ R 42 → nK A t h1) ∧ (¬ R 43 → nH A t h1) ∧ (¬ R 44 → ¬ R 45 → ¬ R 46 → nS A t h1) ∧ (¬ R 47 → ¬ R 48 → ¬ R 49 → nW A t h1) ∧ (¬ R 50 → ¬ R 51 → nE A h1) := by
  obtain ⟨g1, g2, g3, g4, g5, g6, g7, g8⟩ := w
  exact ⟨fun r => g1.fr f r, fun r => g2.fr f r, fun r => g3.fr f r, fun r => g4.fr f r, fun r r2 r3 => g5.fr f r r2 r3, fun r r2 r3 => g6.fr f r r2 r3, fun r r2 => g7.fr f r r2⟩
/-- the hash's part looks at the model's cell by its references alone -/
theorem MH.m (g : MH A h) (f : frA A R h h1) (hR : hp_R h1 (A 40) = hp_R h (A 40)) (hk : hp_k h1 (A 40) = 13) (r : ∀ i, (52 ≤ i ∧ i ≤ 57 ∨ i = 60) → ¬ R i) : MH A h1 := by
  have g0 := g
  obtain ⟨m1, m2, m3, m4, m5, m6, m7, m8, m9, m10, m11, m12, m13, m14, m15, m16, m17⟩ := g0
  obtain ⟨b1, b2, b3, b4, b5⟩ := f.1 52 (r _ (by omega)) (by omega)
  obtain ⟨c1, c2, c3, c4, c5⟩ := f.1 53 (r _ (by omega)) (by omega)
  obtain ⟨d1, d2, d3, d4, d5⟩ := f.1 54 (r _ (by omega)) (by omega)
  obtain ⟨e1, e2, e3, e4, e5⟩ := f.1 55 (r _ (by omega)) (by omega)
  obtain ⟨u1, u2, u3, u4, u5⟩ := f.1 56 (r _ (by omega)) (by omega)
  obtain ⟨v1, v2, v3, v4, v5⟩ := f.1 57 (r _ (by omega)) (by omega)
  obtain ⟨w1, w2, w3, w4, w5⟩ := f.1 60 (r _ (by omega)) (by omega)
  unfold MH at *
  rw [hk, hR, b1, b2, c1, c2, d1, d2, d4, e1, e2, e4, u1, u2, v1, v2, w1, w2]
  exact ⟨rfl, g.2⟩
/-- the model wrote; the next command may come -/
theorem J_end {i Z : Nat} {A0 : Nat → Nat} {s' s0 : SG} {h0 h1 h2 : AH} {S : Nat → Nat → Prop} (p : PO i Z A0 h0 A s' s0 h1) (F : fm S h1 h2) (f : fr A R h1 h2) (r : ∀ i, R i → 40 ≤ i ∧ i ≤ 60) (m : MW A s' h2) (pi : PI (i + 1) s') (hi : i < 512) : INV (i + 1) Z A s' h2 ∧ ro h0 h2 := by
  obtain ⟨w, ⟨r1, r2, r3⟩, a0, a40, a37, o⟩ := p
  obtain ⟨-, -, -, x4, x5, x6, -⟩ := F
  exact ⟨⟨w.mfr f r m, pi, ⟨by rw [x6]; exact r1, by rw [x4]; exact r2, by rw [x5]; exact r3⟩, by omega⟩, o.tr f.2.2.2.2⟩
theorem PI.nx {i : Nat} (p : PI i s) : PI (i + 1) s := by
  obtain ⟨p1, p2, p3, p4, p5, p6, p7, p8, p9⟩ := p
  exact ⟨by omega, by omega, p3, p4, p5, by omega, by omega, p8, p9⟩
/-- only `thrown` of the model changed -/
theorem MW.th {v : Int32} (w : MW A t h) (a : AI A h) : MW A t (up_I h (A 40) 0 v) ∧ frA A (fun i => i = 40) h (up_I h (A 40) 0 v) := by
  have F : fm (Rl A (fun i => i = 40)) h (up_I h (A 40) 0 v) := fm.I ⟨40, rfl, rfl⟩
  have f := w.fra a F (fun i e => by omega)
  obtain ⟨-, c2, c3, c4, c5, c6, c7⟩ := w.all f
  refine ⟨⟨?_, c2 (by decide), c3 (by decide), c4 (by decide), c5 (by decide) (by decide) (by decide), c6 (by decide) (by decide) (by decide), c7 (by decide) (by decide), w.2.2.2.2.2.2.2.m f rfl w.1.1 (fun i e q => by omega)⟩, f⟩
  have g := w.1
  unfold nM at *
  rw [up_row, rkI, rRI]
  exact g
/-- what the model did: state s', thrown c -/
def MO (A : Nat → Nat) (s' : SG) (h1 h2 : AH) (c : Int32) : Prop := ∃ (R : Nat → Prop) (S : Nat → Nat → Prop), fm S h1 h2 ∧ fr A R h1 h2 ∧ (∀ i, R i → 40 ≤ i ∧ i ≤ 60) ∧ MW A s' h2 ∧ hp_I h2 (A 40) 0 = c
theorem MO.end {i Z : Nat} {A0 : Nat → Nat} {s' s0 : SG} {h0 h1 h2 : AH} {c : Int32} (p : PO i Z A0 h0 A s' s0 h1) (m : MO A s' h1 h2 c) (pi : PI (i + 1) s') (hi : i < 512) : INV (i + 1) Z A s' h2 ∧ ro h0 h2 := by
  obtain ⟨R, S, F, f, r, w, -⟩ := m
  exact J_end p F f r w pi hi
/-- thrown alone -/
theorem MO.th {c : Int32} (w : MW A t h) (a : AI A h) : MO A t h (up_I h (A 40) 0 c) c := by
  obtain ⟨m, f⟩ := w.th (v := c) a
  exact ⟨_, fun _ _ => True, fm.I trivial, f, fun i e => by omega, m, rI1⟩
theorem MO.pre {c : Int32} {h2 : AH} {v : Int32} (a : AI A h) (w : MW A t h) {t' : SG} (m : MO A t' (up_I h (A 40) 0 v) h2 c) : MO A t' h h2 c := by
  obtain ⟨R, S, F, f, r, w', e⟩ := m
  obtain ⟨-, f0⟩ := w.th (v := v) a
  refine ⟨fun i => i = 40 ∨ R i, fun _ _ => True, (fm.I (S := fun _ _ => True) trivial).tr (F.wk (fun _ _ _ => trivial)), (f0.wk (fun i e => Or.inl e)).tr (f.wk (fun i e => Or.inr e)), fun i e => ?_, w', e⟩
  rcases e with e | e
  · omega
  · exact r i e
/-- the model wrote its own cell alone -/
theorem MO.own {c : Int32} {s' : SG} (w : MW A t h) (a : AI A h) (F : fm (Rl A (fun i => i = 40)) h h1) (hR : hp_R h1 (A 40) = hp_R h (A 40)) (n : nM A s' h1) (nt : nT A t h1 → nT A s' h1) (nk : nK A t h1 → nK A s' h1) (nh : nH A t h1 → nH A s' h1) (ns : nS A t h1 → nS A s' h1) (nw : nW A t h1 → nW A s' h1) (hc : hp_I h1 (A 40) 0 = c) : MO A s' h h1 c := by
  have f := w.fra a F (fun i e => by omega)
  obtain ⟨-, c2, c3, c4, c5, c6, c7⟩ := w.all f
  exact ⟨_, _, F, f, fun i e => by omega, ⟨n, nt (c2 (by decide)), nk (c3 (by decide)), nh (c4 (by decide)), ns (c5 (by decide) (by decide) (by decide)), nw (c6 (by decide) (by decide) (by decide)), c7 (by decide) (by decide), w.2.2.2.2.2.2.2.m f hR n.1 (fun i e q => by omega)⟩, hc⟩
end ALL
