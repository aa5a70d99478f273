set_option maxRecDepth 10000
theorem CON.fr {A : Nat → Nat} {R : Nat → Prop} {h h1 : AH} (C : CON h) (f : fr A R h h1) : CON h1 := by
  obtain ⟨⟨a1, a2, a3⟩, ⟨b1, b2, b3⟩, c1, d1, d2⟩ := C
  have v := f.2.2.2.2
  have hc := f.2.2.1
  unfold CON
  rw [hc]
  obtain ⟨x1, x2, x3, x4, x5⟩ := v _ (show 106 ≤ hp_k h (hp_c h 0) by omega)
  obtain ⟨y1, y2, y3, y4, y5⟩ := v _ (show 106 ≤ hp_k h (hp_c h 1) by omega)
  obtain ⟨z1, z2, z3, z4, z5⟩ := v _ (show 106 ≤ hp_k h (hp_c h 11) by omega)
  rw [x1, x2, x4, y1, y2, y4, z1, z2]
  refine ⟨⟨a1, a2, a3⟩, ⟨b1, b2, b3⟩, fun i hi => ?_, d1, d2⟩
  obtain ⟨c2, c3, c4⟩ := c1 i hi
  obtain ⟨u1, u2, u3, u4, u5⟩ := v _ (show 106 ≤ hp_k h (hp_c h (i + 2)) by omega)
  rw [u1, u2, u3]
  exact ⟨c2, c3, c4⟩
theorem AI.fr {A : Nat → Nat} {R : Nat → Prop} {h h1 : AH} (a : AI A h) (f : fr A R h h1) : AI A h1 := by
  obtain ⟨a1, a2, a3⟩ := a
  have := f.2.1
  refine ⟨a1, fun j => ?_, fun j b1 b2 b3 b4 b5 b6 => ?_⟩
  · rw [f.2.2.2.1]
    rcases a2 j with q | q
    · left; omega
    · right; exact q
  · have := a3 j b1 b2 b3 b4 b5 b6
    omega
/-! THE MODEL's parts -/
def nM (A : Nat → Nat) (s : SG) (h : AH) : Prop := hp_k h (A 40) = 13 ∧ hp_R h (A 40) 1 = some (A 41) ∧ hp_R h (A 40) 2 = some (A 42) ∧ hp_R h (A 40) 3 = some (A 43) ∧ hp_R h (A 40) 7 = some (A 44) ∧ hp_R h (A 40) 8 = some (A 45) ∧ hp_R h (A 40) 9 = some (A 46) ∧ hp_R h (A 40) 11 = some (A 47) ∧ hp_R h (A 40) 12 = some (A 48) ∧ hp_R h (A 40) 13 = some (A 49) ∧ hp_R h (A 40) 44 = some (A 50) ∧ hp_R h (A 40) 46 = some (A 51) ∧ hp_I h (A 40) 4 = nI (q_tn s) ∧ hp_I h (A 40) 5 = nI (q_kc s) ∧ hp_I h (A 40) 6 = nI (q_hn s) ∧ hp_I h (A 40) 10 = nI (q_cn s) ∧ hp_I h (A 40) 14 = nI (q_rn s) ∧ hp_I h (A 40) 15 = nI (q_ac s) ∧ hp_I h (A 40) 16 = nI (q_wn s) ∧ hp_I h (A 40) 17 = nI (q_aq s) - 1 ∧ hp_I h (A 40) 18 = nI (q_jd s) ∧ hp_I h (A 40) 19 = nI (q_ps s)
def nT (A : Nat → Nat) (s : SG) (h : AH) : Prop := hp_k h (A 41) = 101 ∧ hp_n h (A 41) = 65536 ∧ ∀ j, j < q_tn s → ub (hp_I h (A 41) j) = q_tb s j
def nK (A : Nat → Nat) (s : SG) (h : AH) : Prop := hp_k h (A 42) = 101 ∧ hp_n h (A 42) = 3200 ∧ ∀ k, k < q_kc s → ∀ j, j < 32 → ub (hp_I h (A 42) (32 * k + j)) = q_kb s k j
def nH (A : Nat → Nat) (s : SG) (h : AH) : Prop := hp_k h (A 43) = 101 ∧ hp_n h (A 43) = 256 ∧ ∀ j, j < q_hn s → ub (hp_I h (A 43) j) = q_hb s j
def nS (A : Nat → Nat) (s : SG) (h : AH) : Prop := hp_k h (A 44) = 101 ∧ hp_n h (A 44) = 262144 ∧ hp_k h (A 45) = 102 ∧ hp_n h (A 45) = 1001 ∧ hp_k h (A 46) = 102 ∧ hp_n h (A 46) = 1000 ∧ (∀ c, c ≤ q_cn s → hp_I h (A 45) c = nI (q_cf s c)) ∧ ∀ c, c < q_cn s → hp_I h (A 46) c = nI (q_co s c) ∧ ∀ j, j < q_cl s c → ub (hp_I h (A 44) (q_cf s c + j)) = q_cb s c j
def nW (A : Nat → Nat) (s : SG) (h : AH) : Prop := hp_k h (A 47) = 102 ∧ hp_n h (A 47) = 16 ∧ (∀ j, j < q_rn s → hp_I h (A 47) j = nI (q_rw s j)) ∧ hp_k h (A 48) = 102 ∧ hp_n h (A 48) = 16 ∧ (∀ j, j < q_ac s → hp_I h (A 48) j = nI (q_an s j)) ∧ hp_k h (A 49) = 102 ∧ hp_n h (A 49) = 8 ∧ (∀ j, j < q_wn s → hp_I h (A 49) j = nI (q_wy s j))
def nE (A : Nat → Nat) (h : AH) : Prop := hp_k h (A 50) = 102 ∧ hp_n h (A 50) = 10000 ∧ hp_k h (A 51) = 101 ∧ hp_n h (A 51) = 140000
section FRM
variable {A A' : Nat → Nat} {s : SG} {h h1 : AH} {R P : Nat → Prop}
theorem nM.fr (g : nM A s h) (f : fr A R h h1) (r : ¬ R 40) : nM A s h1 := by
  obtain ⟨x1, x2, x3, x4, x5⟩ := f.1 40 r (by have := g.1; omega)
  unfold nM at *
  rw [x1, x3, x5]
  exact g
theorem nT.fr (g : nT A s h) (f : fr A R h h1) (r : ¬ R 41) : nT A s h1 := by
  obtain ⟨x1, x2, x3, x4, x5⟩ := f.1 41 r (by have := g.1; omega)
  unfold nT at *
  rw [x1, x2, x3]
  exact g
theorem nK.fr (g : nK A s h) (f : fr A R h h1) (r : ¬ R 42) : nK A s h1 := by
  obtain ⟨x1, x2, x3, x4, x5⟩ := f.1 42 r (by have := g.1; omega)
  unfold nK at *
  rw [x1, x2, x3]
  exact g
theorem nH.fr (g : nH A s h) (f : fr A R h h1) (r : ¬ R 43) : nH A s h1 := by
  obtain ⟨x1, x2, x3, x4, x5⟩ := f.1 43 r (by have := g.1; omega)
  unfold nH at *
  rw [x1, x2, x3]
  exact g
theorem nS.fr (g : nS A s h) (f : fr A R h h1) (r : ¬ R 44) (r2 : ¬ R 45) (r3 : ¬ R 46) : nS A s h1 := by
  have g0 := g
  obtain ⟨g1, g2, g3, g4, g5, g6, g7, g8⟩ := g0
  obtain ⟨x1, x2, x3, x4, x5⟩ := f.1 44 r (by omega)
  obtain ⟨y1, y2, y3, y4, y5⟩ := f.1 45 r2 (by omega)
  obtain ⟨z1, z2, z3, z4, z5⟩ := f.1 46 r3 (by omega)
  unfold nS at *
  rw [x1, x2, x3, y1, y2, y3, z1, z2, z3]
  exact g
theorem nW.fr (g : nW A s h) (f : fr A R h h1) (r : ¬ R 47) (r2 : ¬ R 48) (r3 : ¬ R 49) : nW A s h1 := by
  have g0 := g
  obtain ⟨g1, g2, g3, g4, g5, g6, g7, g8, g9⟩ := g0
  obtain ⟨x1, x2, x3, x4, x5⟩ := f.1 47 r (by omega)
  obtain ⟨y1, y2, y3, y4, y5⟩ := f.1 48 r2 (by omega)
  obtain ⟨z1, z2, z3, z4, z5⟩ := f.1 49 r3 (by omega)
  unfold nW at *
  rw [x1, x2, x3, y1, y2, y3, z1, z2, z3]
  exact g
theorem nE.fr (g : nE A h) (f : fr A R h h1) (r : ¬ R 50) (r2 : ¬ R 51) : nE A h1 := by
  have g0 := g
  obtain ⟨g1, g2, g3, g4⟩ := g0
  obtain ⟨x1, x2, x3, x4, x5⟩ := f.1 50 r (by omega)
  obtain ⟨y1, y2, y3, y4, y5⟩ := f.1 51 r2 (by omega)
  unfold nE at *
  rw [x1, x2, y1, y2]
  exact g
theorem MH.fr (g : MH A h) (f : fr A R h h1) (r : ∀ i, (i = 40 ∨ 52 ≤ i ∧ i ≤ 57 ∨ i = 60) → ¬ R i) : MH A h1 := by
  have g0 := g
  obtain ⟨m1, m2, m3, m4, m5, m6, m7, m8, m9, m10, m11, m12, m13, m14, m15, m16, m17⟩ := g0
  obtain ⟨a1, a2, a3, a4, a5⟩ := f.1 40 (r _ (by omega)) (by omega)
  obtain ⟨b1, b2, b3, b4, b5⟩ := f.1 52 (r _ (by omega)) (by omega)
  obtain ⟨c1, c2, c3, c4, c5⟩ := f.1 53 (r _ (by omega)) (by omega)
  obtain ⟨d1, d2, d3, d4, d5⟩ := f.1 54 (r _ (by omega)) (by omega)
  obtain ⟨e1, e2, e3, e4, e5⟩ := f.1 55 (r _ (by omega)) (by omega)
  obtain ⟨u1, u2, u3, u4, u5⟩ := f.1 56 (r _ (by omega)) (by omega)
  obtain ⟨v1, v2, v3, v4, v5⟩ := f.1 57 (r _ (by omega)) (by omega)
  obtain ⟨w1, w2, w3, w4, w5⟩ := f.1 60 (r _ (by omega)) (by omega)
  unfold MH at *
  rw [a1, a5, b1, b2, c1, c2, d1, d2, d4, e1, e2, e4, u1, u2, v1, v2, w1, w2]
  exact g
/-! another address book -/
def As (P : Nat → Prop) (A A' : Nat → Nat) : Prop := (∀ i, ¬ P i → A' i = A i) ∧ ∀ i, i < 61 → P i → i = 2 ∨ i = 7 ∨ i = 24 ∨ i = 26 ∨ i = 32 ∨ i = 35
theorem As.g (a : As P A A') {i : Nat} (h1 : i < 61) (h2 : ¬ (i = 2 ∨ i = 7 ∨ i = 24 ∨ i = 26 ∨ i = 32 ∨ i = 35)) : A' i = A i := a.1 i (fun p => h2 (a.2 i h1 p))
theorem gX.as (g : gX A s h) (a : As P A A') : gX A' s h := by
  unfold gX at *
  rw [a.g (i := 0) (by decide) (by decide), a.g (i := 1) (by decide) (by decide), a.g (i := 3) (by decide) (by decide), a.g (i := 5) (by decide) (by decide), a.g (i := 6) (by decide) (by decide), a.g (i := 8) (by decide) (by decide), a.g (i := 22) (by decide) (by decide), a.g (i := 28) (by decide) (by decide), a.g (i := 30) (by decide) (by decide), a.g (i := 34) (by decide) (by decide), a.g (i := 36) (by decide) (by decide)]
  exact g
theorem gT.as (g : gT A s h) (a : As P A A') (p : ¬ P 2) : gT A' s h := by
  unfold gT at *
  rw [a.g (i := 1) (by decide) (by decide), a.1 2 p]
  exact g
theorem gH.as (g : gH A s h) (a : As P A A') : gH A' s h := by
  unfold gH at *
  rw [a.g (i := 3) (by decide) (by decide), a.g (i := 4) (by decide) (by decide)]
  exact g
theorem gK.as (g : gK A s h) (a : As P A A') (p : ∀ k, k < q_kc s → ¬ P (100 + k)) : gK A' s h := by
  obtain ⟨g1, g2, g3, g4⟩ := g
  unfold gK
  rw [a.g (i := 5) (by decide) (by decide)]
  exact ⟨g1, g2, g3, fun k hk => by rw [a.1 _ (p k hk)]; exact g4 k hk⟩
theorem AL.cg {l e N n : Nat} {f f' : Nat → Nat} (g : AL h l e N n f) (hf : ∀ j, j < n → f' j = f j) : AL h l e N n f' := by
  obtain ⟨a1, a2, a3, a4, a5, a6, a7, a8⟩ := g
  exact ⟨a1, a2, a3, a4, a5, a6, a7, fun j hj => by rw [hf j hj]; exact a8 j hj⟩
theorem gB.as (g : gB A s h) (a : As P A A') (p : ¬ P 7) (p2 : ∀ k, k < q_cn s → ¬ P (1000 + 2 * k) ∧ ¬ P (1001 + 2 * k)) : gB A' s h := by
  obtain ⟨⟨e, g1, g2⟩, g3⟩ := g
  refine ⟨⟨e, ?_, ?_⟩, fun k hk => ?_⟩
  · rw [a.g (i := 6) (by decide) (by decide)]
    exact g1.cg (fun j hj => a.1 _ (p2 j hj).1)
  · rw [a.1 7 p]; exact g2
  · rw [a.1 _ (p2 k hk).1, a.1 _ (p2 k hk).2]; exact g3 k hk
theorem gC.as {c r : Nat} (g : gC A h c r) (a : As P A A') (p : ¬ P c) (p2 : ¬ P r) : gC A' h c r := by
  unfold gC at *
  rw [a.g (i := 8) (by decide) (by decide), a.1 c p, a.1 r p2]
  exact g
theorem gP.as (g : gP A s h) (a : As P A A') : gP A' s h := by
  unfold gP at *
  rw [a.g (i := 22) (by decide) (by decide), a.g (i := 8) (by decide) (by decide), a.g (i := 23) (by decide) (by decide), a.g (i := 25) (by decide) (by decide), a.g (i := 27) (by decide) (by decide)]
  exact g
theorem gR.as (g : gR A s h) (a : As P A A') (p : ¬ P 24) (p2 : ∀ k, k < q_rc s → ¬ P (300 + 2 * k) ∧ ¬ P (301 + 2 * k)) : gR A' s h := by
  obtain ⟨⟨e, g1, g2⟩, g3, g4⟩ := g
  refine ⟨⟨e, ?_, ?_⟩, g3, fun k hk => (g4 k hk).as a (p2 k hk).1 (p2 k hk).2⟩
  · rw [a.g (i := 23) (by decide) (by decide)]
    exact g1.cg (fun j hj => a.1 _ (p2 j hj).1)
  · rw [a.1 24 p]; exact g2
theorem gA.as (g : gA A s h) (a : As P A A') (p : ¬ P 26) (p2 : ∀ k, k < q_ac s → ¬ P (340 + 2 * k) ∧ ¬ P (341 + 2 * k)) (p3 : ∀ k, k < q_cn s → ¬ P (1001 + 2 * k)) : gA A' s h := by
  obtain ⟨⟨e, g1, g2⟩, g3, g4⟩ := g
  refine ⟨⟨e, ?_, ?_⟩, g3, fun k hk => ?_⟩
  · rw [a.g (i := 25) (by decide) (by decide)]
    exact g1.cg (fun j hj => a.1 _ (p2 j hj).1)
  · rw [a.1 26 p]; exact g2
  · obtain ⟨b1, b2, b3, b4⟩ := g4 k hk
    refine ⟨b1.as a (p2 k hk).1 (p2 k hk).2, b2, ?_, ?_⟩
    · rw [a.1 _ (p2 k hk).1, a.1 _ (p3 _ b2)]; exact b3
    · rw [a.1 _ (p2 k hk).1]; exact b4
theorem gI.as (g : gI A s h) (a : As P A A') (p : ¬ P 32) (p2 : ¬ P 35) : gI A' s h := by
  unfold gI at *
  rw [a.g (i := 30) (by decide) (by decide), a.g (i := 31) (by decide) (by decide), a.1 32 p, a.g (i := 34) (by decide) (by decide), a.1 35 p2]
  exact g
theorem gW.as (g : gW A s h) (a : As P A A') : gW A' s h := by
  unfold gW at *
  rw [a.g (i := 36) (by decide) (by decide), a.g (i := 37) (by decide) (by decide)]
  exact g
theorem KC.as (g : KC A h) (a : As P A A') : KC A' h := by
  unfold KC at *
  rw [a.g (i := 8) (by decide) (by decide), a.g (i := 9) (by decide) (by decide), a.g (i := 10) (by decide) (by decide), a.g (i := 11) (by decide) (by decide), a.g (i := 12) (by decide) (by decide), a.g (i := 13) (by decide) (by decide), a.g (i := 14) (by decide) (by decide), a.g (i := 15) (by decide) (by decide), a.g (i := 16) (by decide) (by decide), a.g (i := 17) (by decide) (by decide), a.g (i := 18) (by decide) (by decide), a.g (i := 19) (by decide) (by decide), a.g (i := 21) (by decide) (by decide)]
  exact g
def MW (A : Nat → Nat) (s : SG) (h : AH) : Prop := nM A s h ∧ nT A s h ∧ nK A s h ∧ nH A s h ∧ nS A s h ∧ nW A s h ∧ nE A h ∧ MH A h
theorem MW.fr (g : MW A s h) (f : fr A R h h1) (r : ∀ i, 40 ≤ i → i ≤ 60 → ¬ R i) : MW A s h1 := by
  obtain ⟨g1, g2, g3, g4, g5, g6, g7, g8⟩ := g
  exact ⟨g1.fr f (r _ (by decide) (by decide)), g2.fr f (r _ (by decide) (by decide)), g3.fr f (r _ (by decide) (by decide)), g4.fr f (r _ (by decide) (by decide)), g5.fr f (r _ (by decide) (by decide)) (r _ (by decide) (by decide)) (r _ (by decide) (by decide)), g6.fr f (r _ (by decide) (by decide)) (r _ (by decide) (by decide)) (r _ (by decide) (by decide)), g7.fr f (r _ (by decide) (by decide)) (r _ (by decide) (by decide)), g8.fr f (fun i hi => r i (by omega) (by omega))⟩
theorem MW.as (g : MW A s h) (a : As P A A') : MW A' s h := by
  have e : ∀ i, 40 ≤ i → i ≤ 60 → A' i = A i := fun i h1 h2 => a.g (by omega) (by omega)
  unfold MW nM nT nK nH nS nW nE MH at *
  rw [e 40 (by decide) (by decide), e 41 (by decide) (by decide), e 42 (by decide) (by decide), e 43 (by decide) (by decide), e 44 (by decide) (by decide), e 45 (by decide) (by decide), e 46 (by decide) (by decide), e 47 (by decide) (by decide), e 48 (by decide) (by decide), e 49 (by decide) (by decide), e 50 (by decide) (by decide), e 51 (by decide) (by decide), e 52 (by decide) (by decide), e 53 (by decide) (by decide), e 54 (by decide) (by decide), e 55 (by decide) (by decide), e 56 (by decide) (by decide), e 57 (by decide) (by decide), e 60 (by decide) (by decide)]
  exact g
def CP (A : Nat → Nat) (s : SG) (h : AH) : Prop := gX A s h ∧ gT A s h ∧ gH A s h ∧ gK A s h ∧ gB A s h ∧ KC A h ∧ gP A s h ∧ gR A s h ∧ gA A s h ∧ gC A h 28 29 ∧ gI A s h ∧ gW A s h
/-- only the model's roles were written -/
theorem CP.mfr (g : CP A s h) (C : CON h) (f : fr A R h h1) (r : ∀ i, R i → 40 ≤ i ∧ i ≤ 60) : CP A s h1 := by
  have C1 := C.fr f
  have r' : ∀ i, (i < 40 ∨ 60 < i) → ¬ R i := fun i hi q => by have := r i q; omega
  obtain ⟨g1, g2, g3, g4, g5, g6, g7, g8, g9, g10, g11, g12⟩ := g
  exact ⟨g1.fr f (r' _ (by decide)), g2.fr f (r' _ (by decide)) (r' _ (by decide)), g3.fr f (r' _ (by decide)) (r' _ (by decide)), g4.fr f (r' _ (by decide)) (fun k _ => r' _ (by omega)), g5.fr C C1 f (r' _ (by decide)) (r' _ (by decide)) (fun k _ => ⟨r' _ (by omega), r' _ (by omega)⟩), g6.fr f (fun i _ _ => r' i (by omega)), g7.fr f (r' _ (by decide)) (r' _ (by decide)), g8.fr C C1 f (r' _ (by decide)) (r' _ (by decide)) (fun k _ => ⟨r' _ (by omega), r' _ (by omega)⟩), g9.fr C C1 f (r' _ (by decide)) (r' _ (by decide)) (fun k _ => ⟨r' _ (by omega), r' _ (by omega)⟩), g10.fr f (r' _ (by decide)) (r' _ (by decide)), g11.fr f (r' _ (by decide)) (r' _ (by decide)) (r' _ (by decide)) (r' _ (by decide)) (r' _ (by decide)), g12.fr f (r' _ (by decide)) (r' _ (by decide))⟩
end FRM
