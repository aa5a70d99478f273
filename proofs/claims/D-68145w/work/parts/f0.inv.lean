set_option maxRecDepth 10000
/-! THE STATE, plain: one table s; s f i j -/
abbrev SG : Type := Nat → Nat → Nat → Nat
def q_tn (s : SG) : Nat := s 0 0 0
def q_tb (s : SG) (j : Nat) : Nat := s 1 j 0
def q_kc (s : SG) : Nat := s 2 0 0
def q_kb (s : SG) (k j : Nat) : Nat := s 3 k j
def q_cn (s : SG) : Nat := s 4 0 0
def q_cl (s : SG) (c : Nat) : Nat := s 5 c 0
def q_cb (s : SG) (c j : Nat) : Nat := s 6 c j
def q_co (s : SG) (c : Nat) : Nat := s 7 c 0
def q_cf (s : SG) (c : Nat) : Nat := s 8 c 0
def q_hn (s : SG) : Nat := s 9 0 0
def q_hb (s : SG) (j : Nat) : Nat := s 10 j 0
def q_rn (s : SG) : Nat := s 11 0 0
def q_rw (s : SG) (j : Nat) : Nat := s 12 j 0
def q_ac (s : SG) : Nat := s 13 0 0
def q_an (s : SG) (k : Nat) : Nat := s 14 k 0
def q_wn (s : SG) : Nat := s 15 0 0
def q_wy (s : SG) (j : Nat) : Nat := s 16 j 0
def q_jd (s : SG) : Nat := s 17 0 0
def q_ps (s : SG) : Nat := s 18 0 0
/-- the anchor's number and one -/
def q_aq (s : SG) : Nat := s 19 0 0
/-- sizes of arrays that grow: tape; held, row, anchors; two writers; the row's certificates -/
def q_TN (s : SG) : Nat := s 20 0 0
def q_LH (s : SG) : Nat := s 21 0 0
def q_LR (s : SG) : Nat := s 22 0 0
def q_LA (s : SG) : Nat := s 23 0 0
def q_W1 (s : SG) : Nat := s 24 0 0
def q_W2 (s : SG) : Nat := s 25 0 0
def q_rc (s : SG) : Nat := s 26 0 0
def upS (s : SG) (f : Nat) (g : Nat → Nat → Nat) : SG := fun x => if x = f then g else s x
/-! frames by roles -/
def vw (h h1 : AH) (a : Nat) : Prop := hp_k h1 a = hp_k h a ∧ hp_n h1 a = hp_n h a ∧ hp_I h1 a = hp_I h a ∧ hp_L h1 a = hp_L h a ∧ hp_R h1 a = hp_R h a
def fr (A : Nat → Nat) (R : Nat → Prop) (h h1 : AH) : Prop := (∀ i, ¬ R i → hp_k h (A i) ≠ 0 → vw h h1 (A i)) ∧ hp_z h ≤ hp_z h1 ∧ hp_c h1 = hp_c h ∧ hp_t h1 = hp_t h ∧ ∀ a, 106 ≤ hp_k h a → vw h h1 a
theorem fr.of {A : Nat → Nat} {R : Nat → Prop} {S : Nat → Nat → Prop} {h h1 : AH} {dz ds : Nat} (a : AI A h) (F : fa S dz ds h h1) (hS : ∀ x j, S x j → hp_k h x ≠ 0 → hp_k h x < 106 ∧ ∃ i, R i ∧ x = A i) : fr A R h h1 := by
  obtain ⟨f1, f2, f3, f4, f5, f6, f7, f8⟩ := F
  refine ⟨fun i hi hk => ?_, f3, f8, f7, fun a ha => ?_⟩
  rotate_left
  · have nS : ∀ j, ¬ S a j := fun j hs => by
      have := (hS _ _ hs (by omega)).1
      omega
    exact ⟨(f2 _ (by omega)).1, (f2 _ (by omega)).2, funext fun j => (f1 _ j (by omega) (nS j)).1, funext fun j => (f1 _ j (by omega) (nS j)).2.1, funext fun j => (f1 _ j (by omega) (nS j)).2.2⟩
  have nS : ∀ j, ¬ S (A i) j := fun j hs => by
    obtain ⟨-, i', r, e⟩ := hS _ _ hs hk
    rw [a.1 i i' e] at hi
    exact hi r
  exact ⟨(f2 _ hk).1, (f2 _ hk).2, funext fun j => (f1 _ j hk (nS j)).1, funext fun j => (f1 _ j hk (nS j)).2.1, funext fun j => (f1 _ j hk (nS j)).2.2⟩
theorem fr.wk {A : Nat → Nat} {R R' : Nat → Prop} {h h1 : AH} (f : fr A R h h1) (hR : ∀ i, R i → R' i) : fr A R' h h1 := ⟨fun i hi => f.1 i (fun r => hi (hR i r)), f.2⟩
theorem fr.tr {A : Nat → Nat} {R : Nat → Prop} {h h1 h2 : AH} (f : fr A R h h1) (g : fr A R h1 h2) : fr A R h h2 := by
  refine ⟨fun i hi hk => ?_, Nat.le_trans f.2.1 g.2.1, g.2.2.1.trans f.2.2.1, g.2.2.2.1.trans f.2.2.2.1, fun a ha => ?_⟩
  rotate_left
  · obtain ⟨x1, x2, x3, x4, x5⟩ := f.2.2.2.2 a ha
    obtain ⟨y1, y2, y3, y4, y5⟩ := g.2.2.2.2 a (by rw [x1]; exact ha)
    exact ⟨y1.trans x1, y2.trans x2, y3.trans x3, y4.trans x4, y5.trans x5⟩
  obtain ⟨x1, x2, x3, x4, x5⟩ := f.1 i hi hk
  obtain ⟨y1, y2, y3, y4, y5⟩ := g.1 i hi (by rw [x1]; exact hk)
  exact ⟨y1.trans x1, y2.trans x2, y3.trans x3, y4.trans x4, y5.trans x5⟩
/-! THE COMPONENT's parts -/
def gX (A : Nat → Nat) (s : SG) (h : AH) : Prop := hp_k h (A 0) = 1 ∧ hp_R h (A 0) 0 = some (A 1) ∧ hp_R h (A 0) 1 = some (A 3) ∧ hp_R h (A 0) 2 = some (A 5) ∧ hp_R h (A 0) 4 = some (A 6) ∧ hp_R h (A 0) 5 = some (A 8) ∧ hp_R h (A 0) 6 = some (A 22) ∧ hp_R h (A 0) 7 = some (A 28) ∧ hp_R h (A 0) 8 = some (A 30) ∧ hp_R h (A 0) 9 = some (A 34) ∧ hp_R h (A 0) 10 = some (A 36) ∧ hp_I h (A 0) 3 = nI (q_kc s) ∧ hp_I h (A 0) 11 = nI (q_rn s) ∧ hp_I h (A 0) 12 = nI (q_aq s) - 1 ∧ hp_I h (A 0) 13 = nI (q_jd s) ∧ hp_I h (A 0) 14 = nI (q_ps s) ∧ hp_I h (A 0) 15 = nI (q_cf s (q_cn s))
def gT (A : Nat → Nat) (s : SG) (h : AH) : Prop := hp_k h (A 1) = 2 ∧ hp_R h (A 1) 0 = some (A 2) ∧ hp_I h (A 1) 1 = nI (q_tn s) ∧ hp_k h (A 2) = 101 ∧ hp_n h (A 2) = q_TN s ∧ q_tn s ≤ q_TN s ∧ 256 ≤ q_TN s ∧ q_TN s ≤ 40000 ∧ ∀ j, j < q_tn s → ub (hp_I h (A 2) j) = q_tb s j
def gH (A : Nat → Nat) (s : SG) (h : AH) : Prop := hp_k h (A 3) = 2 ∧ hp_R h (A 3) 0 = some (A 4) ∧ hp_I h (A 3) 1 = nI (q_hn s) ∧ hp_k h (A 4) = 101 ∧ hp_n h (A 4) = 256 ∧ q_hn s ≤ 255 ∧ ∀ j, j < q_hn s → ub (hp_I h (A 4) j) = q_hb s j
def gK (A : Nat → Nat) (s : SG) (h : AH) : Prop := hp_k h (A 5) = 105 ∧ hp_n h (A 5) = 100 ∧ q_kc s ≤ 100 ∧ ∀ k, k < q_kc s → hp_R h (A 5) k = some (A (100 + k)) ∧ hp_k h (A (100 + k)) = 101 ∧ hp_n h (A (100 + k)) = 32 ∧ A (100 + k) < hp_z h ∧ ∀ j, j < 32 → ub (hp_I h (A (100 + k)) j) = q_kb s k j
/-- a list whose array is the role b, once it has one -/
def gL (A : Nat → Nat) (h : AH) (l b N n : Nat) (f : Nat → Nat) : Prop := ∃ e, AL h (A l) e N n f ∧ (N ≠ 0 → e = A b ∧ A b < hp_z h)
def gB (A : Nat → Nat) (s : SG) (h : AH) : Prop := gL A h 6 7 (q_LH s) (q_cn s) (fun k => A (1000 + 2 * k)) ∧ ∀ k, k < q_cn s → hp_k h (A (1000 + 2 * k)) = 3 ∧ hp_R h (A (1000 + 2 * k)) 0 = some (A (1001 + 2 * k)) ∧ hp_I h (A (1000 + 2 * k)) 1 = nI (q_co s k) ∧ hp_k h (A (1001 + 2 * k)) = 101 ∧ hp_n h (A (1001 + 2 * k)) = q_cl s k ∧ A (1000 + 2 * k) < hp_z h ∧ A (1001 + 2 * k) < hp_z h ∧ ∀ j, j < q_cl s k → ub (hp_I h (A (1001 + 2 * k)) j) = q_cb s k j
/-- a certificate's object and its reader -/
def gC (A : Nat → Nat) (h : AH) (c r : Nat) : Prop := hp_k h (A c) = 8 ∧ hp_R h (A c) 0 = some (A 8) ∧ hp_R h (A c) 1 = some (A r) ∧ hp_k h (A r) = 9 ∧ A c < hp_z h ∧ A r < hp_z h
def gP (A : Nat → Nat) (s : SG) (h : AH) : Prop := hp_k h (A 22) = 7 ∧ hp_R h (A 22) 0 = some (A 8) ∧ hp_R h (A 22) 1 = some (A 23) ∧ hp_R h (A 22) 2 = some (A 25) ∧ hp_R h (A 22) 5 = some (A 27) ∧ hp_I h (A 22) 6 = nI (q_wn s) ∧ hp_k h (A 27) = 102 ∧ hp_n h (A 27) = 8 ∧ (∀ j, j < q_wn s → hp_I h (A 27) j = nI (q_wy s j))
def gR (A : Nat → Nat) (s : SG) (h : AH) : Prop := gL A h 23 24 (q_LR s) (q_rc s) (fun k => A (300 + 2 * k)) ∧ q_rc s ≤ 16 ∧ ∀ k, k < q_rc s → gC A h (300 + 2 * k) (301 + 2 * k)
/-- the anchors were read -/
def gA (A : Nat → Nat) (s : SG) (h : AH) : Prop := gL A h 25 26 (q_LA s) (q_ac s) (fun k => A (340 + 2 * k)) ∧ q_ac s ≤ 16 ∧ ∀ k, k < q_ac s → gC A h (340 + 2 * k) (341 + 2 * k) ∧ q_an s k < q_cn s ∧ hp_R h (A (340 + 2 * k)) 2 = some (A (1001 + 2 * q_an s k)) ∧ ∃ F L, d_whole (q_cb s (q_an s k)) 0 (q_cl s (q_an s k)) F L = some (hp_I h (A (340 + 2 * k)), hp_L h (A (340 + 2 * k)))
def gI (A : Nat → Nat) (s : SG) (h : AH) : Prop := hp_k h (A 30) = 10 ∧ hp_R h (A 30) 0 = some (A 31) ∧ hp_k h (A 31) = 11 ∧ hp_R h (A 31) 0 = some (A 32) ∧ hp_k h (A 32) = 101 ∧ hp_n h (A 32) = q_W1 s ∧ 512 ≤ q_W1 s ∧ q_W1 s ≤ 450000 ∧ hp_k h (A 34) = 11 ∧ hp_R h (A 34) 0 = some (A 35) ∧ hp_k h (A 35) = 101 ∧ hp_n h (A 35) = q_W2 s ∧ 512 ≤ q_W2 s ∧ q_W2 s ≤ 450000
def gW (A : Nat → Nat) (s : SG) (h : AH) : Prop := hp_k h (A 36) = 102 ∧ hp_n h (A 36) = 16 ∧ q_rn s ≤ 16 ∧ (∀ j, j < q_rn s → hp_I h (A 36) j = nI (q_rw s j) ∧ q_rw s j < q_cn s) ∧ hp_k h (A 37) = 103 ∧ hp_n h (A 37) = 1
section FRM
variable {A : Nat → Nat} {s : SG} {h h1 : AH} {R : Nat → Prop}
theorem gX.fr (g : gX A s h) (f : fr A R h h1) (r : ¬ R 0) : gX A s h1 := by
  obtain ⟨x1, x2, x3, x4, x5⟩ := f.1 0 r (by have := g.1; omega)
  unfold gX at *
  rw [x1, x3, x5]
  exact g
theorem gT.fr (g : gT A s h) (f : fr A R h h1) (r : ¬ R 1) (r2 : ¬ R 2) : gT A s h1 := by
  obtain ⟨x1, x2, x3, x4, x5⟩ := f.1 1 r (by have := g.1; omega)
  obtain ⟨y1, y2, y3, y4, y5⟩ := f.1 2 r2 (by have := g.2.2.2.1; omega)
  unfold gT at *
  rw [x1, x3, x5, y1, y2, y3]
  exact g
theorem gH.fr (g : gH A s h) (f : fr A R h h1) (r : ¬ R 3) (r2 : ¬ R 4) : gH A s h1 := by
  obtain ⟨x1, x2, x3, x4, x5⟩ := f.1 3 r (by have := g.1; omega)
  obtain ⟨y1, y2, y3, y4, y5⟩ := f.1 4 r2 (by have := g.2.2.2.1; omega)
  unfold gH at *
  rw [x1, x3, x5, y1, y2, y3]
  exact g
theorem gK.fr (g : gK A s h) (f : fr A R h h1) (r : ¬ R 5) (r2 : ∀ k, k < q_kc s → ¬ R (100 + k)) : gK A s h1 := by
  obtain ⟨x1, x2, x3, x4, x5⟩ := f.1 5 r (by have := g.1; omega)
  obtain ⟨g1, g2, g3, g4⟩ := g
  refine ⟨by rw [x1]; exact g1, by rw [x2]; exact g2, g3, fun k hk => ?_⟩
  obtain ⟨a1, a2, a3, a4, a5⟩ := g4 k hk
  obtain ⟨y1, y2, y3, y4, y5⟩ := f.1 (100 + k) (r2 k hk) (by omega)
  exact ⟨by rw [x5]; exact a1, by rw [y1]; exact a2, by rw [y2]; exact a3, by have := f.2.1; omega, fun j hj => by rw [y3]; exact a5 j hj⟩
theorem gL.fr {l b N n : Nat} {e : Nat → Nat} (g : gL A h l b N n e) (C : CON h) (C1 : CON h1) (f : fr A R h h1) (r : ¬ R l) (r2 : N ≠ 0 → ¬ R b) : gL A h1 l b N n e := by
  obtain ⟨e', ⟨a1, a2, a3, a4, a5, a6, a7, a8⟩, h2⟩ := g
  obtain ⟨x1, x2, x3, x4, x5⟩ := f.1 l r (by omega)
  refine ⟨e', ?_, fun hN => ⟨(h2 hN).1, by have := (h2 hN).2; have := f.2.1; omega⟩⟩
  by_cases hN : N = 0
  · have hc : e' = hp_c h 11 ∧ hp_k h e' = 106 := by
      rcases a7 with q | q
      · exact q.2
      · omega
    have n1 : hp_n h1 e' = 0 := by rw [hc.1, ← f.2.2.1]; exact C1.2.2.2.2
    have k1 : hp_k h1 e' = 106 := by rw [hc.1, ← f.2.2.1]; exact C1.2.2.2.1
    exact ⟨by rw [x1]; exact a1, by rw [x5]; exact a2, by rw [n1, hN], by rw [x3]; exact a4, a5, a6, Or.inl ⟨hN, by rw [f.2.2.1]; exact hc.1, k1⟩, fun j hj => by omega⟩
  · have hk : 10 ≤ N ∧ hp_k h e' = 104 := by
      rcases a7 with q | q
      · exact absurd q.1 hN
      · exact q
    have he := (h2 hN).1
    subst he
    obtain ⟨y1, y2, y3, y4, y5⟩ := f.1 b (r2 hN) (by omega)
    exact ⟨by rw [x1]; exact a1, by rw [x5]; exact a2, by rw [y2]; exact a3, by rw [x3]; exact a4, a5, a6, Or.inr ⟨hk.1, by rw [y1]; exact hk.2⟩, fun j hj => by rw [y5]; exact a8 j hj⟩
theorem gB.fr (g : gB A s h) (C : CON h) (C1 : CON h1) (f : fr A R h h1) (r : ¬ R 6) (r2 : ¬ R 7) (r3 : ∀ k, k < q_cn s → ¬ R (1000 + 2 * k) ∧ ¬ R (1001 + 2 * k)) : gB A s h1 := by
  refine ⟨g.1.fr C C1 f r (fun _ => r2), fun k hk => ?_⟩
  obtain ⟨a1, a2, a3, a4, a5, a6, a7, a8⟩ := g.2 k hk
  obtain ⟨x1, x2, x3, x4, x5⟩ := f.1 _ (r3 k hk).1 (by omega)
  obtain ⟨y1, y2, y3, y4, y5⟩ := f.1 _ (r3 k hk).2 (by omega)
  have := f.2.1
  exact ⟨by rw [x1]; exact a1, by rw [x5]; exact a2, by rw [x3]; exact a3, by rw [y1]; exact a4, by rw [y2]; exact a5, by omega, by omega, fun j hj => by rw [y3]; exact a8 j hj⟩
theorem gC.fr {c r' : Nat} (g : gC A h c r') (f : fr A R h h1) (r : ¬ R c) (r2 : ¬ R r') : gC A h1 c r' := by
  obtain ⟨g1, g2, g3, g4, g5, g6⟩ := g
  obtain ⟨x1, x2, x3, x4, x5⟩ := f.1 c r (by omega)
  obtain ⟨y1, y2, y3, y4, y5⟩ := f.1 r' r2 (by omega)
  have := f.2.1
  exact ⟨by rw [x1]; exact g1, by rw [x5]; exact g2, by rw [x5]; exact g3, by rw [y1]; exact g4, by omega, by omega⟩
theorem gP.fr (g : gP A s h) (f : fr A R h h1) (r : ¬ R 22) (r2 : ¬ R 27) : gP A s h1 := by
  obtain ⟨x1, x2, x3, x4, x5⟩ := f.1 22 r (by have := g.1; omega)
  obtain ⟨y1, y2, y3, y4, y5⟩ := f.1 27 r2 (by have := g.2.2.2.2.2.2.1; omega)
  unfold gP at *
  rw [x1, x3, x5, y1, y2, y3]
  exact g
theorem gR.fr (g : gR A s h) (C : CON h) (C1 : CON h1) (f : fr A R h h1) (r : ¬ R 23) (r2 : ¬ R 24) (r3 : ∀ k, k < q_rc s → ¬ R (300 + 2 * k) ∧ ¬ R (301 + 2 * k)) : gR A s h1 :=
  ⟨g.1.fr C C1 f r (fun _ => r2), g.2.1, fun k hk => (g.2.2 k hk).fr f (r3 k hk).1 (r3 k hk).2⟩
theorem gA.fr (g : gA A s h) (C : CON h) (C1 : CON h1) (f : fr A R h h1) (r : ¬ R 25) (r2 : ¬ R 26) (r3 : ∀ k, k < q_ac s → ¬ R (340 + 2 * k) ∧ ¬ R (341 + 2 * k)) : gA A s h1 := by
  refine ⟨g.1.fr C C1 f r (fun _ => r2), g.2.1, fun k hk => ?_⟩
  obtain ⟨a1, a2, a3, a4⟩ := g.2.2 k hk
  obtain ⟨x1, x2, x3, x4, x5⟩ := f.1 _ (r3 k hk).1 (by have := a1.1; omega)
  exact ⟨a1.fr f (r3 k hk).1 (r3 k hk).2, a2, by rw [x5]; exact a3, by rw [x3, x4]; exact a4⟩
theorem gI.fr (g : gI A s h) (f : fr A R h h1) (r : ¬ R 30) (r2 : ¬ R 31) (r3 : ¬ R 32) (r4 : ¬ R 34) (r5 : ¬ R 35) : gI A s h1 := by
  have g0 := g
  obtain ⟨g1, g2, g3, g4, g5, g6, g7, g8, g9, g10, g11, g12, g13, g14⟩ := g0
  obtain ⟨x1, x2, x3, x4, x5⟩ := f.1 30 r (by omega)
  obtain ⟨y1, y2, y3, y4, y5⟩ := f.1 31 r2 (by omega)
  obtain ⟨z1, z2, z3, z4, z5⟩ := f.1 32 r3 (by omega)
  obtain ⟨u1, u2, u3, u4, u5⟩ := f.1 34 r4 (by omega)
  obtain ⟨v1, v2, v3, v4, v5⟩ := f.1 35 r5 (by omega)
  unfold gI at *
  rw [x1, x5, y1, y5, z1, z2, u1, u5, v1, v2]
  exact g
theorem gW.fr (g : gW A s h) (f : fr A R h h1) (r : ¬ R 36) (r2 : ¬ R 37) : gW A s h1 := by
  obtain ⟨x1, x2, x3, x4, x5⟩ := f.1 36 r (by have := g.1; omega)
  obtain ⟨y1, y2, y3, y4, y5⟩ := f.1 37 r2 (by have := g.2.2.2.2.1; omega)
  unfold gW at *
  rw [x1, x2, x3, y1, y2]
  exact g
theorem KC.fr (g : KC A h) (f : fr A R h h1) (r : ∀ i, 8 ≤ i → i ≤ 21 → ¬ R i) : KC A h1 := by
  have g0 := g
  obtain ⟨k1, k2, k3, k4, k5, k6, k7, k8, k9, k10, k11, k12, k13, k14, k15, d, e⟩ := g0
  obtain ⟨d1, d2, d3, d4, d5, d6, d7, d8, d9, d10, d11, d12, d13⟩ := d
  obtain ⟨e1, e2, e3, e4, e5, e6, e7, e8, e9, e10, e11, e12, e13⟩ := e
  have v := fun i (h1 : 8 ≤ i) (h2 : i ≤ 21) (hk : hp_k h (A i) ≠ 0) => f.1 i (r i h1 h2) hk
  obtain ⟨a1, a2, a3, a4, a5⟩ := v 8 (by decide) (by decide) (by omega)
  obtain ⟨b1, b2, b3, b4, b5⟩ := v 9 (by decide) (by decide) (by omega)
  obtain ⟨c1, c2, c3, c4, c5⟩ := v 21 (by decide) (by decide) (by omega)
  obtain ⟨m1, m2, m3, m4, m5⟩ := v 18 (by decide) (by decide) (by omega)
  obtain ⟨n1, n2, n3, n4, n5⟩ := v 19 (by decide) (by decide) (by omega)
  obtain ⟨o1, o2, o3, o4, o5⟩ := v 10 (by decide) (by decide) (by omega)
  obtain ⟨p1, p2, p3, p4, p5⟩ := v 11 (by decide) (by decide) (by omega)
  obtain ⟨q1, q2, q3, q4, q5⟩ := v 12 (by decide) (by decide) (by omega)
  obtain ⟨s1, s2, s3, s4, s5⟩ := v 13 (by decide) (by decide) (by omega)
  obtain ⟨t1, t2, t3, t4, t5⟩ := v 14 (by decide) (by decide) (by omega)
  obtain ⟨u1, u2, u3, u4, u5⟩ := v 15 (by decide) (by decide) (by omega)
  obtain ⟨w1, w2, w3, w4, w5⟩ := v 16 (by decide) (by decide) (by omega)
  obtain ⟨x1, x2, x3, x4, x5⟩ := v 17 (by decide) (by decide) (by omega)
  unfold KC DC at *
  rw [a1, a5, b1, b3, b5, c1, c2, m1, m2, n1, n2, o1, o3, o5, p1, p2, q1, q2, s1, s2, t1, t3, t5, u1, u2, w1, w2, x1, x2]
  exact g
end FRM
