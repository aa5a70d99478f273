set_option maxRecDepth 10000
def CO (h : AH) : Prop := CON h ∧ ∀ k, k < 12 → hp_c h k < hp_z h
theorem CO.fr {A : Nat → Nat} {R : Nat → Prop} {h h1 : AH} (C : CO h) (f : fr A R h h1) : CO h1 := ⟨C.1.fr f, fun k hk => by rw [f.2.2.1]; have := C.2 k hk; have := f.2.1; omega⟩
/-- the component is in state s, the model in state t -/
def WD (A : Nat → Nat) (s t : SG) (h : AH) : Prop := AI A h ∧ CO h ∧ CP A s h ∧ MW A t h
/-- what is plainly true of a state at command i -/
def PI (i : Nat) (s : SG) : Prop := q_tn s ≤ 20 * i ∧ q_cn s ≤ i ∧ q_cf s 0 = 0 ∧ (∀ c, c < q_cn s → q_cf s (c + 1) = q_cf s c + q_cl s c ∧ q_co s c < q_kc s ∧ q_cl s c ≤ 23000) ∧ q_cf s (q_cn s) ≤ 262144 ∧ q_jd s ≤ i ∧ q_ps s ≤ i ∧ q_wn s ≤ 8 ∧ q_aq s ≤ 16
/-- the room that was used -/
def RO (i Z : Nat) (s : SG) (h : AH) : Prop := hp_t h = Z + 601024 ∧ hp_z h ≤ Z + 300 + 60 * i + (q_W1 s + q_W2 s) / 512 + q_TN s / 256 + (q_LH s + q_LR s + q_LA s) / 5 ∧ hp_s h ≤ 800000 + 2500 * i + q_cf s (q_cn s) + 2 * (q_W1 s + q_W2 s) + 2 * q_TN s + 4 * (q_LH s + q_LR s + q_LA s)
def INV (i Z : Nat) (A : Nat → Nat) (s : SG) (h : AH) : Prop := WD A s s h ∧ PI i s ∧ RO i Z s h ∧ i ≤ 512
def ro (h h1 : AH) : Prop := ∀ a, 106 ≤ hp_k h a → vw h h1 a
theorem ro.tr {h h1 h2 : AH} (f : ro h h1) (g : ro h1 h2) : ro h h2 := fun a ha => by
  obtain ⟨x1, x2, x3, x4, x5⟩ := f a ha
  obtain ⟨y1, y2, y3, y4, y5⟩ := g a (by rw [x1]; exact ha)
  exact ⟨y1.trans x1, y2.trans x2, y3.trans x3, y4.trans x4, y5.trans x5⟩
theorem ro.rf {h : AH} : ro h h := fun _ _ => ⟨rfl, rfl, rfl, rfl, rfl⟩
/-- behind the component's command -/
def PO (i Z : Nat) (A : Nat → Nat) (h : AH) (A' : Nat → Nat) (s' s : SG) (h1 : AH) : Prop := WD A' s' s h1 ∧ RO (i + 1) Z s' h1 ∧ A' 0 = A 0 ∧ A' 40 = A 40 ∧ A' 37 = A 37 ∧ ro h h1
section ALL
variable {A A' : Nat → Nat} {s t : SG} {h h1 : AH} {R P : Nat → Prop}
theorem fr.rf : fr A R h h := ⟨fun _ _ _ => ⟨rfl, rfl, rfl, rfl, rfl⟩, Nat.le_refl _, rfl, rfl, fun _ _ => ⟨rfl, rfl, rfl, rfl, rfl⟩⟩
theorem fr.ofm {S : Nat → Nat → Prop} (a : AI A h) (F : fm S h h1) (hS : ∀ x j, S x j → hp_k h x ≠ 0 → hp_k h x < 106 ∧ ∃ i, R i ∧ x = A i) : fr A R h h1 := fr.of a (F.fa (dz := 0) (ds := 0)) hS
/-- all parts of the component, where they stand -/
theorem CP.all (g : CP A s h) (C : CON h) (f : fr A R h h1) (a : As P A A') (hP : ∀ i, P i → R i) : (¬ R 0 → gX A' s h1) ∧ (¬ R 1 → ¬ R 2 → gT A' s h1) ∧ (¬ R 3 → ¬ R 4 → gH A' s h1) ∧ (¬ R 5 → (∀ k, k < q_kc s → ¬ R (100 + k)) → gK A' s h1) ∧ (¬ R 6 → ¬ R 7 → (∀ k, k < q_cn s → ¬ R (1000 + 2 * k) ∧ ¬ R (1001 + 2 * k)) → gB A' s h1) ∧ ((∀ i, 8 ≤ i → i ≤ 21 → ¬ R i) → KC A' h1) ∧ (¬ R 22 → ¬ R 27 → gP A' s h1) ∧ (¬ R 23 → ¬ R 24 → (∀ k, k < q_rc s → ¬ R (300 + 2 * k) ∧ ¬ R (301 + 2 * k)) → gR A' s h1) ∧ (¬ R 25 → ¬ R 26 → (∀ k, k < q_ac s → ¬ R (340 + 2 * k) ∧ ¬ R (341 + 2 * k)) → (∀ k, k < q_cn s → ¬ P (1001 + 2 * k)) → gA A' s h1) ∧ (¬ R 28 → ¬ R 29 → gC A' h1 28 29) ∧ (¬ R 30 → ¬ R 31 → ¬ R 32 → ¬ R 34 → ¬ R 35 → gI A' s h1) ∧ (¬ R 36 → ¬ R 37 → gW A' s h1) := by
  have C1 := C.fr f
  have p : ∀ {i}, ¬ R i → ¬ P i := fun h q => h (hP _ q)
  obtain ⟨g1, g2, g3, g4, g5, g6, g7, g8, g9, g10, g11, g12⟩ := g
  exact ⟨fun r => (g1.fr f r).as a, fun r r2 => (g2.fr f r r2).as a (p r2), fun r r2 => (g3.fr f r r2).as a, fun r r2 => (g4.fr f r r2).as a (fun k hk => p (r2 k hk)), fun r r2 r3 => (g5.fr C C1 f r r2 r3).as a (p r2) (fun k hk => ⟨p (r3 k hk).1, p (r3 k hk).2⟩), fun r => (g6.fr f r).as a, fun r r2 => (g7.fr f r r2).as a, fun r r2 r3 => (g8.fr C C1 f r r2 r3).as a (p r2) (fun k hk => ⟨p (r3 k hk).1, p (r3 k hk).2⟩), fun r r2 r3 r4 => (g9.fr C C1 f r r2 r3).as a (p r2) (fun k hk => ⟨p (r3 k hk).1, p (r3 k hk).2⟩) r4, fun r r2 => (g10.fr f r r2).as a (p r) (p r2), fun r r2 r3 r4 r5 => (g11.fr f r r2 r3 r4 r5).as a (p r3) (p r5), fun r r2 => (g12.fr f r r2).as a⟩
theorem As.rf : As (fun _ => False) A A := ⟨fun _ _ => rfl, fun _ _ q => q.elim⟩
theorem WD.fr0 (w : WD A s t h) (f : fr A (fun _ => False) h h1) : WD A s t h1 := ⟨w.1.fr f, w.2.1.fr f, w.2.2.1.mfr w.2.1.1 f (fun _ q => q.elim), w.2.2.2.fr f (fun _ _ _ q => q)⟩
/-- the model wrote -/
theorem WD.mfr (w : WD A s t h) (f : fr A R h h1) (r : ∀ i, R i → 40 ≤ i ∧ i ≤ 60) {t' : SG} (m : MW A t' h1) : WD A s t' h1 := ⟨w.1.fr f, w.2.1.fr f, w.2.2.1.mfr w.2.1.1 f r, m⟩
theorem RO.room {i Z : Nat} (r : RO i Z s h) (hi : i < 520) (g : gI A s h) (gt : gT A s h) (h1 : q_cf s (q_cn s) ≤ 262144) (l1 : q_LH s ≤ 2000) (l2 : q_LR s ≤ 2000) (l3 : q_LA s ≤ 2000) : rm h 100000 2500000 := by
  obtain ⟨r1, r2, r3⟩ := r
  have w1 := g.2.2.2.2.2.2.2.1
  have w2 := g.2.2.2.2.2.2.2.2.2.2.2.2.2
  have t1 := gt.2.2.2.2.2.2.2.1
  unfold rm
  omega
theorem INV.room {i Z : Nat} (I : INV i Z A s h) : rm h 100000 2500000 := by
  obtain ⟨⟨-, -, ⟨-, gt, -, -, gb, -, -, gr, ga, -, gi, -⟩, -⟩, p, r, hi⟩ := I
  obtain ⟨e1, b1, -⟩ := gb.1
  obtain ⟨e2, b2, -⟩ := gr.1
  obtain ⟨e3, b3, -⟩ := ga.1
  exact r.room (by omega) gi gt p.2.2.2.2.1 b1.2.2.2.2.2.1 b2.2.2.2.2.2.1 b3.2.2.2.2.2.1
/-- an exception was made -/
theorem PO.ex {i Z K : Nat} (I : INV i Z A s h) (w : fx_wf h) : PO i Z A h A s s (up_N h K 0 6) := by
  have F : fa (fun _ _ => False) 1 6 h (up_N h K 0 6) := fa.N w
  have f : fr A (fun _ => False) h (up_N h K 0 6) := fr.of I.1.1 F (fun _ _ q => q.elim)
  obtain ⟨r1, r2, r3⟩ := I.2.2.1
  refine ⟨I.1.fr0 f, ⟨r1, ?_, ?_⟩, rfl, rfl, rfl, f.2.2.2.2⟩
  · rw [rzN]; omega
  · rw [rsN]; omega
/-- the law keeps the answer -/
theorem PO.out {i Z : Nat} {s' : SG} {v : Int64} (p : PO i Z A h A' s' s h1) : PO i Z A h A' s' s (up_L h1 (A 37) 0 v) ∧ hp_L (up_L h1 (A 37) 0 v) (A 37) 0 = v := by
  obtain ⟨w, r, a0, a40, a37, o⟩ := p
  have k37 := w.2.2.1.2.2.2.2.2.2.2.2.2.2.2.2.2.2.2.1
  rw [← a37]
  have F : fm (fun x _ => x = A' 37) h1 (up_L h1 (A' 37) 0 v) := fm.L rfl
  have f : fr A' (fun i => i = 37) h1 (up_L h1 (A' 37) 0 v) := fr.ofm w.1 F (fun x j e hk => ⟨by rw [e, k37]; decide, 37, rfl, e⟩)
  obtain ⟨c1, c2, c3, c4, c5, c6, c7, c8, c9, c10, c11, -⟩ := w.2.2.1.all w.2.1.1 f As.rf (fun _ q => q.elim)
  have c12 : gW A' s' (up_L h1 (A' 37) 0 v) := w.2.2.1.2.2.2.2.2.2.2.2.2.2.2
  refine ⟨⟨⟨w.1.fr f, w.2.1.fr f, ⟨c1 (by decide), c2 (by decide) (by decide), c3 (by decide) (by decide), c4 (by decide) (fun k _ => by omega), c5 (by decide) (by decide) (fun k _ => by omega), c6 (fun i _ _ => by omega), c7 (by decide) (by decide), c8 (by decide) (by decide) (fun k _ => by omega), c9 (by decide) (by decide) (fun k _ => by omega) (fun _ _ q => q), c10 (by decide) (by decide), c11 (by decide) (by decide) (by decide) (by decide) (by decide), c12⟩, w.2.2.2.fr f (fun i h1 h2 => by omega)⟩, r, a0, a40, a37, o.tr f.2.2.2.2⟩, rL1⟩
end ALL
/-- comparing ints with naturals -/
theorem nat_of {x : Int32} (h : ¬ x < 0) : ∃ n, n < 2 ^ 31 ∧ x = nI n := by
  refine ⟨x.toInt.toNat, ?_, ?_⟩
  · have := Int32.toInt_lt x
    omega
  · apply Int32.toInt_inj.mp
    have h1 := Int32.toInt_lt x
    have h2 : 0 ≤ x.toInt := by
      rw [Int32.lt_iff_toInt_lt] at h
      simpa using h
    rw [nI_toInt (by omega)]
    omega
