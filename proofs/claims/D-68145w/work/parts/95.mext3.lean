set_option maxRecDepth 10000
/-! which ints an extension may write -/
def Kp (w : Nat) (F F' : Nat → Int32) : Prop := ∀ j, (j < 18 ∨ j = 20 ∨ 27 ≤ j ∨ (j = 18 ∧ w ≠ 1)) → F' j = F j
theorem Kp.rf {w : Nat} {F : Nat → Int32} : Kp w F F := fun _ _ => rfl
theorem Kp.set {w j : Nat} {v : Int32} {F F' : Nat → Int32} (h : Kp w F F') (hj : (19 ≤ j ∧ j ≤ 26 ∧ j ≠ 20) ∨ (j = 18 ∧ w = 1)) : Kp w F (up F' j v) := fun i hi => by
  unfold up
  rw [if_neg (by omega)]
  exact h i hi
theorem d_hsl_k {g : Nat → Nat} {e w : Nat} {F : Nat → Int32} : ∀ {k a : Nat} {F1 : Nat → Int32} {q : Nat × (Nat → Int32)}, d_hsl g e k a F1 = some q → Kp w F F1 → Kp w F q.2
  | 0, _, _, _, h, _ => by cases h
  | k + 1, a, F1, q, h, hK => by
    simp only [d_hsl] at h
    split at h
    · split at h
      · cases h1 : d_in g (g a) a e with
        | none => rw [h1] at h; cases h
        | some p =>
        rw [h1] at h
        simp only [Option.bind_some] at h
        split at h
        · split at h
          · cases h
          · exact d_hsl_k h (hK.set (by omega))
        · exact d_hsl_k h hK
      · cases h
    · cases h
      exact hK
theorem d_ppl_k {g : Nat → Nat} {e w : Nat} {F : Nat → Int32} : ∀ {k a : Nat} {F1 : Nat → Int32} {q : Nat × (Nat → Int32)}, d_ppl g e k a F1 = some q → Kp w F F1 → Kp w F q.2
  | 0, _, _, _, h, _ => by cases h
  | k + 1, a, F1, q, h, hK => by
    simp only [d_ppl] at h
    split at h
    · cases h1 : d_oid g a e with
      | none => rw [h1] at h; cases h
      | some p =>
      rw [h1] at h
      simp only [Option.bind_some] at h
      refine d_ppl_k h ?_
      unfold d_ppu
      split
      · refine Kp.set ?_ (by omega)
        split
        · exact hK.set (by omega)
        · exact hK
      · split
        · exact hK.set (by omega)
        · exact hK
    · cases h
      exact hK
theorem d_exw_k {g : Nat → Nat} {w : Nat} {v : Nat × Nat} {crit : Bool} {F : Nat → Int32} {r : Nat × (Nat → Int32)} (h : d_exw g w v crit F = some r) : Kp w F r.2 := by
  unfold d_exw at h
  split at h
  · rename_i hw
    unfold d_cons at h
    cases h1 : d_in g 48 v.1 v.2 with
    | none => rw [h1] at h; cases h
    | some p =>
    rw [h1] at h
    simp only [Option.bind_some] at h
    cases h2 : d_truth g p.1 p.2 with
    | none => rw [h2] at h; cases h
    | some t =>
    rw [h2] at h
    simp only [Option.bind_some] at h
    split at h
    · cases h3 : d_in g 2 t.2 p.2 with
      | none => rw [h3] at h; cases h
      | some v =>
      rw [h3] at h
      simp only [Option.bind_some] at h
      split at h
      · cases h; exact (Kp.rf.set (by omega)).set (by omega)
      · cases h
    · split at h
      · cases h; exact Kp.rf.set (by omega)
      · cases h
  split at h
  · unfold d_usage at h
    cases h1 : d_in g 3 v.1 v.2 with
    | none => rw [h1] at h; cases h
    | some p =>
    rw [h1] at h
    simp only [Option.bind_some] at h
    split at h
    · cases h; exact Kp.rf.set (by omega)
    · cases h
  split at h
  · unfold d_hosts at h
    cases h1 : d_in g 48 v.1 v.2 with
    | none => rw [h1] at h; cases h
    | some p =>
    rw [h1] at h
    simp only [Option.bind_some] at h
    split at h
    · cases h
    · exact d_hsl_k h ((Kp.rf.set (by omega)).set (by omega))
  split at h
  · unfold d_purp at h
    cases h1 : d_in g 48 v.1 v.2 with
    | none => rw [h1] at h; cases h
    | some p =>
    rw [h1] at h
    simp only [Option.bind_some] at h
    split at h
    · cases h
    · exact d_ppl_k h (Kp.rf.set (by omega))
  · cases h
    split
    · exact Kp.rf.set (by omega)
    · exact Kp.rf
theorem d_ex2_k {g : Nat → Nat} {w a e z : Nat} {F F' : Nat → Int32} (h : d_ex2 g w a e F = some (z, F')) : Kp w F F' := by
  unfold d_ex2 at h
  cases h1 : d_truth g a e with
  | none => rw [h1] at h; cases h
  | some t =>
  rw [h1] at h
  simp only [Option.bind_some] at h
  cases h2 : d_in g 4 t.2 e with
  | none => rw [h2] at h; cases h
  | some v =>
  rw [h2] at h
  simp only [Option.bind_some] at h
  cases h3 : d_exw g w v t.1 F with
  | none => rw [h3] at h; cases h
  | some r =>
  rw [h3] at h
  simp only [Option.bind_some] at h
  split at h
  · cases h; exact d_exw_k h3
  · cases h
theorem d_ext_k {g : Nat → Nat} {a e z : Nat} {os : List (Nat × Nat)} {o : Nat × Nat} {F F' : Nat → Int32} (h : d_ext g a e os F = some (z, o, F')) : Kp (d_which g o) F F' ∧ z ≤ e ∧ a + 5 ≤ z := by
  obtain ⟨p, h1, h2, h3⟩ := d_ext_in h
  have l := d_in_le (a' := p.1) (e' := p.2) h1
  have l2 := d_oid_hd (f := o.1) (t := o.2) h2
  refine ⟨?_, by omega, by omega⟩
  unfold d_ext at h
  rw [h1] at h
  simp only [Option.bind_some] at h
  rw [h2] at h
  simp only [Option.bind_some] at h
  split at h
  · cases h
  · cases h4 : d_ex2 g (d_which g o) o.2 p.2 F with
    | none => rw [h4] at h; cases h
    | some r =>
    rw [h4] at h
    simp only [Option.bind_some] at h
    cases h
    exact d_ex2_k h4
theorem d_exl_k {g : Nat → Nat} {e : Nat} {F : Nat → Int32} : ∀ {k a : Nat} {os : List (Nat × Nat)} {F1 : Nat → Int32} {q : Nat × (Nat → Int32)}, d_exl g e k a os F1 = some q → Kp 1 F F1 → Kp 1 F q.2
  | 0, _, _, _, _, h, _ => by cases h
  | k + 1, a, os, F1, q, h, hK => by
    simp only [d_exl] at h
    split at h
    · cases h1 : d_ext g a e os F1 with
      | none => rw [h1] at h; cases h
      | some p =>
      rw [h1] at h
      simp only [Option.bind_some] at h
      obtain ⟨p1, p2, p3⟩ := p
      have := (d_ext_k h1).1
      refine d_exl_k h (fun j hj => ?_)
      rw [← hK j hj]
      exact this j (by omega)
    · cases h
      exact hK
theorem d_which1 {g : Nat → Nat} {q : Nat × Nat} (h : d_which g q = 1) : q.2 - q.1 = 3 ∧ ∀ i, i < 3 → g (q.1 + i) = ko 1 i := by
  unfold d_which at h
  split at h
  · rename_i c
    unfold d_is at c
    rw [Bool.and_eq_true, decide_eq_true_eq, allB_iff] at c
    exact ⟨c.1, fun i hi => by have := c.2 i hi; simpa using this⟩
  · repeat' split at h
    all_goals omega
theorem dup_which {g : Nat → Nat} {os : List (Nat × Nat)} {o t : Nat} (hd : dupB g os o t = false) (hw : d_which g (o, t) = 1) : ∀ q ∈ os, d_which g q ≠ 1 := by
  intro q hq hw2
  have h1 := d_which1 hw
  have h2 := d_which1 hw2
  simp only at h1
  have : dupo g o t q = true := by
    unfold dupo
    rw [Bool.and_eq_true, decide_eq_true_eq, allB_iff]
    refine ⟨by omega, fun i hi => ?_⟩
    simp only [Nat.zero_add, beq_iff_eq]
    rw [h2.2 i (by omega), h1.2 i (by omega)]
  have h3 : dupB g os o t = true := by
    unfold dupB
    rw [List.any_eq_true]
    exact ⟨q, hq, this⟩
  rw [hd] at h3
  cases h3
/-- like MX, with the list of the extensions -/
def MZ (h h1 : AH) (m x a : Nat) (F : Nat → Int32) (g : Nat → Nat) (os : List (Nat × Nat)) : Prop := MF h h1 m x ∧ hp_I h1 m 20 = nI a ∧ hp_I h1 m 21 = 0 ∧ MV h1 m F ∧ (∀ j, 31 ≤ j → j ≤ 41 → hp_I h1 m j = hp_I h m j) ∧ hp_L h1 m = hp_L h m ∧ EXT h1 m x g os a
theorem EXT.of {h h1 : AH} {m x a a' : Nat} {g : Nat → Nat} {os : List (Nat × Nat)} (E : EXT h m x g os a) (h1' : hp_I h1 x = hp_I h x) (h2 : hp_I h1 m 45 = hp_I h m 45) (ha : a ≤ a') : EXT h1 m x g os a' := by
  obtain ⟨e1, e2, e3⟩ := E
  refine ⟨h2.trans e1, fun k q hq => ?_, by omega⟩
  obtain ⟨r1, r2, r3, r4, r5⟩ := e2 k q hq
  exact ⟨by rw [h1']; exact r1, r2, by omega, r4, r5⟩
theorem s_Mext {Q : AH → Prop} {h : AH} {m st x bs n a e : Nat} {os : List (Nat × Nat)} {g : Nat → Nat} {F : Nat → Int32} (K : ME h m st x bs n g) (hat : hp_I h m 20 = nI a) (hbad : hp_I h m 21 = 0) (he : e ≤ n) (ha : a ≤ n) (hN : n ≤ 49990) (V : MV h m F) (EX : EXT h m x g os a) (h18 : (∀ q ∈ os, d_which g q ≠ 1) → F 18 = 0) (kB : d_ext g a e os F = none → ∀ h1, MB h h1 m x → Q h1) (kQ : ∀ z o F', d_ext g a e os F = some (z, o, F') → ∀ h1, MZ h h1 m x z F' g (os ++ [o]) → Q h1) : m_M_extension Q m (nI e) h := by
  have k5 := K.2.2.2.2.1
  have hg := K.2.2.2.2.2.2.2.1
  have hxm := K.xm
  have Y0 : MX h h m x a F := MX.rf hat hbad V
  generalize hp : d_ext g a e os F = P at kB kQ
  unfold d_ext at hp
  refine ⟨K.1, s_open K hat hbad he ha (by decide) (fun hd h1 hb _ => ?_) (fun f t hd _ => ?_)⟩
  · rintro _ rfl
    refine s_MoidB (hb.k K.1) hb.2 (fun _ => ⟨fun c => ?_, fun _ => kB (hp.symm.trans (by rw [hd]; rfl)) _ hb.bad⟩)
    rw [hb.bad.2] at c; exact absurd c (by decide)
  have l1 := d_in_le hd
  rw [hd] at hp
  simp only [Option.bind_some] at hp
  have Y1 := Y0.at hxm f
  generalize up_I h m 20 (nI f) = h1 at Y1 ⊢
  have K1 := K.mf Y1.1
  rw [Y1.2.1]
  rintro _ rfl
  refine s_Moid K1 Y1.2.1 Y1.2.2.1 (by omega) (by omega) (fun hd h2 hb _ => ⟨fun c => ?_, fun _ => kB (hp.symm.trans (by rw [hd]; rfl)) _ (hb.pre Y1.1)⟩) (fun o q ho _ => ?_)
  · rw [hb.2] at c; exact absurd c (by decide)
  have l2 := d_oid_hd ho
  have lb := d_oid_b ho
  rw [ho] at hp
  simp only [Option.bind_some] at hp
  obtain ⟨rfl, l2⟩ := l2
  have Y2 := Y1.at hxm q
  generalize up_I h1 m 20 (nI q) = h2 at Y2 ⊢
  have K2 := K.mf Y2.1
  refine ⟨fun _ => ?_, fun c => absurd Y2.2.2.1 c⟩
  rw [Y2.2.1]
  rintro _ rfl
  have E2 : EXT h2 m x g os a := EX.of Y2.2.2.2.2.2.2.1 Y2.2.2.2.2.2.2.2 (by omega)
  refine s_Mdup K2 Y2.2.2.1 E2 hN (by omega) lb.1 lb.2 (by omega) (by omega) (fun hd h3 hb => kB (hp.symm.trans (by rw [if_pos hd])) h3 (hb.pre Y2.1)) (fun hd => ?_)
  rw [if_neg (by rw [hd]; decide)] at hp
  rintro h3 hh3
  have X3 : MF h2 h3 m x := by
    rw [hh3]
    refine MF.I (MF.tr MF.rf ⟨fm.I (Or.inr rfl), rfl, ?_⟩)
    rw [rI2 hxm.symm]
  have r3 : ∀ j, j ≠ 45 → hp_I h3 m j = hp_I h2 m j := fun j hj => by rw [hh3, rI3 hj, rI2 hxm.symm]
  have a3 : hp_I h3 m 20 = nI q := by rw [r3 20 (by decide)]; exact Y2.2.1
  have b3 : hp_I h3 m 21 = 0 := by rw [r3 21 (by decide)]; exact Y2.2.2.1
  have V3 : MV h3 m F := fun k k1 k2 k3 => by
    have := mo_ne k k1 k2 k3
    rw [r3 _ (by omega)]
    exact Y2.2.2.2.1 k k1 k2 k3
  have E3 : EXT h3 m x g (os ++ [(f + 2, q)]) q := by
    obtain ⟨e1, e2, e3⟩ := E2
    refine ⟨?_, fun k q' hq' => ?_, by simp; omega⟩
    · rw [hh3, rI1]; simp
    · by_cases hk : k < os.length
      · rw [List.getElem?_append_left hk] at hq'
        obtain ⟨r1, r2, r3, r4, r5⟩ := e2 k q' hq'
        refine ⟨?_, r2, by omega, r4, r5⟩
        rw [hh3, rI2 hxm, rI3 (by omega)]
        exact r1
      · have : k = os.length := by
          have := (List.getElem?_eq_some_iff.mp hq').1
          simp at this
          omega
        subst this
        simp at hq'
        subst hq'
        refine ⟨?_, by simp, ?_, ?_, ?_⟩
        · rw [hh3, rI2 hxm, rI1]; rfl
        · simp only
          omega
        · exact lb.1
        · exact lb.2
  have K3 := K2.mf X3
  have w18 : d_which g (f + 2, q) = 1 → F 18 = 0 := fun hw => h18 (dup_which hd hw)
  refine s_Mex2 K3 a3 b3 (by omega) (by omega) V3 (by omega) (by omega) w18 (fun hn h4 hb => kB (hp.symm.trans (by rw [hn]; rfl)) h4 (hb.pre (Y2.1.tr X3))) (fun z F' hz h4 Y4 => ?_)
  have hz2 := d_ex2_e hz
  refine kQ z (f + 2, q) F' (hp.symm.trans (by rw [hz]; rfl)) h4 ⟨(Y2.1.tr X3).tr Y4.1, Y4.2.1, Y4.2.2.1, Y4.2.2.2.1, fun j j1 j2 => ?_, ?_, E3.of Y4.2.2.2.2.2.2.1 Y4.2.2.2.2.2.2.2 (by omega)⟩
  · rw [Y4.2.2.2.2.1 j j1 j2, r3 j (by omega)]
    exact Y2.2.2.2.2.1 j j1 j2
  · rw [Y4.2.2.2.2.2.1]
    refine Eq.trans ?_ Y2.2.2.2.2.2.1
    rw [hh3]
    rfl
/-- the loop over the extensions -/
theorem s_Mexl {Q : AH → Prop} {h : AH} {m st x bs n a e : Nat} {g : Nat → Nat} {F : Nat → Int32} (K : ME h m st x bs n g) (hat : hp_I h m 20 = nI a) (hbad : hp_I h m 21 = 0) (he : e ≤ n) (ha : a ≤ e) (hN : n ≤ 49990) (V : MV h m F) (h45 : hp_I h m 45 = 0) (h18 : F 18 = 0) (kB : d_exl g e (e + 1) a [] F = none → ∀ h1, MB h h1 m x → Q h1) (kQ : ∀ F', d_exl g e (e + 1) a [] F = some (e, F') → ∀ h1, MF h h1 m x → hp_I h1 m 20 = nI e → hp_I h1 m 21 = 0 → MV h1 m F' → (∀ j, 31 ≤ j → j ≤ 41 → hp_I h1 m j = hp_I h m j) → hp_L h1 m = hp_L h m → Q h1) : m_M_body_269 Q m (nI e) h := by
  have k5 := K.2.2.2.2.1
  generalize hW : d_exl g e (e + 1) a [] F = W at kB kQ
  refine ⟨fun s => (MB h s m x ∧ W = none) ∨ (∃ a' F' os k, MZ h s m x a' F' g os ∧ a' ≤ e ∧ e + 1 ≤ k + a' ∧ ((∀ q ∈ os, d_which g q ≠ 1) → F' 18 = 0) ∧ d_exl g e k a' os F' = W), fun s => if hp_I s m 21 = 0 then e + 1 - (hp_I s m 20).toNatClampNeg + 1 else 0, Or.inr ⟨a, F, [], e + 1, ⟨MF.rf, hat, hbad, V, fun _ _ _ => rfl, rfl, h45, fun k q hq => by simp at hq, by simp⟩, ha, by omega, fun _ => h18, hW⟩, ?_⟩
  rintro s (⟨hs, hn⟩ | ⟨a', F', os, k, Z, c1, c2, c3, c4⟩)
  · refine ⟨hs.k K.1, fun _ => kB hn s hs, fun c => ?_⟩
    rw [hs.2] at c
    exact absurd c (by decide)
  obtain ⟨z1, z2, z3, z4, z5, z6, z7⟩ := Z
  have Ks := K.mf z1
  obtain ⟨k', rfl⟩ : ∃ k', k = k' + 1 := ⟨k - 1, by omega⟩
  simp only [d_exl] at c4
  refine ⟨Ks.1, fun c => absurd z3 c, fun _ => ?_⟩
  rw [z2, nI_leI (by omega) (by omega)]
  refine ⟨fun c => ?_, fun c => ?_⟩
  · have : a' = e := by omega
    subst this
    rw [if_neg (by omega)] at c4
    exact kQ F' c4.symm s z1 z2 z3 z4 z5 z6
  rw [if_pos (by omega)] at c4
  refine s_Mext Ks z2 z3 he (by omega) hN z4 z7 c3 (fun hn h1 hb _ => ?_) (fun z o F2 hd h1 Z1 _ => ?_)
  · rw [hn] at c4
    refine ⟨Or.inl ⟨hb.pre z1, c4.symm⟩, ?_⟩
    simp only
    rw [hb.2, if_neg (by decide), if_pos z3]
    omega
  · have hk := d_ext_k hd
    rw [hd] at c4
    simp only [Option.bind_some] at c4
    obtain ⟨y1, y2, y3, y4, y5, y6, y7⟩ := Z1
    refine ⟨Or.inr ⟨z, F2, os ++ [o], k', ⟨z1.tr y1, y2, y3, y4, fun j j1 j2 => (y5 j j1 j2).trans (z5 j j1 j2), y6.trans z6, y7⟩, by omega, by omega, fun hq => ?_, c4⟩, ?_⟩
    · rw [hk.1 18 (Or.inr (Or.inr (Or.inr ⟨rfl, hq o (by simp)⟩)))]
      exact c3 (fun q hq' => hq q (by simp [hq']))
    · simp only
      rw [if_pos y3, if_pos z3, y2, z2, nI_clamp (by omega), nI_clamp (by omega)]
      omega
