set_option maxRecDepth 10000
/-! the model's fields against the ints of a certificate: F k lies at mo k -/
def mo (k : Nat) : Nat := if k = 18 then 25 else if k = 19 then 26 else if k = 21 then 27 else if k = 22 then 28 else if k = 23 then 29 else if k = 24 then 42 else if k = 25 then 43 else 30
def MV (h : AH) (m : Nat) (F : Nat → Int32) : Prop := ∀ k, 18 ≤ k → k ≤ 26 → k ≠ 20 → hp_I h m (mo k) = F k
/-- at a, not bad, fields as F; the rest of the model's reading stands -/
def MX (h h1 : AH) (m x a : Nat) (F : Nat → Int32) : Prop := MF h h1 m x ∧ hp_I h1 m 20 = nI a ∧ hp_I h1 m 21 = 0 ∧ MV h1 m F ∧ (∀ j, 31 ≤ j → j ≤ 41 → hp_I h1 m j = hp_I h m j) ∧ hp_L h1 m = hp_L h m ∧ hp_I h1 x = hp_I h x ∧ hp_I h1 m 45 = hp_I h m 45
theorem mo_ne : ∀ k, 18 ≤ k → k ≤ 26 → k ≠ 20 → 25 ≤ mo k ∧ mo k ≤ 43 ∧ (mo k < 31 ∨ 41 < mo k) := by
  intro k h1 h2 h3
  unfold mo
  repeat' split
  all_goals omega
theorem mo_inj {k k' : Nat} (h1 : 18 ≤ k) (h2 : k ≤ 26) (h3 : k ≠ 20) (h4 : 18 ≤ k') (h5 : k' ≤ 26) (h6 : k' ≠ 20) (h : mo k = mo k') : k = k' := by
  unfold mo at h
  repeat' split at h
  all_goals omega
theorem MX.rf {h : AH} {m x a : Nat} {F : Nat → Int32} (hat : hp_I h m 20 = nI a) (hbad : hp_I h m 21 = 0) (V : MV h m F) : MX h h m x a F := ⟨MF.rf, hat, hbad, V, fun _ _ _ => rfl, rfl, rfl, rfl⟩
theorem MX.tr {h h1 h2 : AH} {m x a a' : Nat} {F F' : Nat → Int32} (X : MX h h1 m x a F) (Y : MX h1 h2 m x a' F') : MX h h2 m x a' F' := by
  obtain ⟨x1, x2, x3, x4, x5, x6, x7, x8⟩ := X
  obtain ⟨y1, y2, y3, y4, y5, y6, y7, y8⟩ := Y
  exact ⟨x1.tr y1, y2, y3, y4, fun j a b => (y5 j a b).trans (x5 j a b), y6.trans x6, y7.trans x7, y8.trans x8⟩
theorem rIrow {h : AH} {a i x : Nat} {v : Int32} (hx : x ≠ a) : hp_I (up_I h a i v) x = hp_I h x := funext fun j => rI2 hx
theorem MX.at {h h1 : AH} {m x a : Nat} {F : Nat → Int32} (X : MX h h1 m x a F) (hx : x ≠ m) (a' : Nat) : MX h (up_I h1 m 20 (nI a')) m x a' F := by
  obtain ⟨x1, x2, x3, x4, x5, x6, x7, x8⟩ := X
  refine ⟨x1.I, rI1, by rw [rI3 (by decide)]; exact x3, fun k a b c => ?_, fun j a b => ?_, x6, ?_, ?_⟩
  · have := mo_ne k a b c
    rw [rI3 (by omega)]; exact x4 k a b c
  · rw [rI3 (by omega)]; exact x5 j a b
  · rw [rIrow hx]; exact x7
  · rw [rI3 (by decide)]; exact x8
theorem MX.set {h h1 : AH} {m x a : Nat} {F : Nat → Int32} {v : Int32} (X : MX h h1 m x a F) (hx : x ≠ m) (k : Nat) (h1' : 18 ≤ k := by decide) (h2 : k ≤ 26 := by decide) (h3 : k ≠ 20 := by decide) : MX h (up_I h1 m (mo k) v) m x a (up F k v) := by
  obtain ⟨x1, x2, x3, x4, x5, x6, x7, x8⟩ := X
  have e := mo_ne k h1' h2 h3
  refine ⟨x1.I (by omega) (by omega) (by omega), by rw [rI3 (by omega)]; exact x2, by rw [rI3 (by omega)]; exact x3, fun k' a b c => ?_, fun j a b => ?_, x6, ?_, ?_⟩
  · unfold up
    by_cases hk : k' = k
    · subst hk; rw [if_pos rfl, rI1]
    · rw [if_neg hk, rI3 (fun q => hk (mo_inj a b c h1' h2 h3 q))]; exact x4 k' a b c
  · rw [rI3 (by omega)]; exact x5 j a b
  · rw [rIrow hx]; exact x7
  · rw [rI3 (by omega)]; exact x8
theorem ME.xm {h : AH} {m st x bs n : Nat} {g : Nat → Nat} (K : ME h m st x bs n g) : x ≠ m := by
  obtain ⟨k1, k2, k3, k4, k5, k6, k7, k8, k9, k10, k11⟩ := K
  rintro rfl
  omega
theorem c146_bad {Q : AH → Prop} {h h1 : AH} {m x : Nat} {x2 : Int32} (hm : hp_k h m = 13) (hb : MB h h1 m x) (k : ∀ h2, MB h h2 m x → Q h2) : m_M_constraints_146 Q m x2 h1 := by
  refine ⟨hb.k hm, fun _ => k _ hb, fun c => ?_⟩
  rw [hb.2] at c
  exact absurd c (by decide)
theorem c122_bad {Q : AH → Prop} {h h1 : AH} {m x : Nat} {x2 x3 : Int32} (hm : hp_k h m = 13) (hb : MB h h1 m x) (k : ∀ h2, MB h h2 m x → Q h2) : m_M_constraints_122 Q m x2 x3 h1 := by
  refine ⟨hb.k hm, fun _ => ⟨hb.k hm, ?_⟩, fun c => ?_⟩
  · rintro _ rfl
    exact c146_bad hm hb.at k
  · rw [hb.2] at c
    exact absurd c (by decide)
theorem MB.set {h h1 : AH} {m x j : Nat} {v : Int32} (a : MB h h1 m x) (h1' : 22 < j := by decide) (h2 : j ≤ 45 := by decide) : MB h (up_I h1 m j v) m x := ⟨a.1.I (by omega) h2 (by omega), by rw [rI3 (by omega)]; exact a.2⟩
/-- truth in a bad state -/
theorem s_MtruthB {Q : AH → Prop} {h : AH} {m : Nat} {e : Int32} (hm : hp_k h m = 13) (hb : hp_I h m 21 = 1) (k : Q (up_I h m 21 1)) : m_M_truth Q m e h := by
  refine ⟨hm, s_openB hm hb (fun _ => ⟨fun _ => ⟨hm, fun _ => k, fun c => ?_⟩, fun c => ?_⟩)⟩
  · rw [rI1] at c; exact absurd c (by decide)
  · rw [rI1] at c; exact absurd c (by decide)
theorem up_same {F : Nat → Int32} {j : Nat} {v : Int32} (h : F j = v) : up F j v = F := by
  funext i
  unfold up
  split
  · rename_i e; rw [e, h]
  · rfl
theorem s_Mcons {Q : AH → Prop} {h : AH} {m st x bs n a e : Nat} {g : Nat → Nat} {F : Nat → Int32} (K : ME h m st x bs n g) (hat : hp_I h m 20 = nI a) (hbad : hp_I h m 21 = 0) (he : e ≤ n) (ha : a ≤ n) (V : MV h m F) (h18 : F 18 = 0) (kB : (∀ F', d_cons g a e F ≠ some (e, F')) → ∀ h1, MB h h1 m x → Q h1) (kQ : ∀ F', d_cons g a e F = some (e, F') → ∀ h1, MX h h1 m x e F' → Q h1) : m_M_constraints Q m (nI e) h := by
  have k5 := K.2.2.2.2.1
  have hg := K.2.2.2.2.2.2.2.1
  have hxm := K.xm
  have Y0 : MX h h m x a F := MX.rf hat hbad V
  generalize hp : d_cons g a e F = P at kB kQ
  unfold d_cons at hp
  refine ⟨K.1, s_open K hat hbad he ha (by decide) (fun hd h1 hb _ => ⟨fun c => ?_, fun _ => kB (fun F' q => ?_) h1 hb⟩) (fun f t hd _ => ?_)⟩
  · rw [hb.2] at c; exact absurd c (by decide)
  · rw [← hp, hd] at q; cases q
  have l1 := d_in_le hd
  rw [hd] at hp
  simp only [Option.bind_some] at hp
  have Y1 := Y0.at hxm f
  generalize up_I h m 20 (nI f) = h1 at Y1 ⊢
  have X1 := Y1.1
  have a1 := Y1.2.1
  have b1 := Y1.2.2.1
  have K1 := K.mf X1
  refine ⟨fun _ => ?_, fun c => absurd b1 c⟩
  rw [nI_eq (by omega) (by omega)]
  refine ⟨fun c1 => ⟨K1.1, s_need0 K1.1 (fun _ => ?_)⟩, fun c1 => ⟨K1.1, s_need1 (fun _ => ⟨K1.1, ?_⟩)⟩⟩
  · have bB : MB h (up_I h1 m 21 1) m x := MB.of X1
    have aB : hp_I (up_I h1 m 21 1) m 20 = nI f := by rw [rI3 (by decide)]; exact a1
    have q := kB (fun F' q => by
      rw [← hp] at q
      cases h2 : d_truth g f t with
      | none => rw [h2] at q; cases q
      | some w =>
        rw [h2] at q
        simp only [Option.bind_some] at q
        split at q
        · cases h3 : d_in g 2 w.2 t with
          | none => rw [h3] at q; cases q
          | some v =>
            rw [h3] at q
            simp only [Option.bind_some] at q
            split at q
            · cases q; omega
            · cases q
        · split at q
          · cases q; omega
          · cases q)
    generalize up_I h1 m 21 1 = h2 at bB aB ⊢
    have K2 := K.mf bB.1
    rw [aB, nI_leI (by omega) (by omega)]
    refine ⟨K2.1, fun c2 => c146_bad K.1 bB q, fun c2 => s_here K2 (by omega) (fun _ => ⟨fun _ => c146_bad K.1 bB q, fun _ => s_MtruthB K2.1 bB.2 (fun _ => ?_)⟩)⟩
    rintro _ rfl
    have b3 := (bB.bad).set (j := 25) (v := 1)
    exact ⟨fun _ => c146_bad K.1 b3 q, fun c => by rw [b3.2] at c; exact absurd c (by decide)⟩
  subst c1
  rw [a1, nI_leI (by omega) (by omega)]
  have fin : ∀ F' a' h2, a' ≤ t → MX h h2 m x a' F' → (∀ F'', P = some (t, F'') → a' = t ∧ F'' = F') → (a' = t → P = some (t, F')) → m_M_constraints_146 Q m (nI t) h2 := fun F' a' h2 ht Y q1 q2 => by
    have K2 := K.mf Y.1
    refine ⟨K2.1, fun c => absurd Y.2.2.1 c, fun _ => ?_⟩
    rw [Y.2.1, nI_eq (by omega) (by omega)]
    refine ⟨fun c2 => ⟨K2.1, s_need0 K2.1 (fun _ => kB (fun F'' q => c2 (q1 F'' q).1) _ (MB.of Y.1))⟩, fun c2 => ⟨K2.1, s_need1 (fun _ => ?_)⟩⟩
    subst c2
    exact kQ F' (q2 rfl) h2 Y
  have noT : ¬ (f < t ∧ g f = 1) → m_M_constraints_146 Q m (nI t) h1 := fun hn => by
    have e1 : d_truth g f t = some (false, f) := by unfold d_truth; rw [if_neg hn]
    rw [e1] at hp
    simp only [Option.bind_some, Bool.false_eq_true, false_and, if_false] at hp
    rw [up_same h18] at hp
    refine fin F f h1 (by omega) Y1 (fun F'' q => ?_) (fun q => ?_)
    · rw [← hp] at q
      split at q
      · cases q; exact ⟨by assumption, rfl⟩
      · cases q
    · rw [← hp, if_pos q]
  refine ⟨fun c2 => noT (by omega), fun c2 => s_here K1 (by omega) (fun _ => ?_)⟩
  rw [show (1 : Int32) = nI 1 from rfl, nI_eq (by have := hg f (by omega); omega) (by omega)]
  refine ⟨fun c3 => noT (fun q => c3 q.2), fun c3 => ?_⟩
  refine s_Mtruth K1 a1 b1 (by omega) (by omega) c3 (fun hd h2 hb _ => ?_) (fun t1 hd _ => ?_)
  · rintro _ rfl
    have hb2 := (hb.pre X1).set (j := 25) (v := nI 1)
    refine ⟨fun _ => c146_bad K.1 hb2 (kB (fun F' q => ?_)), fun c => ?_⟩
    · rw [← hp, hd] at q; cases q
    · rw [hb2.2] at c; exact absurd c (by decide)
  have l2 := d_truth_le hd
  rw [hd] at hp
  simp only [Option.bind_some, true_and, if_true] at hp
  rintro _ rfl
  have Y2 := (Y1.at hxm t1).set hxm 18 (v := nI 1)
  rw [show mo 18 = 25 from rfl] at Y2
  generalize up_I (up_I h1 m 20 (nI t1)) m 25 (nI 1) = h2 at Y2 ⊢
  have X2 := Y2.1
  have a2 := Y2.2.1
  have b2 := Y2.2.2.1
  have K2 := K.mf X2
  refine ⟨fun c => absurd b2 c, fun _ => ?_⟩
  rw [a2, nI_leI (by omega) (by omega)]
  refine ⟨fun c4 => ?_, fun c4 => ?_⟩
  · rw [if_neg (by omega), if_pos (by omega)] at hp
    exact fin _ t1 h2 (by omega) Y2 (fun F'' q => by rw [← hp] at q; cases q; exact ⟨by omega, rfl⟩) (fun _ => hp.symm)
  rw [if_pos (by omega)] at hp
  refine s_open K2 a2 b2 (by omega) (by omega) (by decide) (fun hd h3 hb _ => ⟨fun _ => c122_bad K.1 (hb.pre X2) (kB (fun F' q => ?_)), fun c => ?_⟩) (fun v0 v1 hd _ => ?_)
  · rw [← hp, hd] at q; cases q
  · rw [hb.2] at c; exact absurd c (by decide)
  have l3 := d_in_le hd
  rw [hd] at hp
  simp only [Option.bind_some] at hp
  have Y3 := Y2.at hxm v0
  generalize up_I h2 m 20 (nI v0) = h3 at Y3 ⊢
  have X3 := Y3.1
  have a3 := Y3.2.1
  have b3 := Y3.2.2.1
  have K3 := K.mf X3
  refine ⟨fun c => absurd b3 c, fun _ => ?_⟩
  have neg : ¬ (v1 - v0 = 1 ∧ g v0 < 128) → m_M_constraints_118 Q m (nI t) (nI v1) m h3 := fun hn => ⟨K3.1, s_need0 K3.1 (fun _ => c122_bad K.1 (MB.of X3) (kB (fun F' q => by
    rw [← hp] at q
    split at q
    · rename_i z; exact hn ⟨z.1, z.2.1⟩
    · cases q)))⟩
  rw [a3, nI_sub (by omega), nI_eq (by omega) (by omega)]
  refine ⟨fun c5 => neg (fun q => c5 q.1), fun c5 => s_here K3 (by omega) (fun _ => ?_)⟩
  have hgv := hg v0 (by omega)
  rw [show (128 : Int32) = nI 128 from rfl, nI_leI (by omega) (by omega)]
  refine ⟨fun c6 => neg (by omega), fun c6 => ⟨K3.1, s_need1 (fun _ => ⟨K3.1, fun c => absurd b3 c, fun _ => ?_⟩)⟩⟩
  rw [a3]
  refine s_here K3 (by omega) (fun _ => ?_)
  rintro _ rfl
  refine ⟨K3.1, ?_⟩
  rintro _ rfl
  have Y4 := (Y3.set hxm 21 (v := nI (g v0))).at hxm v1
  rw [show mo 21 = 27 from rfl] at Y4
  refine fin _ v1 _ (by omega) Y4 (fun F'' q => ?_) (fun q => ?_)
  · rw [← hp] at q
    split at q
    · cases q; rename_i z; exact ⟨z.2.2, rfl⟩
    · cases q
  · rw [← hp, if_pos ⟨c5, by omega, q⟩]; rfl
