set_option maxRecDepth 10000
theorem d_alg_A {g : Nat → Nat} {a e : Nat} : d_alg g a e = (d_in g 48 a e).bind fun p => if algA g p.1 p.2 = true then some p.2 else none := by
  unfold d_alg
  cases h : d_in g 48 a e with
  | none => rfl
  | some p =>
    simp only [Option.bind_some]
    exact alg_eq (by have := d_in_le (a' := p.1) (e' := p.2) h; omega)
theorem s_MalgB {Q : AH → Prop} {h : AH} {m : Nat} {e : Int32} (hm : hp_k h m = 13) (hb : hp_I h m 21 = 1) (k : Q (up_I h m 21 1)) : m_M_algorithm Q m e h := by
  unfold m_M_algorithm
  refine ⟨hm, s_openB hm hb (fun _ => ⟨fun c => ?_, fun _ => k⟩)⟩
  rw [rI1] at c
  exact absurd c (by decide)
theorem s_Malg {Q : AH → Prop} {h : AH} {m st x bs n a e : Nat} {g : Nat → Nat} (K : ME h m st x bs n g) (hat : hp_I h m 20 = nI a) (hbad : hp_I h m 21 = 0) (he : e ≤ n) (ha : a ≤ n) (kB : d_alg g a e = none → ∀ h1, MB h h1 m x → Q h1) (kQ : ∀ t, d_alg g a e = some t → Q (up_I h m 20 (nI t))) : m_M_algorithm Q m (nI e) h := by
  have k5 := K.2.2.2.2.1
  rw [d_alg_A] at kB kQ
  unfold m_M_algorithm
  refine ⟨K.1, s_open K hat hbad he ha (by decide) (fun hd h1 hb _ => ⟨fun c => ?_, fun _ => kB (by rw [hd]; rfl) h1 hb⟩) (fun f t hd _ => ?_)⟩
  · rw [hb.2] at c; exact absurd c (by decide)
  have l1 := d_in_le hd
  rw [hd] at kB kQ
  simp only [Option.bind_some] at kB kQ
  have X1 : MF h (up_I h m 20 (nI f)) m x := MF.rf.I
  have K1 := K.mf X1
  have b1 : hp_I (up_I h m 20 (nI f)) m 21 = 0 := by rw [rI3 (by decide)]; exact hbad
  have a1 : hp_I (up_I h m 20 (nI f)) m 20 = nI f := rI1
  have hu : ∀ v, up_I (up_I h m 20 (nI f)) m 20 v = up_I h m 20 v := fun v => uII
  generalize up_I h m 20 (nI f) = h1 at X1 K1 b1 a1 hu ⊢
  rw [b1, a1]
  refine ⟨fun _ => ?_, fun c => absurd rfl c⟩
  have neg : algA g f t = false → m_M_algorithm_65 Q m (nI t) m h1 := fun hn => by
    refine ⟨K1.1, s_need0 K1.1 (fun _ => ⟨K1.1, ?_⟩)⟩
    rintro _ rfl
    exact kB (by rw [if_neg (by rw [hn]; decide)]) _ (MB.of X1).at
  rw [show (10 : Int32) = nI 10 from rfl, nI_sub (by omega), nI_eq (by omega) (by omega)]
  refine ⟨fun c1 => neg (by unfold algA; rw [decide_eq_false c1]; rfl), fun c1 => ?_⟩
  refine s_stands (o := k0608) (k := 2) K1 (by omega) (by decide) k0608_ok (fun s1 _ _ => ⟨fun c => absurd c (by decide), fun _ => ?_⟩) (fun s1 _ _ => ⟨fun _ => neg (by unfold algA; rw [s1]; simp), fun c => absurd rfl c⟩)
  rw [a1, show (2 : Int32) = nI 2 from rfl, nI_add]
  refine s_stands (o := ko 8) (k := 8) K1 (by omega) (by decide) ko8 (fun s2 _ _ => ⟨fun c => absurd c (by decide), fun _ => ?_⟩) (fun s2 _ _ => ⟨fun _ => neg (by unfold algA; rw [s2]; simp), fun c => absurd rfl c⟩)
  refine ⟨K1.1, s_need1 (fun _ => ⟨K1.1, ?_⟩)⟩
  rintro _ rfl
  rw [hu]
  exact kQ t (by rw [if_pos (by unfold algA; rw [s1, s2, decide_eq_true c1]; rfl)])
theorem s_Mtruth {Q : AH → Prop} {h : AH} {m st x bs n a e : Nat} {g : Nat → Nat} (K : ME h m st x bs n g) (hat : hp_I h m 20 = nI a) (hbad : hp_I h m 21 = 0) (he : e ≤ n) (ha : a < e) (h1g : g a = 1) (kB : d_truth g a e = none → ∀ h1, MB h h1 m x → Q h1) (kQ : ∀ t, d_truth g a e = some (true, t) → Q (up_I h m 20 (nI t))) : m_M_truth Q m (nI e) h := by
  have k5 := K.2.2.2.2.1
  have hg := K.2.2.2.2.2.2.2.1
  have hd0 : d_truth g a e = (d_in g 1 a e).bind fun p => if p.2 - p.1 = 1 ∧ g p.1 = 255 then some (true, p.2) else none := by unfold d_truth; rw [if_pos ⟨ha, h1g⟩]
  rw [hd0] at kB kQ
  unfold m_M_truth
  have bk' : ∀ h1 v, MB h h1 m x → (∀ h2, MB h h2 m x → Q h2) → m_M_truth_47 Q m v h1 := fun h1 v hb hq => by
    unfold m_M_truth_47 m_M_truth_59
    exact ⟨hb.k K.1, fun _ => hq _ hb, fun c => by rw [hb.2] at c; exact absurd c (by decide)⟩
  refine ⟨K.1, s_open K hat hbad he (by omega) (by decide) (fun hd h1 hb _ => ⟨fun _ => bk' h1 _ hb (kB (by rw [hd]; rfl)), fun c => ?_⟩) (fun f t hd _ => ?_)⟩
  · rw [hb.2] at c; exact absurd c (by decide)
  have l1 := d_in_le hd
  rw [hd] at kB kQ
  simp only [Option.bind_some] at kB kQ
  have X1 : MF h (up_I h m 20 (nI f)) m x := MF.rf.I
  have K1 := K.mf X1
  have b1 : hp_I (up_I h m 20 (nI f)) m 21 = 0 := by rw [rI3 (by decide)]; exact hbad
  have a1 : hp_I (up_I h m 20 (nI f)) m 20 = nI f := rI1
  have hu : ∀ v, up_I (up_I h m 20 (nI f)) m 20 v = up_I h m 20 v := fun v => uII
  generalize up_I h m 20 (nI f) = h1 at X1 K1 b1 a1 hu ⊢
  rw [b1, a1]
  refine ⟨fun c => absurd rfl c, fun _ => ?_⟩
  have neg : ¬ (t - f = 1 ∧ g f = 255) → m_M_truth_43 Q m (nI t) m h1 := fun hn => ⟨K1.1, s_need0 K1.1 (fun _ => bk' _ _ (MB.of X1) (kB (by rw [if_neg hn])))⟩
  rw [show (1 : Int32) = nI 1 from rfl, nI_sub (by omega), nI_eq (by omega) (by omega)]
  refine ⟨fun c1 => neg (fun q => c1 q.1), fun c1 => s_here K1 (by omega) (fun _ => ?_)⟩
  have hgf := hg f (by omega)
  rw [show (255 : Int32) = nI 255 from rfl, nI_eq (by omega) (by omega)]
  refine ⟨fun c2 => neg (fun q => c2 q.2), fun c2 => ⟨K1.1, s_need1 (fun _ => ⟨K1.1, fun c => absurd b1 c, fun _ => ?_⟩)⟩⟩
  rintro _ rfl
  rw [hu]
  exact kQ t (by rw [if_pos ⟨c1, c2⟩])
