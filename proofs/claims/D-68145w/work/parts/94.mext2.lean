set_option maxRecDepth 10000
def k551D (i : Nat) : Nat := if i = 0 then 85 else 29
theorem k551D_ok : ∀ i, i < 2 → ((sh_lr (21789 : Int64) (nI (8 * (2 - 1 - i)))) &&& 255).toInt32 = nI (k551D i) ∧ k551D i < 256 := by decide +kernel
theorem ko1234 : ∀ i, i < 2 → ko 1 i = k551D i ∧ ko 2 i = k551D i ∧ ko 3 i = k551D i ∧ ko 4 i = k551D i := by decide +kernel
theorem ko1234b : ko 1 2 = 19 ∧ ko 2 2 = 15 ∧ ko 3 2 = 17 ∧ ko 4 2 = 37 := by decide +kernel
theorem d_is3 {g : Nat → Nat} {w b f t : Nat} (h1 : ∀ i, i < 2 → ko w i = k551D i) (h2 : ko w 2 = b) : d_is g (ko w) 3 f t = (decide (t - f = 3) && (allB (fun j => g (f + j) == k551D j) 0 2 && (g (f + 2) == b))) := by
  unfold d_is
  rw [allB_s (k := 2), Nat.zero_add, h2, allB_cg (p := fun j => g (f + j) == ko w j) (p' := fun j => g (f + j) == k551D j) (k := 2) (fun i hi => by simp only [Nat.zero_add]; rw [h1 i hi])]
/-- the number of a known extension, by its last byte -/
def d_kind (b : Nat) : Nat := if b = 19 then 1 else if b = 15 then 2 else if b = 17 then 3 else if b = 37 then 4 else 0
theorem d_which_eq {g : Nat → Nat} {f t : Nat} : d_which g (f, t) = if t - f = 3 ∧ allB (fun j => g (f + j) == k551D j) 0 2 = true then d_kind (g (f + 2)) else 0 := by
  unfold d_which d_kind
  simp only
  rw [d_is3 (w := 1) (b := 19) (fun i hi => (ko1234 i hi).1) ko1234b.1, d_is3 (w := 2) (b := 15) (fun i hi => (ko1234 i hi).2.1) ko1234b.2.1, d_is3 (w := 3) (b := 17) (fun i hi => (ko1234 i hi).2.2.1) ko1234b.2.2.1, d_is3 (w := 4) (b := 37) (fun i hi => (ko1234 i hi).2.2.2) ko1234b.2.2.2]
  by_cases h : t - f = 3 ∧ allB (fun j => g (f + j) == k551D j) 0 2 = true
  · rw [if_pos h]
    simp only [h.1, h.2, decide_true, Bool.true_and, beq_iff_eq]
  · rw [if_neg h]
    have e : (decide (t - f = 3) && allB (fun j => g (f + j) == k551D j) 0 2) = false := by
      cases e1 : decide (t - f = 3) with
      | false => rfl
      | true =>
        cases e2 : allB (fun j => g (f + j) == k551D j) 0 2 with
        | false => rfl
        | true => exact absurd ⟨of_decide_eq_true e1, e2⟩ h
    simp only [← Bool.and_assoc, e, Bool.false_and, Bool.false_eq_true, if_false]
theorem s_Mex3 {Q : AH → Prop} {h : AH} {m st x bs n a e kd : Nat} {c5 : Int32} {crit : Bool} {sx0 : Int32} {g : Nat → Nat} {F : Nat → Int32} (K : ME h m st x bs n g) (hat : hp_I h m 20 = nI a) (hbad : hp_I h m 21 = 0) (he : e ≤ n) (ha : a ≤ n) (V : MV h m F) (h18 : d_kind kd = 1 → F 18 = 0) (hc : c5 = b2 crit) (hk : kd < 256) (hs : sx0 = nI kd ∨ (sx0 = -1 ∧ d_kind kd = 0)) (kB : (∀ F', d_exw g (d_kind kd) (a, e) crit F ≠ some (e, F')) → ∀ h1, MB h h1 m x → Q h1) (kQ : ∀ F', d_exw g (d_kind kd) (a, e) crit F = some (e, F') → ∀ h1, MX h h1 m x e F' → Q h1) : m_M_extension_207 Q m c5 (nI e) sx0 h := by
  have hxm := K.xm
  have Y0 : MX h h m x a F := MX.rf hat hbad V
  have fin : ∀ h1 F', MX h h1 m x e F' → d_exw g (d_kind kd) (a, e) crit F = some (e, F') → m_M_extension_283 Q m (nI e) h1 := fun h1 F' Y hd => by
    refine ⟨(K.mf Y.1).1, ?_⟩
    rintro _ rfl
    exact kQ F' hd _ (Y.at hxm e)
  have oth : d_kind kd = 0 → ((c5 = 0 → m_M_extension_283 Q m (nI e) h) ∧ (¬ c5 = 0 → hp_k h m = 13 ∧ ∀ h1 : AH, h1 = up_I h m 26 (1 : Int32) → m_M_extension_283 Q m (nI e) h1)) := fun h0 => by
    rw [h0] at kQ
    subst hc
    cases crit with
    | true =>
      refine ⟨fun c => absurd c (by decide), fun _ => ⟨K.1, ?_⟩⟩
      rintro _ rfl
      have Y2 := Y0.set hxm 19 (v := 1)
      rw [show mo 19 = 26 from rfl] at Y2
      refine ⟨K.1, ?_⟩
      rintro _ rfl
      exact kQ _ rfl _ (Y2.at hxm e)
    | false =>
      refine ⟨fun _ => ⟨K.1, ?_⟩, fun c => absurd rfl c⟩
      rintro _ rfl
      exact kQ _ rfl _ (Y0.at hxm e)
  rcases hs with rfl | ⟨rfl, h0⟩
  rotate_left
  · exact ⟨fun _ => ⟨fun _ => ⟨fun _ => ⟨fun _ => oth h0, fun c => absurd c (by decide)⟩, fun c => absurd c (by decide)⟩, fun c => absurd c (by decide)⟩, fun c => absurd c (by decide)⟩
  unfold m_M_extension_207
  rw [show (19 : Int32) = nI 19 from rfl, show (15 : Int32) = nI 15 from rfl, show (17 : Int32) = nI 17 from rfl, show (37 : Int32) = nI 37 from rfl]
  rw [nI_eq (by omega) (by omega), nI_eq (by omega) (by omega), nI_eq (by omega) (by omega), nI_eq (by omega) (by omega)]
  refine ⟨fun c1 => ⟨fun c2 => ⟨fun c3 => ⟨fun c4 => oth (by simp [d_kind, c1, c2, c3, c4]), fun c4 => ⟨K.1, ?_⟩⟩, fun c3 => ⟨K.1, ?_⟩⟩, fun c2 => ⟨K.1, ?_⟩⟩, fun c1 => ⟨K.1, ?_⟩⟩
  · subst c4
    exact s_Mpurp K hat hbad he ha V (fun hn h1 hb _ => x283_bad K.1 hb (kB hn)) (fun F' hd h1 Y _ => fin h1 F' Y hd)
  · subst c3
    exact s_Malt K hat hbad he ha V (fun hn h1 hb _ => x283_bad K.1 hb (kB hn)) (fun F' hd h1 Y _ => fin h1 F' Y hd)
  · subst c2
    exact s_Musage K hat hbad he ha V (fun hn h1 hb _ => x283_bad K.1 hb (kB hn)) (fun F' hd h1 Y _ => fin h1 F' Y hd)
  · subst c1
    exact s_Mcons K hat hbad he ha V (h18 rfl) (fun hn h1 hb _ => x283_bad K.1 hb (kB hn)) (fun F' hd h1 Y _ => fin h1 F' Y hd)
theorem s_Mex143 {Q : AH → Prop} {h : AH} {m st x bs n a e f t : Nat} {c5 : Int32} {crit : Bool} {g : Nat → Nat} {F : Nat → Int32} (K : ME h m st x bs n g) (hat : hp_I h m 20 = nI a) (hbad : hp_I h m 21 = 0) (he : e ≤ n) (ha : a ≤ n) (V : MV h m F) (h6 : f + 2 < t) (ht : t ≤ n) (h18 : d_which g (f + 2, t) = 1 → F 18 = 0) (hc : c5 = b2 crit) (kB : (d_in g 4 a e).bind (fun v => (d_exw g (d_which g (f + 2, t)) v crit F).bind fun r => if r.1 = v.2 ∧ v.2 = e then some (e, r.2) else none) = none → ∀ h1, MB h h1 m x → Q h1) (kQ : ∀ z F', (d_in g 4 a e).bind (fun v => (d_exw g (d_which g (f + 2, t)) v crit F).bind fun r => if r.1 = v.2 ∧ v.2 = e then some (e, r.2) else none) = some (z, F') → ∀ h1, MX h h1 m x z F' → Q h1) : m_M_extension_143 Q m (nI e) (nI f) (nI t) c5 h := by
  have k5 := K.2.2.2.2.1
  have hg := K.2.2.2.2.2.2.2.1
  have hxm := K.xm
  have Y0 : MX h h m x a F := MX.rf hat hbad V
  refine ⟨K.1, s_open K hat hbad he ha (by decide) (fun hd h1 hb _ => ⟨fun c => ?_, fun _ => kB (by rw [hd]; rfl) h1 hb⟩) (fun v0 v1 hd _ => ?_)⟩
  · rw [hb.2] at c; exact absurd c (by decide)
  have l1 := d_in_le hd
  rw [hd] at kB kQ
  simp only [Option.bind_some] at kB kQ
  have Y1 := Y0.at hxm v0
  generalize up_I h m 20 (nI v0) = h1 at Y1 ⊢
  have X1 := Y1.1
  have a1 := Y1.2.1
  have b1 := Y1.2.2.1
  have K1 := K.mf X1
  have V1 := Y1.2.2.2.1
  refine ⟨fun _ => ?_, fun c => absurd b1 c⟩
  rw [nI_eq (by omega) (by omega)]
  refine ⟨fun c1 => ⟨K1.1, s_need0 K1.1 (fun _ => ?_)⟩, fun c1 => ⟨K1.1, s_need1 (fun _ => ?_)⟩⟩
  · have bB : MB h (up_I h1 m 21 1) m x := MB.of X1
    have q := kB (by
      cases d_exw g (d_which g (f + 2, t)) (v0, v1) crit F with
      | none => rfl
      | some r => simp only [Option.bind_some]; rw [if_neg (fun q => c1 q.2)])
    generalize up_I h1 m 21 1 = h2 at bB ⊢
    have K2 := K.mf bB.1
    rw [nI_sub (by omega), show (2 : Int32) = nI 2 from rfl, nI_add, show (4 : Int32) = nI 4 from rfl, nI_add, show (5 : Int32) = nI 5 from rfl, nI_eq (by omega) (by omega)]
    refine ⟨fun _ => x207_bad K.1 bB q, fun c2 => ⟨K2.1, s_stands K2 (k := 2) (by omega) (by decide) k551D_ok (fun _ _ _ => ⟨fun c => absurd c (by decide), fun _ => s_here K2 (by omega) (fun _ => x207_bad K.1 bB q)⟩) (fun _ _ _ => ⟨fun _ => x207_bad K.1 bB q, fun c => absurd rfl c⟩)⟩⟩
  subst c1
  have kB2 : ∀ w, d_which g (f + 2, t) = w → (∀ F', d_exw g w (v0, v1) crit F ≠ some (v1, F')) → ∀ h2, MB h1 h2 m x → Q h2 := fun w hw hn h2 hb => kB (by
    rw [hw]
    cases hx : d_exw g w (v0, v1) crit F with
    | none => rfl
    | some r =>
      simp only [Option.bind_some]
      rw [if_neg]
      rintro ⟨q, -⟩
      obtain ⟨r1, r2⟩ := r
      simp only at q
      subst q
      exact hn r2 hx) h2 (hb.pre X1)
  have kQ2 : ∀ w, d_which g (f + 2, t) = w → ∀ F', d_exw g w (v0, v1) crit F = some (v1, F') → ∀ h2, MX h1 h2 m x v1 F' → Q h2 := fun w hw F' hx h2 Y => kQ v1 F' (by
    rw [hw, hx]
    simp only [Option.bind_some, and_self, if_true]) h2 (Y1.tr Y)
  have e1 := d_which_eq (g := g) (f := f + 2) (t := t)
  rw [nI_sub (by omega), show (2 : Int32) = nI 2 from rfl, nI_add, show (4 : Int32) = nI 4 from rfl, nI_add, show (5 : Int32) = nI 5 from rfl, nI_eq (by omega) (by omega)]
  have no : ¬ (t - (f + 2) = 3 ∧ allB (fun j => g (f + 2 + j) == k551D j) 0 2 = true) → m_M_extension_206 Q m c5 (nI v1) h1 := fun hn => by
    rw [if_neg hn] at e1
    exact s_Mex3 (kd := 0) K1 a1 b1 (by omega) (by omega) V1 (fun q => absurd q (by decide)) hc (by decide) (Or.inr ⟨rfl, rfl⟩) (kB2 _ e1) (kQ2 _ e1)
  refine ⟨fun c2 => no (by omega), fun c2 => ⟨K1.1, s_stands K1 (k := 2) (by omega) (by decide) k551D_ok (fun hA _ _ => ⟨fun c => absurd c (by decide), fun _ => s_here K1 (by omega) (fun _ => ?_)⟩) (fun hA _ _ => ⟨fun _ => no (fun q => by rw [hA] at q; cases q.2), fun c => absurd rfl c⟩)⟩⟩
  rw [if_pos ⟨by omega, hA⟩, show f + 2 + 2 = f + 4 by omega] at e1
  exact s_Mex3 (kd := g (f + 4)) K1 a1 b1 (by omega) (by omega) V1 (fun q => h18 (e1.trans q)) hc (hg _ (by omega)) (Or.inl rfl) (kB2 _ e1) (kQ2 _ e1)
theorem s_Mex2 {Q : AH → Prop} {h : AH} {m st x bs n a e f t : Nat} {g : Nat → Nat} {F : Nat → Int32} (K : ME h m st x bs n g) (hat : hp_I h m 20 = nI a) (hbad : hp_I h m 21 = 0) (he : e ≤ n) (ha : a ≤ n) (V : MV h m F) (h6 : f + 2 < t) (ht : t ≤ n) (h18 : d_which g (f + 2, t) = 1 → F 18 = 0) (kB : d_ex2 g (d_which g (f + 2, t)) a e F = none → ∀ h1, MB h h1 m x → Q h1) (kQ : ∀ z F', d_ex2 g (d_which g (f + 2, t)) a e F = some (z, F') → ∀ h1, MX h h1 m x z F' → Q h1) : (nI e ≤ hp_I h m 20 → m_M_extension_130 Q m (nI e) (nI f) (nI t) h) ∧ (¬ nI e ≤ hp_I h m 20 → m_M_here (fun v1 h3 => fx_ext h h3 → (¬ v1 = (1 : Int32) → m_M_extension_130 Q m (nI e) (nI f) (nI t) h3) ∧ (v1 = (1 : Int32) → m_M_extension_131 Q m (nI e) (nI f) (nI t) (1 : Int32) h3)) m (hp_I h m 20) h) := by
  have k5 := K.2.2.2.2.1
  have hg := K.2.2.2.2.2.2.2.1
  have hxm := K.xm
  have Y0 : MX h h m x a F := MX.rf hat hbad V
  unfold d_ex2 at kB kQ
  have no : ¬ (a < e ∧ g a = 1) → m_M_extension_130 Q m (nI e) (nI f) (nI t) h := fun hn => by
    have e1 : d_truth g a e = some (false, a) := by unfold d_truth; rw [if_neg hn]
    rw [e1] at kB kQ
    simp only [Option.bind_some] at kB kQ
    exact ⟨fun _ => s_Mex143 (crit := false) K hat hbad he ha V h6 ht h18 rfl kB kQ, fun c => absurd rfl c⟩
  rw [hat, nI_leI (by omega) (by omega)]
  refine ⟨fun c => no (by omega), fun c => s_here K (by omega) (fun _ => ?_)⟩
  have hga := hg a (by omega)
  rw [show (1 : Int32) = nI 1 from rfl, nI_eq (by omega) (by omega)]
  refine ⟨fun c2 => no (fun q => c2 q.2), fun c2 => ⟨fun c => absurd c (by decide), fun _ => ⟨K.1, ?_⟩⟩⟩
  refine s_Mtruth K hat hbad he (by omega) c2 (fun hd h1 hb _ => x143_bad K.1 hb (kB (by rw [hd]; rfl))) (fun z hd _ => ?_)
  have l2 := d_truth_le hd
  rw [hd] at kB kQ
  simp only [Option.bind_some] at kB kQ
  have Y1 := Y0.at hxm z
  generalize up_I h m 20 (nI z) = h1 at Y1 ⊢
  exact s_Mex143 (crit := true) (K.mf Y1.1) Y1.2.1 Y1.2.2.1 he (by omega) Y1.2.2.2.1 h6 ht h18 rfl (fun hn h2 hb => kB hn h2 (hb.pre Y1.1)) (fun z F' hd h2 Y2 => kQ z F' hd h2 (Y1.tr Y2))
