set_option maxRecDepth 10000
theorem b75_bad {Q : AH → Prop} {h h1 : AH} {m x : Nat} {x1 sx1 : Int32} (K1 : hp_k h m = 13) (hb : MB h h1 m x) (kq : ∀ h2, MB h h2 m x → Q h2) : m_M_body_75 Q m x1 m sx1 h1 := by
  have K : hp_k h m = 13 ∧ True := ⟨K1, trivial⟩
  refine ⟨hb.k K1, ?_⟩
  rintro _ rfl
  refine ⟨hb.k K1, B_ser K1 hb.at (fun h2 hb _ => ?_)⟩
  (refine B_alg K.1 hb (fun h3 hb _ => ?_); (rintro _ rfl; refine B_name K.1 hb.set (fun v h5 hb _ => ?_); (rintro _ rfl; refine B_open K.1 hb.set (fun v h7 hb _ => ?_); (refine B_time K.1 hb (fun v h8 hb _ => ?_); (rintro _ rfl; refine B_time K.1 hb.L (fun v h9 hb _ => ?_); (rintro _ rfl; exact ⟨fun _ => b164_bad K.1 hb.L kq, fun c => hb.L.c c⟩))))))
theorem b59_bad {Q : AH → Prop} {h h1 : AH} {m x : Nat} {x1 x2 : Int32} (hm : hp_k h m = 13) (hb : MB h h1 m x) (k : ∀ h2, MB h h2 m x → Q h2) : m_M_body_59 Q m x1 x2 h1 := ⟨hb.k hm, fun c => hb.c c, fun _ => b75_bad hm hb k⟩
theorem B_body {Q : AH → Prop} {h h1 : AH} {m x : Nat} {x1 : Int32} (hm : hp_k h m = 13) (hb : MB h h1 m x) (k : ∀ h2, MB h h2 m x → Q h2) : m_M_body Q m x1 h1 :=
  ⟨hb.k hm, B_open hm hb (fun _ _ hb _ => B_open hm hb (fun _ _ hb _ => ⟨fun _ => b59_bad hm hb k, fun c => hb.c c⟩))⟩
theorem s_Mbody {Q : AH → Prop} {h : AH} {m st x bs n a e : Nat} {g : Nat → Nat} {F F0 : Nat → Int32} {L : Nat → Int64} (K : ME h m st x bs n g) (hat : hp_I h m 20 = nI a) (hbad : hp_I h m 21 = 0) (he : e ≤ n) (ha : a ≤ n) (hN : n ≤ 49990) (V : MV h m (d_ex0 F0)) (h45 : hp_I h m 45 = 0) (kB : d_body g a e F L = none → ∀ h1, MB h h1 m x → Q h1) (kQ : ∀ z F' L', d_body g a e F L = some (z, F', L') → ∀ h1, MF h h1 m x → hp_I h1 m 20 = nI e → hp_I h1 m 21 = 0 → MR h1 m F' L' → (hp_I h1 m 35 = hp_I h m 35 ∧ hp_I h1 m 36 = hp_I h m 36) → (F' 28 = 0 ∧ ∀ j, j < 5 → F' j = F j) → Q h1) : m_M_body Q m (nI e) h := by
  have k5 := K.2.2.2.2.1
  have hg := K.2.2.2.2.2.2.2.1
  have hxm := K.xm
  generalize hp : d_body g a e F L = P at kB kQ
  unfold d_body at hp
  refine ⟨K.1, s_open K hat hbad he ha (by decide) (fun hd h1 hb _ => ?_) (fun w0 w1 hd _ => ?_)⟩
  · have q := kB (hp.symm.trans (by rw [hd]; rfl))
    exact B_open K.1 hb (fun _ _ hb _ => ⟨fun _ => b59_bad K.1 hb q, fun c => hb.c c⟩)
  have l1 := d_in_le hd
  rw [hd] at hp
  simp only [Option.bind_some] at hp
  have Y1 : MG h (up_I h m 20 (nI w0)) m x (up (hp_I h m) 20 (nI w0)) (hp_L h m) := MG.rf.I hxm
  generalize up_I h m 20 (nI w0) = h1 at Y1 ⊢
  have K1 := K.mf Y1.1
  refine s_open K1 (by rw [Y1.g]; rfl) (by rw [Y1.g]; exact hbad) (by omega) (by omega) (by decide) (fun hd h2 hb _ => ⟨fun _ => b59_bad K.1 (hb.pre Y1.1) (kB (hp.symm.trans (by rw [hd]; rfl))), fun c => hb.c c⟩) (fun v0 v1 hd _ => ?_)
  have l2 := d_in_le hd
  rw [hd] at hp
  simp only [Option.bind_some] at hp
  have Y2 := Y1.I hxm (j := 20) (v := nI v0)
  rw [up_up] at Y2
  generalize up_I h1 m 20 (nI v0) = h2 at Y2 ⊢
  have K2 := K.mf Y2.1
  have a2 : hp_I h2 m 20 = nI v0 := by rw [Y2.g]; rfl
  have b2 : hp_I h2 m 21 = 0 := by rw [Y2.g]; exact hbad
  refine ⟨fun c => absurd b2 c, fun _ => ?_⟩
  rw [a2]
  have neg : ¬ (v1 - v0 = 1 ∧ g v0 = 2 ∧ v1 = w1) → m_M_body_55 Q m (nI e) (nI w1) m h2 := fun hn => ⟨K2.1, s_need0 K2.1 (fun _ => b59_bad K.1 (MB.of Y2.1) (kB (hp.symm.trans (by rw [if_neg hn]))))⟩
  rw [nI_eq (by omega) (by omega), nI_sub (by omega), show (1 : Int32) = nI 1 from rfl, nI_eq (by omega) (by omega)]
  refine ⟨fun c => neg (by omega), fun c => ⟨fun c2 => neg (by omega), fun c2 => s_here K2 (by omega) (fun _ => ?_)⟩⟩
  have hgv := hg v0 (by omega)
  rw [show (2 : Int32) = nI 2 from rfl, nI_eq (by omega) (by omega)]
  refine ⟨fun c3 => neg (by omega), fun c3 => ⟨K2.1, s_need1 (fun _ => ⟨K2.1, fun _ => ?_, fun c => absurd b2 c⟩)⟩⟩
  rw [if_pos ⟨c2, c3, c⟩] at hp
  subst c
  have V2 := V.g Y2 (fun k k1 k2 k3 => by
    unfold up
    repeat rw [if_neg (by omega)])
  refine s_M75 K2 b2 he (by omega) hN V2 (by rw [Y2.g]; exact h45) (fun hn h3 hb => kB (hp.symm.trans hn) h3 (hb.pre Y2.1)) (fun z F' L' hd h3 X3 a3 b3 R3 q3 k3 => kQ z F' L' (hp.symm.trans hd) h3 (Y2.1.tr X3) a3 b3 R3 ⟨?_, ?_⟩ k3)
  · rw [q3.1, Y2.g]; rfl
  · rw [q3.2, Y2.g]; rfl
theorem d_body_e {g : Nat → Nat} {a e z : Nat} {F F' : Nat → Int32} {L L' : Nat → Int64} (h : d_body g a e F L = some (z, F', L')) : z = e := by
  unfold d_body at h
  cases h1 : d_in g 160 a e with
  | none => rw [h1] at h; cases h
  | some w =>
  rw [h1] at h
  simp only [Option.bind_some] at h
  cases h2 : d_in g 2 w.1 w.2 with
  | none => rw [h2] at h; cases h
  | some v =>
  rw [h2] at h
  simp only [Option.bind_some] at h
  split at h
  · cases h3 : d_ser g v.2 e with
    | none => rw [h3] at h; cases h
    | some s =>
    rw [h3] at h
    simp only [Option.bind_some] at h
    exact d_in9_e h
  · cases h
theorem bind_none {A B : Type} {o : Option A} {f : A → Option B} (h : ∀ x, o = some x → f x = none) : o.bind f = none := by
  cases o with
  | none => rfl
  | some x => exact h x rfl
/-- what the model has read of a certificate -/
def MP (h : AH) (m : Nat) (F : Nat → Int32) (L : Nat → Int64) : Prop := MR h m F L ∧ hp_I h m 35 = F 3 ∧ hp_I h m 36 = F 4 ∧ hp_I h m 34 = F 11 ∧ hp_I h m 33 = F 12 - F 11
theorem p108_bad {Q : Int32 → AH → Prop} {h h1 : AH} {m x : Nat} {x3 : Int32} (hm : hp_k h m = 13) (hb : MB h h1 m x) (k : ∀ h2, MB h h2 m x → Q 0 h2) : m_M_parses_108 Q m x3 h1 := by
  refine ⟨hb.k hm, ?_⟩
  rintro _ rfl
  refine B_open hm hb.set (fun v h2 hb _ => ?_)
  rintro _ rfl
  exact ⟨fun c => hb.set.c c, fun _ => k _ hb.set⟩
/-- the model's parse of the bytes g (n of them) that lie in the store from bs on -/
theorem s_Mparse {Q : Int32 → AH → Prop} {h : AH} {m st x fr bs n c : Nat} {g : Nat → Nat} {F : Nat → Int32} {L : Nat → Int64} (hm : hp_k h m = 13) (h7 : hp_R h m 7 = some st) (hst : hp_k h st = 101) (hst2 : hp_n h st = 262144) (hbs : bs + n ≤ 262144) (hbg : ∀ i, i < n → ub (hp_I h st (bs + i)) = g i) (hg : Gb g n) (h44 : hp_R h m 44 = some x) (hx : hp_k h x = 102) (hx2 : hp_n h x = 10000) (h8 : hp_R h m 8 = some fr) (hf : hp_k h fr = 102) (hfn : hp_n h fr = 1001) (hc : c < 1000) (hf1 : hp_I h fr c = nI bs) (hf2 : hp_I h fr (c + 1) = nI (bs + n)) (hN : n ≤ 49990) (kB : d_whole g 0 n F L = none → ∀ h1, fm (Sm m x) h h1 → hp_R h1 m = hp_R h m → Q 0 h1) (kQ : ∀ F' L', d_whole g 0 n F L = some (F', L') → ∀ h1, fm (Sm m x) h h1 → hp_R h1 m = hp_R h m → hp_I h1 m 22 = nI bs → MP h1 m F' L' → Q 1 h1) : m_M_parses Q m (nI c) h := by
  have hmf : m ≠ fr := k_ne hm hf (by decide)
  have hxm : x ≠ m := k_ne hx hm (by decide)
  have hms : m ≠ st := k_ne hm hst (by decide)
  have hxs : x ≠ st := k_ne hx hst (by decide)
  refine ⟨hm, fr, h8, Or.inl hf, ?_, ?_⟩
  · rw [vp_iff (by omega)]; omega
  rw [nI_clamp (by omega), hf1]
  rintro h1 hh1
  have e1 : hp_I h1 fr (c + 1) = nI (bs + n) := by rw [hh1, rI2 hmf.symm]; exact hf2
  have e2 : hp_I h1 m 22 = nI bs := by rw [hh1, rI1]
  have e3 : hp_n h1 fr = 1001 := by rw [hh1]; exact hfn
  refine ⟨?_, ?_⟩
  · rw [nI_1, vp_iff (by omega)]; omega
  rw [nI_1, nI_clamp (by omega), e1, e2, nI_sub (by omega), show bs + n - bs = n by omega]
  rintro _ rfl h2 hh2 h3 hh3 h4 hh4 h5 hh5 h6 hh6 h7' hh7 h8' hh8 h9 hh9 h10 hh10 h11 hh11 h12 hh12
  have f1 : fm (Sm m x) h h1 := by rw [hh1]; exact fm.I (Or.inl ⟨rfl, by decide, by decide⟩)
  have R1 : hp_R h1 m = hp_R h m := by rw [hh1]; rfl
  have Y12 : MG h1 h12 m x (up (up (up (up (up (up (up (up (up (up (up (hp_I h1 m) 20 0) 21 0) 25 0) 26 0) 27 (-1)) 28 (-1)) 29 (-1)) 30 0) 42 0) 43 0) 45 0) (hp_L h1 m) := by
    rw [hh12, hh11, hh10, hh9, hh8, hh7, hh6, hh5, hh4, hh3, hh2]
    exact ((((((((((MG.rf.I hxm).I hxm).I hxm).I hxm).I hxm).I hxm).I hxm).I hxm).I hxm).I hxm).I hxm
  clear hh12 hh11 hh10 hh9 hh8 hh7 hh6 hh5 hh4 hh3 hh2
  have K1 : ME h1 m st x bs n g := by
    rw [hh1]
    exact ⟨hm, h7, hst, hst2, hbs, rI1, fun i hi => by rw [rI2 hms.symm]; exact hbg i hi, hg, h44, hx, hx2⟩
  clear hh1
  have K := K1.mf Y12.1
  have V : ∀ F0, MV h12 m (d_ex0 F0) := fun F0 k k1 k2 k3 => by
    rw [Y12.g]
    have : k = 18 ∨ k = 19 ∨ k = 21 ∨ k = 22 ∨ k = 23 ∨ k = 24 ∨ k = 25 ∨ k = 26 := by omega
    rcases this with rfl | rfl | rfl | rfl | rfl | rfl | rfl | rfl <;> rfl
  have a12 : hp_I h12 m 20 = nI 0 := by rw [Y12.g]; rfl
  have b12 : hp_I h12 m 21 = 0 := by rw [Y12.g]; rfl
  have h45 : hp_I h12 m 45 = 0 := by rw [Y12.g]; rfl
  have X12 := Y12.1
  have e12 : hp_I h12 m 22 = nI bs := by rw [X12.2.2]; exact e2
  have kB' : d_whole g 0 n F L = none → ∀ h1, MB h12 h1 m x → Q 0 h1 := fun hn h' hb => kB hn h' (f1.tr (X12.tr hb.1).1) ((X12.tr hb.1).2.1.trans R1)
  have kB2 : d_whole g 0 n F L = none → ∀ h1, MF h12 h1 m x → Q 0 h1 := fun hn h' X => kB hn h' (f1.tr (X12.tr X).1) ((X12.tr X).2.1.trans R1)
  have kQ' : ∀ F' L', d_whole g 0 n F L = some (F', L') → ∀ h1, MF h12 h1 m x → MP h1 m F' L' → Q 1 h1 := fun F' L' hn h' X M => kQ F' L' hn h' (f1.tr (X12.tr X).1) ((X12.tr X).2.1.trans R1) (X.2.2.trans e12) M
  clear kB kQ Y12 e1 e2 e3 f1
  clear X12 e12 R1 K1
  generalize hp : d_whole g 0 n F L = P at kB' kB2 kQ'
  unfold d_whole at hp
  refine s_open K a12 b12 (Nat.le_refl n) (by omega) (by decide) (fun hd h13 hb _ => ⟨fun _ => p108_bad K.1 hb (kB' (hp.symm.trans (by rw [hd]; rfl))), fun c => hb.c c⟩) (fun t0 t1 hd _ => ?_)
  have l1 := d_in_le hd
  rw [hd] at hp
  simp only [Option.bind_some] at hp
  have Y13 : MG h12 (up_I h12 m 20 (nI t0)) m x (up (hp_I h12 m) 20 (nI t0)) (hp_L h12 m) := MG.rf.I hxm
  generalize up_I h12 m 20 (nI t0) = h13 at Y13 ⊢
  have K13 := K.mf Y13.1
  have a13 : hp_I h13 m 20 = nI t0 := by rw [Y13.g]; rfl
  have b13 : hp_I h13 m 21 = 0 := by rw [Y13.g]; exact b12
  refine ⟨fun c => absurd b13 c, fun _ => ?_⟩
  rw [nI_eq (by omega) (by omega)]
  refine ⟨fun c => ⟨K13.1, s_need0 K13.1 (fun _ => p108_bad K.1 (MB.of Y13.1) (kB' (hp.symm.trans (bind_none fun y _ => bind_none fun k _ => bind_none fun v _ => by rw [if_neg (by omega)]))))⟩, fun c => ⟨K13.1, s_need1 (fun _ => ⟨K13.1, ?_⟩)⟩⟩
  subst c
  rw [a13]
  rintro h14 hh14
  have Y14 := Y13.I hxm (j := 35) (v := nI t0)
  rw [← hh14] at Y14
  clear hh14
  have K14 := K.mf Y14.1
  rw [d_ins_body] at hp
  refine s_open K14 (by rw [Y14.g]; rfl) (by rw [Y14.g]; exact b12) (Nat.le_refl _) (by omega) (by decide) (fun hd h15 hb _ => ?_) (fun p0 p1 hd _ => ?_)
  · have q := kB' (hp.symm.trans (by rw [hd]; rfl))
    have hb := hb.pre Y14.1
    rintro _ rfl
    exact ⟨fun c => hb.set.c c, fun _ => q _ hb.set⟩
  have l2 := d_in_le hd
  rw [hd] at hp
  simp only [Option.bind_some] at hp
  have Y15 := Y14.I hxm (j := 20) (v := nI p0)
  generalize up_I h14 m 20 (nI p0) = h15 at Y15 ⊢
  rintro h16 hh16
  have Y16 := Y15.I hxm (j := 36) (v := nI p1)
  rw [← hh16] at Y16
  clear hh16
  have K16 := K.mf Y16.1
  have a16 : hp_I h16 m 20 = nI p0 := by rw [Y16.g]; rfl
  have b16 : hp_I h16 m 21 = 0 := by rw [Y16.g]; exact b12
  have c16 : hp_I h16 m 35 = nI t0 ∧ hp_I h16 m 36 = nI p1 := by rw [Y16.g, Y16.g]; exact ⟨rfl, rfl⟩
  have V16 := (V F).g Y16 (fun k k1 k2 k3 => by
    unfold up
    repeat rw [if_neg (by omega)])
  have h45' : hp_I h16 m 45 = 0 := by rw [Y16.g]; exact h45
  have X16 := Y16.1
  clear Y13 Y14 Y15 Y16
  refine ⟨fun _ => ?_, fun c => absurd b16 c⟩
  rw [c16.2]
  refine s_Mbody K16 a16 b16 (by omega) (by omega) hN V16 h45' (fun hd h17 hb _ => ⟨fun _ => kB' (hp.symm.trans (by rw [hd]; rfl)) _ (hb.pre X16), fun c => hb.c c⟩) (fun z F' L' hd h17 X17 a17 b17 R17 q17 k17 _ => ⟨fun c => absurd b17 c, fun _ => ?_⟩)
  have hz := d_body_e hd
  subst hz
  rw [hd] at hp
  simp only [Option.bind_some] at hp
  rw [a17, q17.2, c16.2]
  refine ⟨fun _ => ?_, fun c => absurd rfl c⟩
  have X17 := X16.tr X17
  have K17 := K.mf X17
  refine s_Malg K17 a17 b17 (Nat.le_refl _) (by omega) (fun hd h18 hb _ => B_bits K.1 (hb.pre X17) (fun v h19 hb _ => ⟨fun _ => kB' (hp.symm.trans (by rw [hd]; rfl)) _ hb, fun c => hb.c c⟩)) (fun k hd _ => ?_)
  have l3 := d_alg_le hd
  rw [hd] at hp
  simp only [Option.bind_some] at hp
  have Y18 : MG h17 (up_I h17 m 20 (nI k)) m x (up (hp_I h17 m) 20 (nI k)) (hp_L h17 m) := MG.rf.I hxm
  generalize up_I h17 m 20 (nI k) = h18 at Y18 ⊢
  have K18 := K17.mf Y18.1
  have hb0 : (d_in g 3 k t1).bind (fun v => if v.1 ≠ v.2 ∧ g v.1 = 0 ∧ v.2 = t1 ∧ v.2 = t1 ∧ F' 28 = 0 then some (up (up (up F' 14 0) 11 (nI (v.1 + 1))) 12 (nI v.2), L') else none) = (d_bits g k t1).bind fun v => if v.2 = t1 then some (up (up (up F' 14 0) 11 (nI (v.1 + 1))) 12 (nI v.2), L') else none := by
    unfold d_bits
    cases d_in g 3 k t1 with
    | none => rfl
    | some v =>
      simp only [Option.bind_some]
      by_cases h1 : v.1 ≠ v.2 ∧ g v.1 = 0
      · rw [if_pos h1]
        simp only [Option.bind_some]
        by_cases h2 : v.2 = t1
        · rw [if_pos ⟨h1.1, h1.2, h2, h2, k17.1⟩, if_pos h2]
        · rw [if_neg (fun q => h2 q.2.2.1), if_neg h2]
      · rw [if_neg (fun q => h1 ⟨q.1, q.2.1⟩), if_neg h1]; rfl
  rw [hb0] at hp
  refine s_Mbits K18 (by rw [Y18.g]; rfl) (by rw [Y18.g]; exact b17) (Nat.le_refl _) (by omega) (fun hd v h19 hb _ => ⟨fun _ => kB' (hp.symm.trans (by rw [hd]; rfl)) _ (hb.pre (X17.tr Y18.1)), fun c => hb.c c⟩) (fun v0 v1 hd lv1 lv2 lv3 _ => ?_)
  rw [hd] at hp
  simp only [Option.bind_some] at hp
  have Y19 := Y18.I hxm (j := 20) (v := nI v0)
  rw [up_up] at Y19
  generalize up_I h18 m 20 (nI v0) = h19 at Y19 ⊢
  have a19 : hp_I h19 m 20 = nI v0 := by rw [Y19.g]; rfl
  have b19 : hp_I h19 m 21 = 0 := by rw [Y19.g]; exact b17
  refine ⟨fun c => absurd b19 c, fun _ => ?_⟩
  rw [nI_eq (by omega) (by omega), a19, nI_1]
  refine ⟨fun c => ?_, fun c => ?_⟩
  rotate_left
  · exact kB2 (hp.symm.trans (by rw [if_neg c])) _ (X17.tr Y19.1)
  rintro h20 hh20 h21 hh21
  have Y20 := Y19.I hxm (j := 34) (v := nI (v0 + 1))
  rw [← hh20] at Y20
  have a20 : hp_I h20 m 20 = nI v0 := by rw [Y20.g]; rfl
  rw [a20, nI_sub (by omega), show (1 : Int32) = nI 1 from rfl, nI_sub (by omega)] at hh21
  have Y21 := Y20.I hxm (j := 33) (v := nI (v1 - v0 - 1))
  rw [← hh21] at Y21
  rw [if_pos c] at hp
  refine kQ' _ _ hp.symm h21 (X17.tr Y21.1) ⟨⟨fun j j1 j2 j3 => ?_, ⟨?_, ?_, ?_, ?_, ?_, ?_, ?_⟩, ?_, ?_⟩, ?_, ?_, ?_, ?_⟩
  · have := mo_ne j j1 j2 j3
    have e := R17.1 j j1 j2 j3
    rw [Y21.g]
    unfold up
    repeat rw [if_neg (by omega)]
    exact e
  · rw [Y21.g]; exact R17.2.1.1
  · rw [Y21.g]; exact R17.2.1.2.1
  · rw [Y21.g]; exact R17.2.1.2.2.1
  · rw [Y21.g]; exact R17.2.1.2.2.2.1
  · rw [Y21.g]; exact R17.2.1.2.2.2.2.1
  · rw [Y21.g]; exact R17.2.1.2.2.2.2.2.1
  · rw [Y21.g]; exact R17.2.1.2.2.2.2.2.2
  · rw [Y21.2.2.1]; exact R17.2.2.1
  · rw [Y21.2.2.1]; exact R17.2.2.2
  · rw [Y21.g]; exact q17.1.trans (c16.1.trans (k17.2 3 (by decide)).symm)
  · rw [Y21.g]; exact q17.2.trans (c16.2.trans (k17.2 4 (by decide)).symm)
  · rw [Y21.g]; rfl
  · rw [Y21.g]
    show nI (v1 - v0 - 1) = nI v1 - nI (v0 + 1)
    rw [nI_sub (by omega)]
    congr 1
