set_option maxRecDepth 10000
def up (F : Nat → Int32) (j : Nat) (v : Int32) : Nat → Int32 := fun x => if x = j then v else F x
def upL (F : Nat → Int64) (j : Nat) (v : Int64) : Nat → Int64 := fun x => if x = j then v else F x
theorem up1 {F : Nat → Int32} {j : Nat} {v : Int32} : up F j v j = v := by simp [up]
theorem up2 {F : Nat → Int32} {i j : Nat} {v : Int32} (h : i ≠ j) : up F j v i = F i := by simp [up, h]
theorem rIf {h : AH} {a j : Nat} {v : Int32} : hp_I (up_I h a j v) a = up (hp_I h a) j v := by
  funext x
  unfold up
  split
  · rename_i e; rw [e, rI1]
  · rename_i e; rw [rI3 e]
theorem rLf {h : AH} {a j : Nat} {v : Int64} : hp_L (up_L h a j v) a = upL (hp_L h a) j v := by
  funext x
  unfold upL
  split
  · rename_i e; rw [e, rL1]
  · rename_i e; rw [rL3 e]
theorem rIg {h : AH} {a b j : Nat} {v : Int32} (hne : b ≠ a) : hp_I (up_I h a j v) b = hp_I h b := funext fun x => rI2 hne
/-- from h to h1 only the certificate c and its reader's place were written: now a, the ints F, the longs L -/
def CS (h h1 : AH) (c r a : Nat) (F : Nat → Int32) (L : Nat → Int64) : Prop := fm (Sc c r) h h1 ∧ hp_I h1 r 1 = nI a ∧ hp_I h1 c = F ∧ hp_L h1 c = L ∧ hp_R h1 c = hp_R h c
theorem CS.rf {h : AH} {c r a : Nat} (h1 : hp_I h r 1 = nI a) : CS h h c r a (hp_I h c) (hp_L h c) := ⟨fm.rf, h1, rfl, rfl, rfl⟩
theorem CS.at {h h1 : AH} {c r a a' : Nat} {F : Nat → Int32} {L : Nat → Int64} (hne : r ≠ c) (X : CS h h1 c r a F L) : CS h (up_I h1 r 1 (nI a')) c r a' F L := ⟨X.1.tr (fm.I (Or.inr ⟨rfl, rfl⟩)), rI1, by rw [rIg hne.symm]; exact X.2.2.1, X.2.2.2.1, X.2.2.2.2⟩
theorem CS.I {h h1 : AH} {c r a j : Nat} {v : Int32} {F : Nat → Int32} {L : Nat → Int64} (hne : r ≠ c) (X : CS h h1 c r a F L) (hj : 3 ≤ j := by decide) : CS h (up_I h1 c j v) c r a (up F j v) L := ⟨X.1.tr (fm.I (Or.inl ⟨rfl, hj⟩)), by rw [rI2 hne]; exact X.2.1, by rw [rIf, X.2.2.1], X.2.2.2.1, X.2.2.2.2⟩
theorem CS.L {h h1 : AH} {c r a j : Nat} {v : Int64} {F : Nat → Int32} {L : Nat → Int64} (X : CS h h1 c r a F L) (hj : 3 ≤ j := by decide) : CS h (up_L h1 c j v) c r a F (upL L j v) := ⟨X.1.tr (fm.L (Or.inl ⟨rfl, hj⟩)), X.2.1, X.2.2.1, by rw [rLf, X.2.2.2.1], X.2.2.2.2⟩
theorem CS.tr {h h1 h2 : AH} {c r a a' : Nat} {F F' : Nat → Int32} {L L' : Nat → Int64} (X : CS h h1 c r a F L) (Y : CS h1 h2 c r a' F' L') : CS h h2 c r a' F' L' := ⟨X.1.tr Y.1, Y.2.1, Y.2.2.1, Y.2.2.2.1, Y.2.2.2.2.trans X.2.2.2.2⟩
theorem CE.ne {h : AH} {c r b n a : Nat} {g : Nat → Nat} (K : CE h c r b n a g) : r ≠ c := k_ne K.2.2.2.2.1.1 K.1 (by decide)
theorem CE.ne2 {h : AH} {c r b n a : Nat} {g : Nat → Nat} (K : CE h c r b n a g) : b ≠ c := by
  rintro rfl
  have h1 := K.1
  rcases K.2.2.2.2.1.2.2.2.1 with q | q <;> omega
theorem CE.cs {h h1 : AH} {c r b n a a' : Nat} {F : Nat → Int32} {L : Nat → Int64} {g : Nat → Nat} (K : CE h c r b n a g) (X : CS h h1 c r a' F L) : CE h1 c r b n a' g := by
  have n1 := K.ne
  have n2 := K.ne2
  have n3 := K.2.2.2.2.1.ne
  obtain ⟨k1, k2, k3, ⟨w, w1, w2⟩, ⟨r1, r2, r3, r4, r5, r6, r7⟩, k6, k7⟩ := K
  obtain ⟨x1, x2, x3, x4, x5⟩ := X
  obtain ⟨f1, f2, f3, f4, f5, f6, f7⟩ := id x1
  have nr : ¬ Sc c r r 0 := fun q => by
    rcases q with ⟨q, -⟩ | ⟨-, q⟩
    · exact n1 q
    · cases q
  have nb : ∀ i, ¬ Sc c r b i := fun i q => by
    rcases q with ⟨q, -⟩ | ⟨q, -⟩
    · exact n2 q
    · exact n3 q
  refine ⟨by rw [f2]; exact k1, by rw [x5]; exact k2, by rw [x5]; exact k3, ⟨w, by rw [x5]; exact w1, by rw [f2]; exact w2⟩, ⟨by rw [f2]; exact r1, by rw [(f1 r 0 nr).2.2]; exact r2, x2, by rw [f2]; exact r4, by rw [f3]; exact r5, r6, fun i hi => by rw [(f1 b i (nb i)).1]; exact r7 i hi⟩, ?_, k7⟩
  refine k6.fa (dz := 0) (ds := 0) x1.fa (fun x j hk hs => ?_)
  rcases hs with ⟨rfl, -⟩ | ⟨rfl, -⟩ <;> omega
def d_cons (g : Nat → Nat) (a e : Nat) (F : Nat → Int32) : Option (Nat × (Nat → Int32)) := (d_in g 48 a e).bind fun p => (d_truth g p.1 p.2).bind fun t =>
  if t.1 = true ∧ t.2 < p.2 then (d_in g 2 t.2 p.2).bind fun v => if v.2 - v.1 = 1 ∧ g v.1 < 128 ∧ v.2 = p.2 then some (p.2, up (up F 18 1) 21 (nI (g v.1))) else none
  else if t.2 = p.2 then some (p.2, up F 18 (if t.1 = true then 1 else 0)) else none
theorem d_truth_le {g : Nat → Nat} {a e t : Nat} (h : d_truth g a e = some (true, t)) : a + 2 ≤ t ∧ t ≤ e := by
  unfold d_truth at h
  split at h
  · cases h1 : d_in g 1 a e with
    | none => rw [h1] at h; cases h
    | some p =>
    rw [h1] at h
    simp only [Option.bind_some] at h
    have := d_in_le h1
    split at h
    · cases h; omega
    · cases h
  · cases h
theorem s_cons {Q : AH → Prop} {E : Nat → AH → Prop} {h : AH} {c r b n a e : Nat} {g : Nat → Nat} (K : CE h c r b n a g) (m : rm h 1 6) (he : e ≤ n) (ha : a ≤ n) (kE : d_cons g a e (hp_I h c) = none → ∀ q h1, bx 14 (Sc c r) h h1 q → E q h1) (kQ : ∀ a' F', d_cons g a e (hp_I h c) = some (a', F') → ∀ h1, CS h h1 c r a' F' (hp_L h c) → Q h1) : m_Cert_constraints Q E c (nI e) h := by
  have hg := K.2.2.2.2.2.2
  have hne := K.ne
  have hne2 := K.ne2
  have hn6 := K.2.2.2.2.1.2.2.2.2.2.1
  unfold m_Cert_constraints m_Cert_constraints_107 m_Cert_constraints_79
  refine ⟨K.1, r, K.2.1, K.2.2.2.2.1.1, s_enter K.2.2.2.2.1 hg he ha (by decide) m (fun hd q hx hb _ => kE (by unfold d_cons; rw [hd]; rfl) q hx (hb.wk Sr_c)) (fun p0 p1 hp _ => ?_)⟩
  have l1 := d_in_le hp
  have X1 : CS h (up_I h r 1 (nI p0)) c r p0 (hp_I h c) (hp_L h c) := (CS.rf K.2.2.2.2.1.2.2.1).at hne
  have K1 := K.cs X1
  have hp1 : d_cons g a e (hp_I h c) = (d_truth g p0 p1).bind fun t => if t.1 = true ∧ t.2 < p1 then (d_in g 2 t.2 p1).bind fun v => if v.2 - v.1 = 1 ∧ g v.1 < 128 ∧ v.2 = p1 then some (p1, up (up (hp_I h c) 18 1) 21 (nI (g v.1))) else none else if t.2 = p1 then some (p1, up (hp_I h c) 18 (if t.1 = true then 1 else 0)) else none := by unfold d_cons; rw [hp]; rfl
  refine ⟨r, K1.2.1, K1.2.2.2.2.1.1, s_truth K1.2.2.2.2.1 hg (by omega) (by omega) (m.fm X1.1) (fun hd q hx hb _ => kE (by rw [hp1, hd]; rfl) q hx ((hb.wk Sr_c).pre X1.1)) (fun t ht _ _ => ⟨Or.inr rfl, ?_⟩) (fun ht _ _ => ⟨Or.inl rfl, ?_⟩)⟩
  · have l2 := d_truth_le ht
    rw [ht] at hp1
    simp only [Option.bind_some, true_and, if_true] at hp1
    rintro _ rfl
    rw [uII, rI1]
    have X2 := (X1.at (a' := t) hne).I (j := 18) (v := 1) hne
    rw [uII] at X2
    have K2 := K.cs X2
    refine ⟨fun c1 => absurd c1 (by decide), fun _ => ⟨r, K2.2.1, K2.2.2.2.2.1.1, ?_⟩⟩
    rw [K2.2.2.2.2.1.2.2.1, nI_leI (by omega) (by omega)]
    refine ⟨fun c1 => ⟨K2.1, r, K2.2.1, K2.2.2.2.2.1.1, ?_⟩, fun c1 => ?_⟩
    · rw [if_neg (by omega)] at hp1
      exact s_leave K2.2.2.2.2.1 (by omega) (by omega) (m.fm X2.1) (fun hn q hx hb _ => kE (by rw [hp1, if_neg (by omega)]) q hx ((hb.wk Sr_c).pre X2.1)) (fun e1 _ => kQ _ _ (by rw [hp1, if_pos e1]) _ (by rw [← e1]; exact X2))
    · rw [if_pos (by omega)] at hp1
      refine s_enter K2.2.2.2.2.1 hg (by omega) (by omega) (by decide) (m.fm X2.1) (fun hd q hx hb _ => kE (by rw [hp1, hd]; rfl) q hx ((hb.wk Sr_c).pre X2.1)) (fun v0 v1 hv _ => ?_)
      have l3 := d_in_le hv
      rw [hv] at hp1
      simp only [Option.bind_some] at hp1
      have X3 := X2.at (a' := v0) hne
      have K3 := K.cs X3
      generalize up_I (up_I (up_I h r 1 (nI t)) c 18 1) r 1 (nI v0) = h3 at X3 K3 ⊢
      have bad : d_cons g a e (hp_I h c) = none → m_Rd_bad (fun q1 h1 => fx_ext h3 h1 → E q1 h1) h3 := fun hd => s_bad (Sc c r) (m.fm X3.1) (fun q h1 hb _ => kE hd q h1 (hb.pre X3.1))
      refine ⟨r, K3.2.1, K3.2.2.2.2.1.1, ?_⟩
      obtain ⟨t1, t2, t3, t4, t5, t6, t7⟩ := id K3.2.2.2.2.1
      rw [t3]
      simp (disch := omega) only [lit_nI, nI_add, nI_sub, nI_mul, nI_neg, nI_leI, nI_ltI, nI_eq, nI_clamp, vp_iff, nI_negne, nI_l]
      refine ⟨fun c2 => bad (by rw [hp1, if_neg (by omega)]), fun c2 => ⟨b, K3.2.2.1, t4, by omega, fun h8 => ?_⟩⟩
      rw [show nI 0 = (0 : Int32) from rfl, b_ge0 h8, t7 _ (by omega)]
      refine ⟨fun c3 => ⟨by omega, fun _ => ?_⟩, fun c3 => bad (by rw [hp1, if_neg (by omega)])⟩
      have e8 := by8_small h8 (by rw [t7 _ (by omega)]; exact c3)
      rw [t7 _ (by omega)] at e8
      rw [e8]
      rintro _ rfl _ rfl
      have X4 := (X3.I (j := 21) (v := nI (g v0)) hne).at (a' := v1) hne
      have K4 := K.cs X4
      refine ⟨K4.1, r, K4.2.1, K4.2.2.2.2.1.1, s_leave K4.2.2.2.2.1 (by omega) (by omega) (m.fm X4.1) (fun hn q hx hb _ => kE (by rw [hp1, if_neg (by omega)]) q hx ((hb.wk Sr_c).pre X4.1)) (fun e1 _ => kQ _ _ (by rw [hp1, if_pos ⟨c2, c3, e1⟩]) _ (by rw [← e1]; exact X4))⟩
  · rw [ht] at hp1
    simp only [Option.bind_some, Bool.false_eq_true, false_and, if_false] at hp1
    rintro _ rfl
    rw [rI1]
    have X2 := X1.I (j := 18) (v := 0) hne
    have K2 := K.cs X2
    refine ⟨fun _ => ⟨K2.1, r, K2.2.1, K2.2.2.2.2.1.1, ?_⟩, fun c1 => absurd rfl c1⟩
    exact s_leave K2.2.2.2.2.1 (by omega) (by omega) (m.fm X2.1) (fun hn q hx hb _ => kE (by rw [hp1, if_neg (by omega)]) q hx ((hb.wk Sr_c).pre X2.1)) (fun e1 _ => kQ _ _ (by rw [hp1, if_pos e1]) _ (by rw [← e1]; exact X2))
