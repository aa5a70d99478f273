set_option maxRecDepth 10000
theorem d_in_mono {g : Nat → Nat} {tag a e e' : Nat} {p : Nat × Nat} (h : d_in g tag a e = some p) (he : p.2 ≤ e') : d_in g tag a e' = some p := by
  have hle := d_in_le (a' := p.1) (e' := p.2) h
  unfold d_in d_hd at *
  split at h
  · rename_i c1
    rw [if_pos ⟨by omega, c1.2⟩]
    split at h
    · rename_i c2
      rw [if_pos c2]
      split at h
      · cases h; rw [if_pos he]
      · cases h
    · rename_i c2
      rw [if_neg c2]
      split at h
      · rename_i c3
        cases h
        rw [if_pos ⟨c3.1, c3.2.1, by simp only at he; omega, c3.2.2.2.1, c3.2.2.2.2.1, he⟩]
      · cases h
  · cases h
/-- from a to z there lie parts, each with an OID in front -/
def Wk (g : Nat → Nat) : Nat → List (Nat × Nat) → Nat → Prop
  | a, [], z => a = z
  | a, o :: os, z => ∃ p, d_in g 48 a p.2 = some p ∧ d_oid g p.1 p.2 = some o ∧ Wk g p.2 os z
theorem Wk.le {g : Nat → Nat} : ∀ {os : List (Nat × Nat)} {a z : Nat}, Wk g a os z → a ≤ z
  | [], a, z, h => Nat.le_of_eq h
  | o :: os, a, z, ⟨p, h1, _, h3⟩ => by
    have := d_in_le (a' := p.1) (e' := p.2) h1
    have := Wk.le h3
    omega
theorem Wk.add {g : Nat → Nat} {o p : Nat × Nat} : ∀ {os : List (Nat × Nat)} {a z : Nat}, Wk g a os z → d_in g 48 z p.2 = some p → d_oid g p.1 p.2 = some o → Wk g a (os ++ [o]) p.2
  | [], a, z, h, h1, h2 => by
    have : a = z := h
    subst this
    exact ⟨p, h1, h2, rfl⟩
  | _ :: os, a, z, ⟨q, h3, h4, h5⟩, h1, h2 => ⟨q, h3, h4, Wk.add h5 h1 h2⟩
def dupo (g : Nat → Nat) (o t : Nat) (q : Nat × Nat) : Bool := decide (q.2 - q.1 = t - o) && allB (fun i => g (q.1 + i) == g (o + i)) 0 (t - o)
def dupB (g : Nat → Nat) (os : List (Nat × Nat)) (o t : Nat) : Bool := os.any (dupo g o t)
theorem dupB_add {g : Nat → Nat} {os : List (Nat × Nat)} {o t : Nat} {q : Nat × Nat} : dupB g (os ++ [q]) o t = (dupB g os o t || dupo g o t q) := by simp [dupB]
def b2 (b : Bool) : Int32 := if b = true then 1 else 0
theorem s_twice {Q : Int32 → AH → Prop} {E : Nat → AH → Prop} {h : AH} {c r b n a f z o t : Nat} {os : List (Nat × Nat)} {g : Nat → Nat} (K : CE h c r b n a g) (m : rm h 1 6) (hW : Wk g f os z) (hz : z ≤ n) (ha : a ≤ n) (ho : o < t) (ht : t ≤ n) (kQ : ∀ h1, CS h h1 c r a (hp_I h c) (hp_L h c) → Q (b2 (dupB g os o t)) h1) : m_Cert_twice Q E c (nI f) (nI z) (nI o) (nI (t - o)) h := by
  have hg := K.2.2.2.2.2.2
  have hne := K.ne
  have hn6 := K.2.2.2.2.1.2.2.2.2.2.1
  have hfz := hW.le
  unfold m_Cert_twice
  refine ⟨K.1, r, K.2.1, K.2.2.2.2.1.1, ?_⟩
  rw [K.2.2.2.2.1.2.2.1]
  rintro _ rfl _ rfl
  have X1 : CS h (up_I h r 1 (nI f)) c r f (hp_I h c) (hp_L h c) := (CS.rf K.2.2.2.2.1.2.2.1).at hne
  generalize up_I h r 1 (nI f) = h1 at X1 ⊢
  unfold m_Cert_twice_20
  refine ⟨fun st => ∃ dn rs cur, os = dn ++ rs ∧ Wk g cur rs z ∧ CS h st.2 c r cur (hp_I h c) (hp_L h c) ∧ st.1 = b2 (dupB g dn o t), fun st => z - (hp_I st.2 r 1).toNatClampNeg, ⟨[], os, f, rfl, hW, X1, rfl⟩, ?_⟩
  rintro ⟨fo, st⟩ ⟨dn, rs, cur, e1, hW2, X2, e2⟩
  simp only at X2 e2 ⊢
  subst e2
  have K2 := K.cs X2
  have e3 := X2.2.1
  have hcz := hW2.le
  unfold m_Cert_twice_20_b
  refine ⟨K2.1, r, K2.2.1, K2.2.2.2.2.1.1, ?_⟩
  rw [e3, nI_leI (by omega) (by omega)]
  refine ⟨fun c1 => ?_, fun c1 => ?_⟩
  · rintro _ rfl
    have hrs : rs = [] := by
      cases rs with
      | nil => rfl
      | cons q qs =>
        obtain ⟨p, p1, -, p3⟩ := hW2
        have := d_in_le (a' := p.1) (e' := p.2) p1
        have := p3.le
        omega
    subst hrs
    rw [List.append_nil] at e1
    subst e1
    exact ⟨by unfold b2; split <;> simp [zb], kQ _ (X2.at hne)⟩
  · cases rs with
    | nil => exact absurd (Nat.le_of_eq (Eq.symm hW2)) c1
    | cons q qs =>
      obtain ⟨p, p1, p2, p3⟩ := hW2
      have l1 := d_in_le (a' := p.1) (e' := p.2) p1
      have l2 := d_oid_le (f := q.1) (t := q.2) p2
      have l3 := p3.le
      have p1' := d_in_mono p1 (e' := z) l3
      refine s_enter K2.2.2.2.2.1 hg (by omega) (by omega) (by decide) (m.fm X2.1) (fun hd => by rw [p1'] at hd; cases hd) (fun a1 a2 hd _ => ?_)
      rw [p1'] at hd
      cases hd
      have X3 := X2.at (a' := a1) hne
      have K3 := K.cs X3
      generalize up_I st r 1 (nI a1) = h3 at X3 K3 ⊢
      simp only at p2 p3 l1 l2 l3
      refine ⟨r, K3.2.1, K3.2.2.2.2.1.1, s_oid K3.2.2.2.2.1 hg (by omega) (by omega) (m.fm X3.1) (fun hd => by rw [p2] at hd; cases hd) (fun q1 q2 hd _ => ?_)⟩
      rw [p2] at hd
      cases hd
      have X4 := X3.at (a' := q2) hne
      have K4 := K.cs X4
      generalize up_I h3 r 1 (nI q2) = h4 at X4 K4 ⊢
      simp only at l2
      have e4 := X4.2.1
      obtain ⟨t1, t2, t3, t4, t5, t6, t7⟩ := id K4.2.2.2.2.1
      refine ⟨r, K4.2.1, K4.2.2.2.2.1.1, ?_⟩
      rw [e4, nI_sub (by omega), nI_eq (by omega) (by omega)]
      generalize hX : (fun s' : Int32 × AH => (∃ dn rs cur, os = dn ++ rs ∧ Wk g cur rs z ∧ CS h s'.2 c r cur (hp_I h c) (hp_L h c) ∧ s'.1 = b2 (dupB g dn o t)) ∧ z - (hp_I s'.2 r 1).toNatClampNeg < z - (nI cur).toNatClampNeg) = X
      have fin : ∀ x9, x9 = b2 (dupo g o t (q1, q2)) → m_Cert_twice_126 Q E X c (nI z) (nI o) (nI (t - o)) (nI a) (b2 (dupB g dn o t)) (nI a2) x9 h4 := fun x9 hx => by
        have X5 := X4.at (a' := a2) hne
        have step : ∀ x6, x6 = b2 (dupB g (dn ++ [(q1, q2)]) o t) → X (x6, up_I h4 r 1 (nI a2)) := fun x6 hx6 => by
          rw [← hX]
          refine ⟨⟨dn ++ [(q1, q2)], qs, a2, by rw [e1]; simp, p3, X5, hx6⟩, ?_⟩
          simp only
          rw [X5.2.1, nI_clamp (by omega), nI_clamp (by omega)]
          omega
        unfold m_Cert_twice_126 m_Cert_twice_134
        refine ⟨fun c2 => ⟨K4.1, r, K4.2.1, t1, ?_⟩, fun c2 => ⟨K4.1, r, K4.2.1, t1, ?_⟩⟩
        · rintro _ rfl
          refine step _ ?_
          rw [dupB_add]
          cases hq : dupo g o t (q1, q2) with
          | true => rw [hx, hq] at c2; exact absurd c2 (by decide)
          | false => rw [Bool.or_false]
        · rintro _ rfl
          refine step _ ?_
          rw [dupB_add]
          cases hq : dupo g o t (q1, q2) with
          | true => rw [Bool.or_true]; rfl
          | false => rw [hx, hq] at c2; exact absurd rfl c2
      have lop : ∀ x9, x9 = b2 (decide (q2 - q1 = t - o)) → m_Cert_twice_74 Q E X c (nI z) (nI o) (nI (t - o)) (nI a) (b2 (dupB g dn o t)) (nI a2) (nI q1) x9 h4 := fun x9 hx => by
        unfold m_Cert_twice_74 m_Cert_twice_79
        refine ⟨fun s => ∃ k, k ≤ t - o ∧ s = (b2 (decide (q2 - q1 = t - o) && allB (fun i => g (q1 + i) == g (o + i)) 0 k), nI k, h4) ∧ (k = t - o ∨ True), fun s => t - o - s.2.1.toNatClampNeg, ⟨0, by omega, by rw [hx]; simp only [allB, Bool.and_true]; rfl, Or.inr trivial⟩, ?_⟩
        rintro _ ⟨k, hk, rfl, -⟩
        unfold m_Cert_twice_79_b m_Cert_twice_118
        simp only
        cases hb : (decide (q2 - q1 = t - o) && allB (fun i => g (q1 + i) == g (o + i)) 0 k) with
        | false =>
          refine ⟨fun _ => fin _ ?_, fun c3 => absurd rfl c3⟩
          have : dupo g o t (q1, q2) = false := by
            unfold dupo
            simp only
            cases hd : decide (q2 - q1 = t - o) with
            | false => rfl
            | true =>
              rw [hd, Bool.true_and] at hb
              rw [Bool.true_and]
              cases hq : allB (fun i => g (q1 + i) == g (o + i)) 0 (t - o) with
              | false => rfl
              | true =>
                have := allB_iff.mp hq
                rw [allB_iff.mpr (fun i hi => this i (by omega))] at hb
                cases hb
          rw [this]
        | true =>
          refine ⟨fun c3 => absurd c3 (by decide), fun _ => ?_⟩
          simp only [Bool.and_eq_true, decide_eq_true_eq] at hb
          simp (disch := omega) only [nI_leI, nI_add, nI_clamp, vp_iff]
          refine ⟨fun c4 => fin _ ?_, fun c4 => ⟨K4.1, b, K4.2.2.1, t4, by omega, fun h8 => ⟨by omega, fun h9 => ?_⟩⟩⟩
          · have : k = t - o := by omega
            subst this
            unfold dupo
            simp only [hb.1, hb.2, decide_true, Bool.and_self]
          · rw [b_inj h8 h9, t7 _ (by omega), t7 _ (by omega)]
            refine ⟨fun c5 => ?_, fun c5 => ?_⟩
            · rintro _ rfl
              refine ⟨⟨k + 1, by omega, ?_, Or.inr trivial⟩, ?_⟩
              · have : (g (q1 + (0 + k)) == g (o + (0 + k))) = false := by rw [Nat.zero_add]; exact beq_eq_false_iff_ne.mpr c5
                simp only [allB, this, Bool.and_false]
                rw [nI_1]
                rfl
              · simp (disch := omega) only [lit_nI, nI_add, nI_clamp]
                omega
            · rintro _ rfl
              refine ⟨⟨k + 1, by omega, ?_, Or.inr trivial⟩, ?_⟩
              · have : (g (q1 + (0 + k)) == g (o + (0 + k))) = true := by rw [Nat.zero_add]; exact beq_iff_eq.mpr c5
                simp only [allB, this, Bool.and_true, hb.2, hb.1, decide_true]
                rw [nI_1]
                rfl
              · simp (disch := omega) only [lit_nI, nI_add, nI_clamp]
                omega
      refine ⟨fun c2 => lop _ (by rw [decide_eq_false c2]; rfl), fun c2 => lop _ (by rw [decide_eq_true c2]; rfl)⟩
