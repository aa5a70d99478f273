set_option maxRecDepth 10000
def d_which (g : Nat → Nat) (o : Nat × Nat) : Nat := if d_is g (ko 1) 3 o.1 o.2 = true then 1 else if d_is g (ko 2) 3 o.1 o.2 = true then 2 else if d_is g (ko 3) 3 o.1 o.2 = true then 3 else if d_is g (ko 4) 3 o.1 o.2 = true then 4 else 0
def d_exw (g : Nat → Nat) (w : Nat) (v : Nat × Nat) (crit : Bool) (F : Nat → Int32) : Option (Nat × (Nat → Int32)) := if w = 1 then d_cons g v.1 v.2 F else if w = 2 then d_usage g v.1 v.2 F else if w = 3 then d_hosts g v.1 v.2 F else if w = 4 then d_purp g v.1 v.2 F else some (v.2, if crit = true then up F 19 1 else F)
def d_ex2 (g : Nat → Nat) (w a e : Nat) (F : Nat → Int32) : Option (Nat × (Nat → Int32)) := (d_truth g a e).bind fun t => (d_in g 4 t.2 e).bind fun v => (d_exw g w v t.1 F).bind fun r => if r.1 = v.2 ∧ v.2 = e then some (e, r.2) else none
def d_ext (g : Nat → Nat) (a e : Nat) (os : List (Nat × Nat)) (F : Nat → Int32) : Option (Nat × (Nat × Nat) × (Nat → Int32)) := (d_in g 48 a e).bind fun p => (d_oid g p.1 p.2).bind fun o => if dupB g os o.1 o.2 = true then none else (d_ex2 g (d_which g o) o.2 p.2 F).bind fun r => some (r.1, o, r.2)
def d_exl (g : Nat → Nat) (e : Nat) : Nat → Nat → List (Nat × Nat) → (Nat → Int32) → Option (Nat × (Nat → Int32))
  | 0, _, _, _ => none
  | k + 1, a, os, F => if a < e then (d_ext g a e os F).bind fun r => d_exl g e k r.1 (os ++ [r.2.1]) r.2.2 else some (a, F)
def d_ex0 (F : Nat → Int32) : Nat → Int32 := up (up (up (up (up (up (up (up (up F 18 0) 19 0) 21 (-1)) 22 (-1)) 23 (-1)) 26 0) 24 0) 25 0) 27 0
def d_exts (g : Nat → Nat) (a e : Nat) (F : Nat → Int32) : Option (Nat × (Nat → Int32)) := if a = e then some (a, d_ex0 F) else (d_in g 163 a e).bind fun x => (d_in g 48 x.1 x.2).bind fun l => if l.1 = l.2 then none else (d_exl g l.2 (l.2 + 1) l.1 [] (d_ex0 F)).bind fun r => if r.1 = x.2 then some r else none
theorem d_cons_e {g : Nat → Nat} {a e a' : Nat} {F F' : Nat → Int32} (h : d_cons g a e F = some (a', F')) : a' ≤ e := by
  unfold d_cons at h
  cases h1 : d_in g 48 a e with
  | none => rw [h1] at h; cases h
  | some p =>
  rw [h1] at h
  simp only [Option.bind_some] at h
  have l1 := d_in_le (a' := p.1) (e' := p.2) h1
  cases h2 : d_truth g p.1 p.2 with
  | none => rw [h2] at h; cases h
  | some t =>
  rw [h2] at h
  simp only [Option.bind_some] at h
  split at h
  · cases h3 : d_in g 2 t.2 p.2 with
    | none => rw [h3] at h; cases h
    | some v =>
    rw [h3] at h
    simp only [Option.bind_some] at h
    split at h
    · cases h; omega
    · cases h
  · split at h
    · cases h; omega
    · cases h
theorem d_usage_e {g : Nat → Nat} {a e a' : Nat} {F F' : Nat → Int32} (h : d_usage g a e F = some (a', F')) : a' ≤ e := by
  unfold d_usage at h
  cases h1 : d_in g 3 a e with
  | none => rw [h1] at h; cases h
  | some p =>
  rw [h1] at h
  simp only [Option.bind_some] at h
  have l1 := d_in_le (a' := p.1) (e' := p.2) h1
  split at h
  · cases h; omega
  · cases h
theorem s_ext251 {Q : AH → Prop} {E : Nat → AH → Prop} {h : AH} {c r b n a v e : Nat} {g : Nat → Nat} (K : CE h c r b n a g) (m : rm h 1 6) (ha : a ≤ n) (hv : v ≤ n) (he : e ≤ n) (kE : ¬ (a = v ∧ v = e) → ∀ q h1, bx 14 (Sc c r) h h1 q → E q h1) (kQ : a = v ∧ v = e → Q h) : m_Cert_extension_251 Q E c (nI e) (nI v) h := by
  unfold m_Cert_extension_251
  refine ⟨K.1, r, K.2.1, K.2.2.2.2.1.1, s_leave K.2.2.2.2.1 hv ha m (fun hn q hx hb _ => kE (fun w => hn w.1) q hx (hb.wk Sr_c)) (fun e1 _ => ?_)⟩
  subst e1
  exact ⟨r, K.2.1, K.2.2.2.2.1.1, s_leave K.2.2.2.2.1 he ha m (fun hn q hx hb _ => kE (fun w => hn w.2) q hx (hb.wk Sr_c)) (fun e2 _ => kQ ⟨rfl, e2⟩)⟩
theorem s_ex2 {Q : AH → Prop} {E : Nat → AH → Prop} {h : AH} {c r b n a e w : Nat} {g : Nat → Nat} (K : CE h c r b n a g) (m : rm h 1 6) (he : e ≤ n) (ha : a ≤ n) (hw : w ≤ 4) (kE : d_ex2 g w a e (hp_I h c) = none → ∀ q h1, bx 14 (Sc c r) h h1 q → E q h1) (kQ : ∀ z F', d_ex2 g w a e (hp_I h c) = some (z, F') → ∀ h1, CS h h1 c r z F' (hp_L h c) → Q h1) : m_Cert_extension_137 Q E c (nI e) (nI w) h := by
  have hg := K.2.2.2.2.2.2
  have hne := K.ne
  have hn6 := K.2.2.2.2.1.2.2.2.2.2.1
  have X0 : CS h h c r a (hp_I h c) (hp_L h c) := CS.rf K.2.2.2.2.1.2.2.1
  unfold m_Cert_extension_137
  have cont : ∀ (crit : Bool) (a1 : Nat) (h1 : AH) (v1 : Int32), v1 = b2 crit → d_truth g a e = some (crit, a1) → a1 ≤ n → CS h h1 c r a1 (hp_I h c) (hp_L h c) → ∃ b2, hp_R h1 c 1 = some b2 ∧ hp_k h1 b2 = 9 ∧ m_Rd_enter (fun v2 h2 => fx_ext h1 h2 → (nI w = (1 : Int32) → m_Cert_extension_196 Q E c (nI e) v2 h2) ∧ (nI w = (2 : Int32) → m_Cert_extension_205 Q E c (nI e) v2 h2) ∧ (nI w = (3 : Int32) → m_Cert_extension_214 Q E c (nI e) v2 h2) ∧ (nI w = (4 : Int32) → m_Cert_extension_223 Q E c (nI e) v2 h2) ∧ ((∀ k ∈ ([(1 : Int32), (2 : Int32), (3 : Int32), (4 : Int32)] : List Int32), ¬ nI w = k) → m_Cert_extension_232 Q E c (nI e) v1 v2 h2)) (fun a ht => fx_ext h1 ht → E a ht) b2 (4 : Int32) (nI e) h1 := by
    intro crit a1 h1 v1 hv1 ht ha1 X1
    have K1 := K.cs X1
    have hp : d_ex2 g w a e (hp_I h c) = (d_in g 4 a1 e).bind fun v => (d_exw g w v crit (hp_I h c)).bind fun r => if r.1 = v.2 ∧ v.2 = e then some (e, r.2) else none := by unfold d_ex2; rw [ht]; rfl
    refine ⟨r, K1.2.1, K1.2.2.2.2.1.1, s_enter K1.2.2.2.2.1 hg he ha1 (by decide) (m.fm X1.1) (fun hd q hx hb _ => kE (by rw [hp, hd]; rfl) q hx ((hb.wk Sr_c).pre X1.1)) (fun p0 p1 hd _ => ?_)⟩
    have l1 := d_in_le hd
    rw [hd] at hp
    simp only [Option.bind_some] at hp
    have X2 := X1.at (a' := p0) hne
    have K2 := K.cs X2
    generalize up_I h1 r 1 (nI p0) = h2 at X2 K2 ⊢
    have e2 := X2.2.2.1
    have e3 := X2.2.2.2.1
    have bE : d_exw g w (p0, p1) crit (hp_I h2 c) = none → ∀ q hx, bx 14 (Sc c r) h2 hx q → E q hx := fun hn q hx hb => kE (by rw [hp, ← e2, hn]; rfl) q hx (hb.pre X2.1)
    have fin : ∀ a' F', d_exw g w (p0, p1) crit (hp_I h2 c) = some (a', F') → a' ≤ n → ∀ h3, CS h2 h3 c r a' F' (hp_L h2 c) → m_Cert_extension_251 Q E c (nI e) (nI p1) h3 := fun a' F' hr hl h3 X3 => by
      have X4 := X2.tr X3
      have hp2 : d_ex2 g w a e (hp_I h c) = if a' = p1 ∧ p1 = e then some (e, F') else none := by rw [hp, ← e2, hr]; rfl
      exact s_ext251 (K.cs X4) (m.fm X4.1) hl (by omega) (by omega) (fun hn q hx hb => kE (by rw [hp2, if_neg hn]) q hx (hb.pre X4.1)) (fun hy => kQ e F' (by rw [hp2, if_pos hy]) h3 (by rw [← hy.2, ← hy.1, ← e3]; rw [← hy.2, ← hy.1] at *; exact ⟨X4.1, X4.2.1, X4.2.2.1, X4.2.2.2.1, X4.2.2.2.2⟩))
    have l2 : p1 ≤ n := by omega
    obtain rfl | rfl | rfl | rfl | rfl : w = 0 ∨ w = 1 ∨ w = 2 ∨ w = 3 ∨ w = 4 := by omega
    · refine ⟨fun c => absurd c (by decide), fun c => absurd c (by decide), fun c => absurd c (by decide), fun c => absurd c (by decide), fun _ => ?_⟩
      unfold m_Cert_extension_232 m_Cert_extension_242
      cases crit with
      | false =>
        subst hv1
        refine ⟨fun _ => ⟨K2.1, r, K2.2.1, K2.2.2.2.2.1.1, ?_⟩, fun c => absurd rfl c⟩
        rintro _ rfl
        exact fin p1 _ rfl (by omega) _ ((CS.rf K2.2.2.2.2.1.2.2.1).at hne)
      | true =>
        subst hv1
        refine ⟨fun c => absurd c (by decide), fun _ => ⟨K2.1, ?_⟩⟩
        rintro _ rfl
        have K3 := K2.I (j := 19) (v := 1)
        refine ⟨K3.1, r, K3.2.1, K3.2.2.2.2.1.1, ?_⟩
        rintro _ rfl
        exact fin p1 _ rfl (by omega) _ (((CS.rf K2.2.2.2.2.1.2.2.1).I hne).at hne)
    · refine ⟨fun _ => ⟨K2.1, ?_⟩, fun c => absurd c (by decide), fun c => absurd c (by decide), fun c => absurd c (by decide), fun c => absurd rfl (c 1 (by simp))⟩
      exact s_cons K2 (m.fm X2.1) (by omega) (by omega) (fun hn q hx hb _ => bE hn q hx hb) (fun a' F' hr h3 X3 _ => fin a' F' hr (by have := d_cons_e hr; omega) h3 X3)
    · refine ⟨fun c => absurd c (by decide), fun _ => ⟨K2.1, ?_⟩, fun c => absurd c (by decide), fun c => absurd c (by decide), fun c => absurd rfl (c 2 (by simp))⟩
      exact s_usage K2 (m.fm X2.1) (by omega) (by omega) (fun hn q hx hb _ => bE hn q hx hb) (fun a' F' hr h3 X3 _ => fin a' F' hr (by have := d_usage_e hr; omega) h3 X3)
    · refine ⟨fun c => absurd c (by decide), fun c => absurd c (by decide), fun _ => ⟨K2.1, ?_⟩, fun c => absurd c (by decide), fun c => absurd rfl (c 3 (by simp))⟩
      exact s_hosts K2 (m.fm X2.1) (by omega) (by omega) (fun hn q hx hb _ => bE hn q hx hb) (fun a' F' hr hl h3 X3 _ => fin a' F' hr (by omega) h3 X3)
    · refine ⟨fun c => absurd c (by decide), fun c => absurd c (by decide), fun c => absurd c (by decide), fun _ => ⟨K2.1, ?_⟩, fun c => absurd rfl (c 4 (by simp))⟩
      exact s_purp K2 (m.fm X2.1) (by omega) (by omega) (fun hn q hx hb _ => bE hn q hx hb) (fun a' F' hr hl h3 X3 _ => fin a' F' hr (by omega) h3 X3)
  refine ⟨K.1, r, K.2.1, K.2.2.2.2.1.1, s_truth K.2.2.2.2.1 hg he ha m (fun hd q hx hb _ => kE (by unfold d_ex2; rw [hd]; rfl) q hx (hb.wk Sr_c)) (fun t ht _ _ => ?_) (fun ht _ _ => ?_)⟩
  · have l := d_truth_le ht
    exact cont true t _ 1 rfl ht (by omega) (X0.at hne)
  · exact cont false a _ 0 rfl ht ha X0
