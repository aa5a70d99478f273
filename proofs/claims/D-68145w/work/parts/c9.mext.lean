set_option maxRecDepth 10000
theorem OS.l {h0 h : AH} {m o : Nat} {l : List Nat} (O : OS h0 h m o l) : hp_I h m 47 = nI l.length := O.2.2.2.2.2.2.1
theorem OS.fr {h0 h : AH} {m o a : Nat} {l : List Nat} (O : OS h0 h m o l) (h1 : a ≠ m) (h2 : a ≠ o) : hp_k h a = hp_k h0 a ∧ hp_n h a = hp_n h0 a ∧ hp_I h a = hp_I h0 a ∧ hp_R h = hp_R h0 := by
  obtain ⟨o1, o2, -⟩ := O
  exact ⟨by rw [o1.2.1], by rw [o1.2.2.1], funext fun j => (o1.1 a j (fun q => by rcases q with q | q; exact h1 q.1; exact h2 q)).1, o2⟩
theorem OS.mf {h0 h : AH} {m o : Nat} {l : List Nat} (O : OS h0 h m o l) {j : Nat} (hj : j ≠ 47) : hp_I h m j = hp_I h0 m j := (O.1.1 m j (fun q => by rcases q with q | q; exact hj q.2; exact O.k.2.2.2.2 q)).1
theorem s_oputS {Q : AH → Prop} {h0 h : AH} {m o u : Nat} {v : Int32} {l : List Nat} (O : OS h0 h m o l) (hl : l.length < 139990) (hv : ub v.toInt8.toInt32 = u) (k : ∀ h1, OS h0 h1 m o (l ++ [u]) → Q h1) : m_M_put_I Q m v h := s_oput O hl (Or.inl rfl) hv k
theorem s_oputJS {Q : AH → Prop} {h0 h : AH} {m o n : Nat} {w : Int64} {f : Nat → Nat} {l : List Nat} (O : OS h0 h m o l) (hl : l.length + n < 139990) (hn : n ≤ 8) (ho : ∀ i, i < n → ((sh_lr w (nI (8 * (n - 1 - i)))) &&& 255).toInt32 = nI (f i) ∧ f i < 256) (k : ∀ h1, OS h0 h1 m o (l ++ e_sub f 0 n) → Q h1) : m_M_put_IJ Q m (nI n) w h := s_oputJ O hl (Or.inl rfl) hn ho k
def g0101 (i : Nat) : Nat := if i = 2 then 255 else 1
theorem g0101_ok : ∀ i, i < 3 → ((sh_lr (66047 : Int64) (nI (8 * (3 - 1 - i)))) &&& 255).toInt32 = nI (g0101 i) ∧ g0101 i < 256 := by decide +kernel
theorem s_oext {Q : AH → Prop} {h0 h : AH} {m o i fr : Nat} {w : Int64} {x5 : Int32} {crit : Bool} {p c : List Nat} (O : OS h0 h m o (p ++ c)) (hfr : fr = p.length) (hl : p.length + c.length < 139800) (hx : x5 = b2 crit) (hk : kl i = 3) (ho : ∀ j, j < 3 → ((sh_lr w (nI (8 * (3 - 1 - j)))) &&& 255).toInt32 = nI (ko i j) ∧ ko i j < 256) (k : ∀ h1, OS h0 h1 m o (p ++ e_ext i crit c) → Q h1) : m_M_extended Q m (nI fr) 3 w x5 h := by
  subst hfr
  have e5 := e_tlv_le (t := 4) (c := c)
  refine ⟨O.k.1, s_owrap (tag := 4) O rfl (by omega) (by decide) (fun h1 O1 _ => ?_)⟩
  generalize hd : e_tlv 4 c = d at O1 e5
  have O3 : hp_k h0 m = 13 ∧ hp_R h0 m 46 = some o ∧ hp_k h0 o = 101 ∧ hp_n h0 o = 140000 := ⟨O1.2.2.1, O1.2.2.2.1, O1.2.2.2.2.1, O1.2.2.2.2.2.1⟩
  have l1 : hp_I h1 m 47 = nI (p.length + d.length) := by rw [← List.length_append]; exact O1.l
  rw [l1, nI_sub (by omega), Nat.add_sub_cancel_left]
  rintro _ rfl
  have go : ∀ x, (x = if crit = true then 3 else 0) → m_M_extended_27 Q m (nI p.length) 3 w x5 (nI d.length) (2 + 3) (nI x) h1 := fun x hxx => by
    have hx3 : x ≤ 3 := by rw [hxx]; split <;> decide
    unfold m_M_extended_27
    rw [show (2 : Int32) + 3 = nI 5 from by decide, nI_add]
    rintro _ rfl
    refine ⟨O1.k.1, ?_⟩
    rw [l1]
    rintro _ rfl
    refine ⟨fun s => ∃ j, j ≤ d.length ∧ s.1 = nI (p.length + j) - 1 ∧ SHF h0 s.2 m o p d (5 + x) j, fun s => (s.1 + 1).toNatClampNeg, ⟨d.length, Nat.le_refl _, rfl, SHF.of O1⟩, ?_⟩
    rintro ⟨v, s⟩ ⟨j, hj, hv, S⟩
    simp only at hv S ⊢
    subst hv
    have ks : hp_k s m = 13 ∧ hp_R s m 46 = some o ∧ hp_k s o = 101 ∧ hp_n s o = 140000 := ⟨by rw [S.1.2.1]; exact O3.1, by rw [S.2.1]; exact O3.2.1, by rw [S.1.2.1]; exact O3.2.2.1, by rw [S.1.2.2.1]; exact O3.2.2.2⟩
    cases j with
    | succ j =>
      rw [show (1 : Int32) = nI 1 from rfl, nI_sub (by omega), show p.length + (j + 1) - 1 = p.length + j by omega]
      unfold m_M_extended_38_b
      rw [nI_ltI (by omega) (by omega)]
      refine ⟨fun c' => by omega, fun _ => ⟨ks.1, o, ks.2.1, Or.inl ks.2.2.1, by rw [ks.2.2.2, vp_iff (by omega)]; omega, fun h8 => ⟨ks.2.2.1, ?_⟩⟩⟩
      rw [nI_add, nI_clamp (by omega), nI_clamp (by omega), ks.2.2.2, vp_iff (by omega)]
      refine ⟨by omega, ?_⟩
      rw [nI_clamp (by omega)] at h8
      rintro _ rfl _ rfl
      refine ⟨⟨j, by omega, dec1 _, ?_⟩, ?_⟩
      · rw [cut_id h8, show p.length + j + (5 + x) = p.length + (5 + x) + j by omega]
        exact S.step (by omega) hj (S.2.2.2.1 j (by omega))
      · simp only
        rw [dec1b, nI_add, nI_clamp (by omega), nI_clamp (by omega)]
        omega
    | zero =>
      have stop : nI (p.length + 0) - 1 < nI p.length := by
        by_cases hp : p.length = 0
        · rw [hp]; decide
        · rw [show (1 : Int32) = nI 1 from rfl, nI_sub (by omega), nI_ltI (by omega) (by omega)]; omega
      unfold m_M_extended_38_b
      refine ⟨fun _ => ⟨ks.1, ?_⟩, fun c' => absurd stop c'⟩
      rintro h2 hh2
      have T2 : OT h0 h2 m o p (p.length + (5 + x)) d := S.back O3 (by omega) hh2
      refine s_oput (u := 6) T2 (by omega) (Or.inr (by omega)) (by decide) (fun h3 T3 _ => ?_)
      have q3 : (p ++ [6]).length = p.length + 1 := by simp
      refine s_oput (u := 3) T3 (by omega) (Or.inr (by omega)) (by decide) (fun h4 T4 _ => ?_)
      have q4 : (p ++ [6] ++ [3]).length = p.length + 2 := by simp
      refine s_oputJ (n := 3) (f := ko i) T4 (by omega) (Or.inr (by omega)) (by decide) ho (fun h5 T5 _ => ?_)
      have q5 : (p ++ [6] ++ [3] ++ e_sub (ko i) 0 3).length = p.length + 5 := by rw [List.length_append, q4, e_sub_len]
      have fin : ∀ h6 y, y.length = x → y = (if crit = true then [1, 1, 255] else []) → OT h0 h6 m o (p ++ [6] ++ [3] ++ e_sub (ko i) 0 3 ++ y) (p.length + (5 + x)) d → m_M_extended_102 Q m (nI p.length) (nI d.length) (nI (5 + x)) h6 := fun h6 y hyl hy T6 => by
        have q6 : (p ++ [6] ++ [3] ++ e_sub (ko i) 0 3 ++ y).length = p.length + (5 + x) := by rw [List.length_append, q5, hyl]; omega
        refine ⟨T6.k.1, ?_⟩
        rw [nI_add, nI_add]
        rintro h7 hh7
        rw [← q6] at T6
        have J := T6.join (h1 := h7) (by rw [hh7, q6])
        refine s_owrap (tag := 48) (p := p) (c := [6] ++ ([3] ++ (e_sub (ko i) 0 3 ++ (y ++ d)))) (by simpa using J) rfl (by simp only [List.length_append, List.length_cons, List.length_nil, e_sub_len]; omega) (by decide) (fun h8 O8 _ => k h8 ?_)
        have e6 : e_tlv 6 (e_oid i) = [6] ++ ([3] ++ e_sub (ko i) 0 3) := by
          unfold e_tlv e_oid
          rw [hk, e_sub_len]
          rfl
        unfold e_ext
        rw [e6, ← hy, hd]
        simpa using O8
      have e3 : e_sub g0101 0 3 = [1, 1, 255] := by decide
      subst hx
      cases crit with
      | false =>
        have hx0 : x = 0 := by rw [hxx]; rfl
        subst hx0
        exact ⟨fun _ => fin h5 [] rfl rfl (by simpa using T5), fun c' => absurd rfl c'⟩
      | true =>
        have hx0 : x = 3 := by rw [hxx]; rfl
        subst hx0
        refine ⟨fun c' => absurd c' (by decide), fun _ => s_oputJ (n := 3) (f := g0101) T5 (by omega) (Or.inr (by omega)) (by decide) g0101_ok (fun h6 T6 _ => fin h6 [1, 1, 255] rfl rfl ?_)⟩
        rw [e3] at T6
        exact T6
  subst hx
  cases crit with
  | false => exact ⟨fun _ => go 0 rfl, fun c' => absurd rfl c'⟩
  | true => exact ⟨fun c' => absurd c' (by decide), fun _ => go 3 rfl⟩
def e_alg : List Nat := e_tlv 48 (e_tlv 6 (e_oid 8))
def g300A (i : Nat) : Nat := if i = 0 then 48 else if i = 1 then 10 else if i = 2 then 6 else 8
theorem g300A_ok : ∀ i, i < 4 → ((sh_lr (805963272 : Int64) (nI (8 * (4 - 1 - i)))) &&& 255).toInt32 = nI (g300A i) ∧ g300A i < 256 := by decide +kernel
theorem e_alg_eq : e_sub g300A 0 4 ++ e_sub (ko 8) 0 8 = e_alg := by decide +kernel
theorem s_oalg {Q : AH → Prop} {h0 h : AH} {m o : Nat} {l : List Nat} (O : OS h0 h m o l) (hl : l.length < 139900) (k : ∀ h1, OS h0 h1 m o (l ++ e_alg) → Q h1) : m_M_putAlgorithm Q m h := by
  refine ⟨O.k.1, s_oputJS (n := 4) O (by omega) (by decide) g300A_ok (fun h1 O1 _ => s_oputJS (n := 8) O1 (by rw [List.length_append, e_sub_len]; omega) (by decide) ko8 (fun h2 O2 _ => k h2 ?_))⟩
  rw [← e_alg_eq, ← List.append_assoc]
  exact O2
theorem s_otwo {Q : AH → Prop} {h0 h : AH} {m o n : Nat} {l : List Nat} (O : OS h0 h m o l) (hn : n < 100) (hl : l.length < 139900) (k : ∀ h1, OS h0 h1 m o (l ++ e_two n) → Q h1) : m_M_putTwo Q m (nI n) h := by
  refine ⟨O.k.1, ?_⟩
  rw [show (10 : Int32) = nI 10 from rfl, show (48 : Int32) = nI 48 from rfl, nI_div (by omega) (by omega), nI_div (by omega) (by omega), nI_mul, nI_mul, nI_sub (by omega), nI_sub (by omega), nI_add, nI_add]
  refine s_oputS (u := 48 + n / 10) O (by omega) (by rw [cut_nI]; omega) (fun h1 O1 _ => s_oputS (u := 48 + n % 10) O1 (by simp; omega) (by rw [cut_nI]; omega) (fun h2 O2 _ => k h2 ?_))
  simpa [e_two] using O2
