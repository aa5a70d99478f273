set_option maxRecDepth 10000
/-! SHA-256, plain -/
abbrev T8 : Type := Int32 × Int32 × Int32 × Int32 × Int32 × Int32 × Int32 × Int32
def rr (x n : Int32) : Int32 := sh_iu x n ||| (x <<< ((-n) &&& 31))
def hK (k : Nat) : Int32 := (sh_lu (k_roots.getD k 0) 32).toInt32
def hH (k : Nat) : Int32 := (sh_lu (k_first.getD k 0) 32).toInt32
def hs0 (x : Int32) : Int32 := (rr x 7 ^^^ rr x 18) ^^^ sh_iu x 3
def hs1 (x : Int32) : Int32 := (rr x 17 ^^^ rr x 19) ^^^ sh_iu x 10
def h_sp : Nat → (Nat → Int32) → (Nat → Int32)
  | 0, w => w
  | n + 1, w => up (h_sp n w) (16 + n) (((h_sp n w n + hs0 (h_sp n w (n + 1))) + h_sp n w (n + 9)) + hs1 (h_sp n w (n + 14)))
def h_t1 (kk w : Int32) (s : T8) : Int32 := (((s.2.2.2.2.2.2.2 + ((rr s.2.2.2.2.1 6 ^^^ rr s.2.2.2.2.1 11) ^^^ rr s.2.2.2.2.1 25)) + ((s.2.2.2.2.1 &&& s.2.2.2.2.2.1) ^^^ ((s.2.2.2.2.1 ^^^ (-1)) &&& s.2.2.2.2.2.2.1))) + kk) + w
def h_t2 (s : T8) : Int32 := ((rr s.1 2 ^^^ rr s.1 13) ^^^ rr s.1 22) + (((s.1 &&& s.2.1) ^^^ (s.1 &&& s.2.2.1)) ^^^ (s.2.1 &&& s.2.2.1))
def h_st (kk w : Int32) (s : T8) : T8 := (h_t1 kk w s + h_t2 s, s.1, s.2.1, s.2.2.1, s.2.2.2.1 + h_t1 kk w s, s.2.2.2.2.1, s.2.2.2.2.2.1, s.2.2.2.2.2.2.1)
def h_rnd (w : Nat → Int32) : Nat → T8 → T8
  | 0, s => s
  | k + 1, s => h_st (hK k) (w k) (h_rnd w k s)
def t8 (s : T8) (j : Nat) : Int32 := if j = 0 then s.1 else if j = 1 then s.2.1 else if j = 2 then s.2.2.1 else if j = 3 then s.2.2.2.1 else if j = 4 then s.2.2.2.2.1 else if j = 5 then s.2.2.2.2.2.1 else if j = 6 then s.2.2.2.2.2.2.1 else s.2.2.2.2.2.2.2
def h_8 (s : Nat → Int32) : T8 := (s 0, s 1, s 2, s 3, s 4, s 5, s 6, s 7)
def h_cmp (s w : Nat → Int32) (j : Nat) : Int32 := s j + t8 (h_rnd (h_sp 48 w) 64 (h_8 s)) j
/-- the words of a block; the state behind so many blocks; its bytes -/
def h_wd (T : Nat → Nat) (b : Nat) (k : Nat) : Int32 := nI (d_num T (64 * b + 4 * k) 4)
def h_state (T : Nat → Nat) : Nat → Nat → Int32
  | 0 => hH
  | b + 1 => h_cmp (h_state T b) (h_wd T b)
theorem h_sp_cg {w w' : Nat → Int32} (h : ∀ j, j < 16 → w j = w' j) : ∀ n j, j < 16 + n → h_sp n w j = h_sp n w' j
  | 0, j, hj => h j hj
  | n + 1, j, hj => by
    have ih := h_sp_cg h n
    simp only [h_sp]
    unfold up
    by_cases hc : j = 16 + n
    · rw [if_pos hc, if_pos hc, ih n (by omega), ih (n + 1) (by omega), ih (n + 9) (by omega), ih (n + 14) (by omega)]
    · rw [if_neg hc, if_neg hc]
      exact ih j (by omega)
theorem h_rnd_cg {w w' : Nat → Int32} {s : T8} : ∀ n, (∀ j, j < n → w j = w' j) → h_rnd w n s = h_rnd w' n s
  | 0, _ => rfl
  | n + 1, h => by
    simp only [h_rnd]
    rw [h_rnd_cg n (fun j hj => h j (by omega)), h n (by omega)]
theorem h_cmp_cg {s s' w w' : Nat → Int32} (hs : ∀ j, j < 8 → s j = s' j) (h : ∀ j, j < 16 → w j = w' j) : ∀ j, j < 8 → h_cmp s w j = h_cmp s' w' j := fun j hj => by
  unfold h_cmp h_8
  rw [hs j hj, hs 0 (by decide), hs 1 (by decide), hs 2 (by decide), hs 3 (by decide), hs 4 (by decide), hs 5 (by decide), hs 6 (by decide), hs 7 (by decide), h_rnd_cg 64 (fun j hj => h_sp_cg h 48 j (by omega))]
theorem d_num_cg {g g' : Nat → Nat} {a a' : Nat} : ∀ {k : Nat}, (∀ i, i < k → g (a + i) = g' (a' + i)) → d_num g a k = d_num g' a' k
  | 0, _ => rfl
  | k + 1, h => by
    simp only [d_num]
    rw [d_num_cg (k := k) (fun i hi => h i (by omega)), h k (by omega)]
/-! the component's digest: cell d, gathered gb, state hb, words wb -/
def DC (h : AH) (d gb hb wb : Nat) : Prop := hp_k h d = 6 ∧ hp_R h d 0 = some hb ∧ hp_R h d 1 = some wb ∧ hp_R h d 4 = some gb ∧ hp_k h gb = 101 ∧ hp_n h gb = 64 ∧ hp_k h hb = 102 ∧ hp_n h hb = 8 ∧ hp_k h wb = 102 ∧ hp_n h wb = 64 ∧ hb ≠ wb ∧ hp_I h d 3 = 64 ∧ hp_I h d 2 = 32
def Sd (d gb hb wb : Nat) : Nat → Nat → Prop := fun a j => (a = d ∧ 5 ≤ j) ∨ a = gb ∨ a = hb ∨ a = wb
/-- only ints of S's cells are written, and longs of d -/
def fmR (h h1 : AH) : Prop := hp_R h1 = hp_R h
theorem DC.fm {h h1 : AH} {d gb hb wb : Nat} (D : DC h d gb hb wb) (x : fm (Sd d gb hb wb) h h1) (r : fmR h h1) : DC h1 d gb hb wb := by
  obtain ⟨d1, d2, d3, d4, d5, d6, d7, d8, d9, d10, d11, d12, d13⟩ := D
  obtain ⟨x1, x2, x3, -⟩ := x
  have n1 : ∀ j, j < 5 → ¬ Sd d gb hb wb d j := fun j hj q => by
    rcases q with q | rfl | rfl | rfl
    · omega
    · omega
    · omega
    · omega
  unfold fmR at r
  exact ⟨by rw [x2]; exact d1, by rw [r]; exact d2, by rw [r]; exact d3, by rw [r]; exact d4, by rw [x2]; exact d5, by rw [x3]; exact d6, by rw [x2]; exact d7, by rw [x3]; exact d8, by rw [x2]; exact d9, by rw [x3]; exact d10, d11, by rw [(x1 d 3 (n1 3 (by decide))).1]; exact d12, by rw [(x1 d 2 (n1 2 (by decide))).1]; exact d13⟩
theorem s_rr {Q : Int32 → AH → Prop} {x n : Int32} {h : AH} (k : Q (rr x n) h) : m_Int_rotateRight Q x n h := k
theorem s_spread2 {Q : AH → Prop} {h : AH} {d gb hb wb : Nat} (D : DC h d gb hb wb) (kQ : ∀ h1, fm (fun a _ => a = wb) h h1 → fmR h h1 → hp_I h1 wb = h_sp 48 (hp_I h wb) → Q h1) : m_Sha_spread_34 Q d 16 h := by
  obtain ⟨d1, d2, d3, d4, d5, d6, d7, d8, d9, d10, d11, d12, d13⟩ := D
  have hdw : d ≠ wb := k_ne d1 d9 (by decide)
  refine ⟨fun s => ∃ n, n ≤ 48 ∧ s.1 = nI (16 + n) ∧ fm (fun a _ => a = wb) h s.2 ∧ fmR h s.2 ∧ hp_I s.2 wb = h_sp n (hp_I h wb), fun s => 64 - s.1.toNatClampNeg, ⟨0, by decide, rfl, fm.rf, rfl, rfl⟩, ?_⟩
  rintro ⟨v, s⟩ ⟨n, hn, hv, F, R, hw⟩
  simp only at hv F R hw ⊢
  subst hv
  unfold m_Sha_spread_34_b
  rw [show (64 : Int32) = nI 64 from rfl, nI_leI (by omega) (by omega)]
  refine ⟨fun c => ?_, fun c => ⟨by rw [F.2.1]; exact d1, wb, by rw [R]; exact d3, Or.inl (by rw [F.2.1]; exact d9), ?_⟩⟩
  · have : n = 48 := by omega
    subst this
    exact kQ s F R hw
  rw [F.2.2.1, d10, show (15 : Int32) = nI 15 from rfl, show (2 : Int32) = nI 2 from rfl, show (16 : Int32) = nI 16 from rfl, nI_sub (by omega), nI_sub (by omega), nI_sub (by omega), nI_clamp (by omega), nI_clamp (by omega), vp_iff (by omega), vp_iff (by omega), hw]
  refine ⟨by omega, ?_⟩
  rintro _ rfl
  refine ⟨by omega, ?_⟩
  rintro _ rfl
  refine s_rr (fun _ => s_rr (fun _ => ?_))
  rintro _ rfl
  refine s_rr (fun _ => s_rr (fun _ => ?_))
  rintro _ rfl
  refine ⟨wb, by rw [R]; exact d3, Or.inl (by rw [F.2.1]; exact d9), ?_⟩
  rw [F.2.2.1, d10, F.2.1, show (7 : Int32) = nI 7 from rfl, nI_sub (by omega), nI_clamp (by omega), nI_clamp (by omega), nI_clamp (by omega), vp_iff (by omega), vp_iff (by omega), vp_iff (by omega)]
  refine ⟨by omega, by omega, d9, by omega, ?_⟩
  rintro _ rfl _ rfl
  refine ⟨⟨n + 1, by omega, by simp only [nI_1]; congr 1, F.tr (fm.I rfl), R, ?_⟩, ?_⟩
  · simp only
    rw [up_row, hw]
    simp only [h_sp]
    rw [show 16 + n - 16 = n by omega, show 16 + n - 15 = n + 1 by omega, show 16 + n - 7 = n + 9 by omega, show 16 + n - 2 = n + 14 by omega]
    rfl
  · simp only [nI_1]
    rw [nI_clamp (by omega)]
    omega
theorem s_spread {Q : AH → Prop} {h : AH} {d gb hb wb : Nat} {T : Nat → Nat} {b : Nat} (D : DC h d gb hb wb) (hT : ∀ j, j < 64 → ub (hp_I h gb j) = T (64 * b + j)) (hT2 : ∀ j, j < 64 → T (64 * b + j) < 256) (kQ : ∀ h1, fm (fun a _ => a = wb) h h1 → fmR h h1 → (∀ j, j < 64 → hp_I h1 wb j = h_sp 48 (h_wd T b) j) → Q h1) : m_Sha_spread Q d gb 0 h := by
  have D0 := D
  obtain ⟨d1, d2, d3, d4, d5, d6, d7, d8, d9, d10, d11, d12, d13⟩ := D
  have hgw : gb ≠ wb := k_ne d5 d9 (by decide)
  refine ⟨fun s => ∃ n, n ≤ 16 ∧ s.1 = nI n ∧ fm (fun a _ => a = wb) h s.2 ∧ fmR h s.2 ∧ ∀ j, j < n → hp_I s.2 wb j = h_wd T b j, fun s => 16 - s.1.toNatClampNeg, ⟨0, by decide, rfl, fm.rf, rfl, fun j hj => by omega⟩, ?_⟩
  rintro ⟨v, s⟩ ⟨n, hn, hv, F, R, hw⟩
  simp only at hv F R hw ⊢
  subst hv
  unfold m_Sha_spread_2_b
  rw [show (16 : Int32) = nI 16 from rfl, nI_leI (by omega) (by omega)]
  have Ds : DC s d gb hb wb := D0.fm (F.wk (fun a j hs => Or.inr (Or.inr (Or.inr hs)))) R
  refine ⟨fun c => ?_, fun c => ⟨Ds.1, wb, Ds.2.2.1, ?_⟩⟩
  · have : n = 16 := by omega
    subst this
    refine s_spread2 Ds (fun h1 F1 R1 hw1 => kQ h1 (F.tr F1) (R1.trans R) (fun j hj => ?_))
    rw [hw1]
    exact h_sp_cg hw 48 j (by omega)
  rw [show (4 : Int32) = nI 4 from rfl, show (0 : Int32) = nI 0 from rfl, nI_mul, nI_add, Nat.zero_add]
  refine s_number (g := fun i => T (64 * b + i)) (Or.inl Ds.2.2.2.2.1) (by rw [Ds.2.2.2.2.2.1]; omega) (by rw [Ds.2.2.2.2.2.1]; omega) (by omega) (fun i hi => ?_) (fun _ => ?_)
  · rw [Ds.2.2.2.2.2.1] at hi
    rw [(F.1 gb i hgw).1]
    exact hT i hi
  · have DsX := Ds.2.2.2.2.2.2.2.2
    refine ⟨DsX.1, ?_, ?_⟩
    · rw [DsX.2.1, vp_iff (by omega)]; omega
    · rintro _ rfl _ rfl
      refine ⟨⟨n + 1, by omega, by simp only [nI_1], F.tr (fm.I rfl), R, fun j hj => ?_⟩, ?_⟩
      · simp only
        rw [nI_clamp (by omega)]
        by_cases hjn : j = n
        · subst hjn
          rw [rI1, lN_i]
          unfold h_wd
          exact congrArg nI (d_num_cg (fun i hi => congrArg T (by omega)))
        · rw [rI3 hjn]
          exact hw j (by omega)
      · simp only [nI_1]
        rw [nI_clamp (by omega), nI_clamp (by omega)]
        omega
