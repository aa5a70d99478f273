set_option maxRecDepth 10000
theorem d_dig4 {g : Nat → Nat} {i : Nat} : d_dig g i 4 = (d_dig g i 2).bind fun v => (d_dig g (i + 2) 2).bind fun w => some (100 * v + w) := by
  have e4 : d_dig g i 4 = (d_dig g i 3).bind fun v => if 48 ≤ g (i + 3) ∧ g (i + 3) ≤ 57 then some (v * 10 + g (i + 3) - 48) else none := rfl
  have e3 : d_dig g i 3 = (d_dig g i 2).bind fun v => if 48 ≤ g (i + 2) ∧ g (i + 2) ≤ 57 then some (v * 10 + g (i + 2) - 48) else none := rfl
  rw [e4, e3]
  cases h : d_dig g i 2 with
  | none => rfl
  | some v =>
    simp only [Option.bind_some]
    rw [d_dig2 (i := i + 2), show i + 2 + 1 = i + 3 by omega]
    by_cases h1 : 48 ≤ g (i + 2) ∧ g (i + 2) ≤ 57
    · rw [if_pos h1]
      simp only [Option.bind_some]
      by_cases h2 : 48 ≤ g (i + 3) ∧ g (i + 3) ≤ 57
      · rw [if_pos h2, if_pos ⟨h1, h2⟩]
        simp only [Option.bind_some]
        rw [show (v * 10 + g (i + 2) - 48) * 10 + g (i + 3) - 48 = 100 * v + ((g (i + 2) - 48) * 10 + (g (i + 3) - 48)) by omega]
      · rw [if_neg h2, if_neg (fun q => h2 q.2)]; rfl
    · rw [if_neg h1, if_neg (fun q => h1 q.1)]; rfl
def d_tm (w : Bool) (g : Nat → Nat) (t y : Nat) : Option (Nat × Int) := if w = true ∧ y < 2050 then none else d_time2 g t y
theorem t261_0 {Q : Int64 → AH → Prop} {h : AH} {m x : Nat} {x3 x4 x6 x7 x8 x9 x10 : Int32} (hm : hp_k h m = 13) (k : ∀ h2, MB h h2 m x → Q 0 h2) : m_M_time_261 Q m x3 x4 x6 x7 x8 x9 x10 m 0 h := by
  refine ⟨hm, s_need0 hm (fun _ => ?_)⟩
  have bB : MB h (up_I h m 21 1) m x := MB.of MF.rf
  have a := @t304_bad Q h _ m x x3 x4 x6 x7 x8 x9 x10 0 hm bB k
  have b := @t304_bad Q h _ m x x3 x4 x6 x7 x8 x9 x10 1 hm bB k
  exact ⟨fun _ => a, fun _ => ⟨fun _ => a, fun _ => ⟨fun _ => a, fun _ => ⟨fun _ => a, fun _ => ⟨fun _ => a, fun _ => b⟩⟩⟩⟩⟩
theorem s_t191 {Q : Int64 → AH → Prop} {h : AH} {m st x bs n t y : Nat} {g : Nat → Nat} (w : Bool) (K : ME h m st x bs n g) (hbad : hp_I h m 21 = 0) (ht : 11 ≤ t) (htn : t ≤ n) (hy0 : w = false → 1 ≤ y) (hy : y < 10000) (kB : d_tm w g t y = none → ∀ v h1, MB h h1 m x → Q v h1) (kQ : ∀ z, d_tm w g t y = some (t, z) → Q (lZ z) (up_I h m 20 (nI t))) : m_M_time_191 Q m (b2 w) (nI t) (nI y) (nI (t - 11)) h := by
  have k5 := K.2.2.2.2.1
  have tb : ∀ {h1 : AH} {x4 x6 x7 x8 x9 x10 v : Int32}, MB h h1 m x → d_tm w g t y = none → m_M_time_261 Q m (nI t) x4 x6 x7 x8 x9 x10 m v h1 := fun hb hn => t261_bad K.1 hb (kB hn 0)
  have nn : d_time2 g t y = none → d_tm w g t y = none := fun hn => by unfold d_tm; split; rfl; exact hn
  unfold m_M_time_191 m_M_time_256
  simp only [lit_nI, nI_add]
  have fin : ∀ {x6 x7 x8 x9 x10 : Int32} {h1 : AH}, MB h h1 m x → d_time2 g t y = none → (b2 w = nI 0 → m_M_time_261 Q m (nI t) (nI y) x6 x7 x8 x9 x10 m (nI 1) h1) ∧ (¬ b2 w = nI 0 → (nI y < nI 2050 → m_M_time_261 Q m (nI t) (nI y) x6 x7 x8 x9 x10 m (nI 0) h1) ∧ (¬ nI y < nI 2050 → m_M_time_261 Q m (nI t) (nI y) x6 x7 x8 x9 x10 m (nI 1) h1)) := fun hb hn => ⟨fun _ => tb hb (nn hn), fun _ => ⟨fun _ => tb hb (nn hn), fun _ => tb hb (nn hn)⟩⟩
  have bB : MB h (up_I h m 21 1) m x := MB.of MF.rf
  refine ⟨K.1, s_Mtwo K (by omega) (fun mo e1 l1 _ => ?_) (fun e1 _ _ => ?_)⟩
  rotate_left
  · have hn : d_time2 g t y = none := by unfold d_time2; rw [e1]; rfl
    exact s_twoB K bB (by omega) (fun _ _ b2 _ => s_twoB K b2 (by omega) (fun _ _ b3 _ => s_twoB K b3 (by omega) (fun _ _ b4 _ => s_twoB K b4 (by omega) (fun _ _ b5 _ => fin b5 hn))))
  refine s_Mtwo K (by omega) (fun d e2 l2 _ => ?_) (fun e2 _ _ => ?_)
  rotate_left
  · have hn : d_time2 g t y = none := by unfold d_time2; rw [e1, e2]; rfl
    exact s_twoB K bB (by omega) (fun _ _ b3 _ => s_twoB K b3 (by omega) (fun _ _ b4 _ => s_twoB K b4 (by omega) (fun _ _ b5 _ => fin b5 hn)))
  refine s_Mtwo K (by omega) (fun hh e3 l3 _ => ?_) (fun e3 _ _ => ?_)
  rotate_left
  · have hn : d_time2 g t y = none := by unfold d_time2; rw [e1, e2, e3]; rfl
    exact s_twoB K bB (by omega) (fun _ _ b4 _ => s_twoB K b4 (by omega) (fun _ _ b5 _ => fin b5 hn))
  refine s_Mtwo K (by omega) (fun mi e4 l4 _ => ?_) (fun e4 _ _ => ?_)
  rotate_left
  · have hn : d_time2 g t y = none := by unfold d_time2; rw [e1, e2, e3, e4]; rfl
    exact s_twoB K bB (by omega) (fun _ _ b5 _ => fin b5 hn)
  refine s_Mtwo K (by omega) (fun s e5 l5 _ => ?_) (fun e5 _ _ => ?_)
  rotate_left
  · exact fin bB (by unfold d_time2; rw [e1, e2, e3, e4, e5]; rfl)
  have hp : d_time2 g t y = if 1 ≤ mo ∧ mo ≤ 12 ∧ 1 ≤ d ∧ d ≤ d_md y mo ∧ hh ≤ 23 ∧ mi ≤ 59 ∧ s ≤ 59 then some (t, ((d_days y mo d * 24 + hh) * 60 + mi) * 60 + s) else none := by unfold d_time2; rw [e1, e2, e3, e4, e5]; rfl
  have good : (w = true → 2050 ≤ y) → m_M_time_261 Q m (nI t) (nI y) (nI mo) (nI d) (nI hh) (nI mi) (nI s) m 1 h := fun hw => by
    have htm : d_tm w g t y = d_time2 g t y := by unfold d_tm; rw [if_neg (fun q => by have := hw q.1; omega)]
    have hy1 : 1 ≤ y := by
      cases w with
      | true => have := hw rfl; omega
      | false => exact hy0 rfl
    rw [htm, hp] at kB kQ
    have neg : ¬ (1 ≤ mo ∧ mo ≤ 12 ∧ 1 ≤ d ∧ d ≤ d_md y mo ∧ hh ≤ 23 ∧ mi ≤ 59 ∧ s ≤ 59) → ∀ v h1, MB h h1 m x → Q v h1 := fun hn => kB (by rw [if_neg hn])
    have n303 : ¬ (1 ≤ mo ∧ mo ≤ 12 ∧ hh ≤ 23 ∧ mi ≤ 59 ∧ s ≤ 59) → m_M_time_303 Q m (nI t) (nI y) (nI mo) (nI d) (nI hh) (nI mi) (nI s) m h := fun hn => by
      refine ⟨K.1, s_need0 K.1 (fun _ => ⟨K.1, fun c => ?_, fun _ => neg (fun q => hn ⟨q.1, q.2.1, q.2.2.2.2.1, q.2.2.2.2.2.1, q.2.2.2.2.2.2⟩) _ _ bB⟩)⟩
      rw [rI1] at c
      exact absurd c (by decide)
    refine ⟨K.1, s_need1 (fun _ => ?_)⟩
    simp (disch := omega) only [lit_nI, nI_ltI, nI_leI]
    refine ⟨fun c1 => n303 (by omega), fun c1 => ⟨fun c2 => n303 (by omega), fun c2 => ⟨fun c3 => n303 (by omega), fun c3 => ⟨fun c4 => n303 (by omega), fun c4 => ⟨fun c5 => n303 (by omega), fun c5 => ⟨K.1, s_need1 (fun _ => ⟨K.1, fun _ => ?_, fun c => absurd hbad c⟩)⟩⟩⟩⟩⟩⟩
    have tail : ∀ (P : Prop) (h1 : AH), hp_k h1 m = 13 → (Q (lZ (((d_days y mo d * 24 + hh) * 60 + mi) * 60 + s)) (up_I h1 m 20 (nI t))) → m_M_daysBefore (fun u1 h2 => fx_ext h1 h2 → ∀ u2 : Int64, u2 = ((u1 + ((nI d).toInt64)) - (1 : Int64)) → m_M_time_359 Q m (nI t) (nI y) (nI mo) (nI hh) (nI mi) (nI s) u2 (1 : Int32) h2) (nI y) h1 := fun _ h1 hm1 hq => by
      refine s_daysBefore hy1 hy (fun _ => ?_)
      rintro _ rfl
      rw [lZ_nI (by omega), show (1 : Int64) = lZ 1 from rfl, lZ_add, lZ_sub]
      exact s_t359 hm1 hy1 hy (by omega) (by omega) (by omega) (by omega) (by omega) hq
    have n339 : ¬ (1 ≤ d ∧ d ≤ d_md y mo) → m_M_time_339 Q m (nI t) (nI y) (nI mo) (nI d) (nI hh) (nI mi) (nI s) m h := fun hn => by
      refine ⟨K.1, s_need0 K.1 (fun _ => ?_)⟩
      refine s_daysBefore hy1 hy (fun _ => ?_)
      rintro _ rfl
      rw [lZ_nI (by omega), show (1 : Int64) = lZ 1 from rfl, lZ_add, lZ_sub]
      refine s_t359 K.1 hy1 hy (by omega) (by omega) (by omega) (by omega) (by omega) ?_
      exact neg (fun q => hn ⟨q.2.2.1, q.2.2.2.1⟩) _ _ bB.at
    have hmd := d_md_le y mo
    have e6 : nI d < 1 ↔ d < 1 := nI_ltI (b := 1) (by omega) (by omega)
    refine ⟨fun c6 => n339 (by rw [e6] at c6; omega), fun c6 => s_daysOf (by omega) (by omega) (fun _ => ?_)⟩
    rw [e6] at c6
    rw [nI_ltI (by omega) (by omega)]
    refine ⟨fun c7 => n339 (by omega), fun c7 => ⟨K.1, s_need1 (fun _ => tail True h K.1 ?_)⟩⟩
    exact kQ _ (by rw [if_pos (by omega)])
  cases w with
  | true =>
    refine ⟨fun c => absurd c (by decide), fun _ => ⟨fun c => ?_, fun c => ?_⟩⟩
    · rw [nI_ltI (by omega) (by omega)] at c
      exact t261_0 K.1 (kB (by unfold d_tm; rw [if_pos ⟨rfl, c⟩]) 0)
    · exact good (fun _ => by rw [nI_ltI (by omega) (by omega)] at c; omega)
  | false => exact ⟨fun _ => good (fun q => by cases q), fun c => absurd rfl c⟩
