set_option maxRecDepth 10000
theorem t99_bad {Q : Int64 → AH → Prop} {h h1 : AH} {m x : Nat} {x2 x3 : Int32} (hm : hp_k h m = 13) (hb : MB h h1 m x) (k : ∀ h2, MB h h2 m x → Q 0 h2) : m_M_time_99 Q m x2 x3 h1 := by
  refine ⟨hb.k hm, fun c => ?_, fun _ => k h1 hb⟩
  rw [hb.2] at c
  exact absurd c (by decide)
theorem s_MtimeB {Q : Int64 → AH → Prop} {h : AH} {m x : Nat} {e : Int32} (hm : hp_k h m = 13) (hb : hp_I h m 21 = 1) (k : ∀ h2, MB h h2 m x → Q 0 h2) : m_M_time Q m e h := by
  have b1 : MB h (up_I h m 21 1) m x := MB.of MF.rf
  refine ⟨hm, fun _ => ⟨fun _ => ⟨hm, s_openB hm hb (fun _ => ⟨hm, fun _ => t99_bad hm b1 k, fun c => ?_⟩)⟩, fun c => absurd rfl c⟩, fun c => ?_⟩
  · rw [rI1] at c; exact absurd c (by decide)
  · rw [hb] at c; exact absurd c (by decide)
theorem d_timeW_tm {w : Bool} {g : Nat → Nat} {a e : Nat} : d_timeW w g a e = (d_in g (if w = true then 24 else 23) a e).bind fun p => if p.2 - p.1 = (if w = true then 15 else 13) ∧ g (p.2 - 1) = 90 then (d_dig g p.1 (if w = true then 4 else 2)).bind fun y0 => d_tm w g p.2 (if w = true then y0 else if y0 < 50 then y0 + 2000 else y0 + 1900) else none := by
  unfold d_timeW d_tm
  cases w with
  | true => rfl
  | false => simp
theorem s_MtimeW {Q : Int64 → AH → Prop} {h : AH} {m st x bs n a e : Nat} {g : Nat → Nat} (w : Bool) (K : ME h m st x bs n g) (hat : hp_I h m 20 = nI a) (hbad : hp_I h m 21 = 0) (he : e ≤ n) (ha : a ≤ n) (kB : d_timeW w g a e = none → ∀ v h1, MB h h1 m x → Q v h1) (kQ : ∀ t z, d_timeW w g a e = some (t, z) → Q (lZ z) (up_I h m 20 (nI t))) : m_M_time_33 Q m (nI e) (b2 w) h := by
  have k5 := K.2.2.2.2.1
  have hg := K.2.2.2.2.2.2.2.1
  rw [d_timeW_tm] at kB kQ
  have key : m_M_time_46 Q m (nI e) (b2 w) m (nI (if w = true then 24 else 23)) h := by
    refine ⟨K.1, s_open K hat hbad he ha (by split <;> decide) (fun hd h1 hb _ => ⟨hb.k K.1, fun _ => t99_bad K.1 hb (kB (by rw [hd]; rfl) 0), fun c => ?_⟩) (fun f t hd _ => ?_)⟩
    · rw [hb.2] at c; exact absurd c (by decide)
    have l1 := d_in_le hd
    rw [hd] at kB kQ
    simp only [Option.bind_some] at kB kQ
    have X1 : MF h (up_I h m 20 (nI f)) m x := MF.rf.I
    have K1 := K.mf X1
    have b1 : hp_I (up_I h m 20 (nI f)) m 21 = 0 := by rw [rI3 (by decide)]; exact hbad
    have a1 : hp_I (up_I h m 20 (nI f)) m 20 = nI f := rI1
    have hu : ∀ v, up_I (up_I h m 20 (nI f)) m 20 v = up_I h m 20 v := fun v => uII
    generalize up_I h m 20 (nI f) = h1 at X1 K1 b1 a1 hu ⊢
    refine ⟨K1.1, fun c => absurd b1 c, fun _ => ?_⟩
    rw [a1, nI_sub (by omega)]
    have neg : ¬ (t - f = (if w = true then 15 else 13) ∧ g (t - 1) = 90) → m_M_time_95 Q m (b2 w) (nI t) m h1 := fun hn => ⟨K1.1, s_need0 K1.1 (fun _ => t99_bad K.1 (MB.of X1) (kB (by rw [if_neg hn]) 0))⟩
    have pos : (t - f = (if w = true then 15 else 13) ∧ g (t - 1) = 90) → m_M_time_96 Q m (b2 w) (nI t) m 1 h1 := fun hc => by
      rw [if_pos hc] at kB kQ
      refine ⟨K1.1, s_need1 (fun _ => ⟨K1.1, fun _ => ?_, fun c => absurd b1 c⟩)⟩
      rw [a1]
      have tk : ∀ y, (w = false → 1 ≤ y) → y < 10000 → (d_tm w g t y = none → ∀ v h2, MB h h2 m x → Q v h2) → (∀ z, d_tm w g t y = some (t, z) → Q (lZ z) (up_I h m 20 (nI t))) → m_M_time_172 Q m (b2 w) (nI t) (nI y) h1 := fun y y0 y1 q1 q2 => by
        have := s_t191 (Q := Q) w K1 b1 (t := t) (y := y) (by have := hc.1; split at this <;> omega) (by omega) y0 y1 (fun hn v h2 hb => q1 hn v h2 (hb.pre X1)) (fun z hz => by rw [hu]; exact q2 z hz)
        unfold m_M_time_172
        rw [a1]
        cases w with
        | true =>
          refine ⟨fun c => absurd c (by decide), fun _ => ⟨K1.1, ?_⟩⟩
          have h15 := hc.1
          simp only [if_true] at h15
          rw [show (4 : Int32) = nI 4 from rfl, nI_add, show f + 4 = t - 11 by omega]
          exact this
        | false =>
          refine ⟨fun _ => ⟨K1.1, ?_⟩, fun c => absurd rfl c⟩
          have h15 := hc.1
          simp only [Bool.false_eq_true, if_false] at h15
          rw [show (2 : Int32) = nI 2 from rfl, nI_add, show f + 2 = t - 11 by omega]
          exact this
      have h15 := hc.1
      have tb : ∀ {h2 : AH} {v : Int32}, MB h h2 m x → hp_I h2 m 20 = nI f → (∀ v h2, MB h h2 m x → Q v h2) → m_M_time_172 Q m (b2 w) (nI t) v h2 := fun {h2 v} hb e2 hq => by
        unfold m_M_time_172
        rw [e2, show (4 : Int32) = nI 4 from rfl, show (2 : Int32) = nI 2 from rfl, nI_add, nI_add]
        cases w with
        | true => exact ⟨fun c => absurd c (by decide), fun _ => ⟨hb.k K.1, t191_bad K hb (by simp only [if_true] at h15; omega) (hq 0)⟩⟩
        | false => exact ⟨fun _ => ⟨hb.k K.1, t191_bad K hb (by simp only [Bool.false_eq_true, if_false] at h15; omega) (hq 0)⟩, fun c => absurd rfl c⟩
      have bB : MB h (up_I h1 m 21 1) m x := MB.of X1
      have aB : hp_I (up_I h1 m 21 1) m 20 = nI f := by rw [rI3 (by decide)]; exact a1
      cases w with
      | false =>
        simp only [Bool.false_eq_true, if_false] at h15 kB kQ
        refine ⟨fun _ => s_Mtwo K1 (by omega) (fun v e1 lv _ => ?_) (fun e1 v _ => ?_), fun c => absurd rfl c⟩
        · rw [e1] at kB kQ
          simp only [Option.bind_some] at kB kQ
          refine ⟨fun c => absurd rfl c, fun _ => ?_⟩
          rw [show (50 : Int32) = nI 50 from rfl, nI_leI (by omega) (by omega)]
          refine ⟨fun c => ?_, fun c => ?_⟩
          · rintro _ rfl
            rw [show (1900 : Int32) = nI 1900 from rfl, nI_add]
            rw [if_neg (by omega)] at kB kQ
            exact tk _ (fun _ => by omega) (by omega) kB (fun z hz => kQ t z hz)
          · rintro _ rfl
            rw [show (2000 : Int32) = nI 2000 from rfl, nI_add]
            rw [if_pos (by omega)] at kB kQ
            exact tk _ (fun _ => by omega) (by omega) kB (fun z hz => kQ t z hz)
        · rw [e1] at kB
          have q := kB rfl
          refine ⟨fun c => absurd rfl c, fun _ => ⟨fun _ => ?_, fun _ => ?_⟩⟩
          · rintro _ rfl; exact tb bB aB q
          · rintro _ rfl; exact tb bB aB q
      | true =>
        simp only [if_true] at h15 kB kQ
        rw [d_dig4] at kB kQ
        refine ⟨fun c => absurd c (by decide), fun _ => s_Mtwo K1 (by omega) (fun v e1 lv _ => ?_) (fun e1 v _ => ?_)⟩
        · rw [e1] at kB kQ
          simp only [Option.bind_some] at kB kQ
          rw [a1, show (2 : Int32) = nI 2 from rfl, nI_add]
          refine s_Mtwo K1 (by omega) (fun v2 e2 lv2 _ => ⟨fun _ => ?_, fun c => absurd c (by decide)⟩) (fun e2 v2 _ => ⟨fun _ => ?_, fun c => absurd c (by decide)⟩)
          · rw [e2] at kB kQ
            simp only [Option.bind_some] at kB kQ
            rw [show (100 : Int32) = nI 100 from rfl, nI_mul, nI_add]
            exact tk _ (fun q => by cases q) (by omega) kB (fun z hz => kQ t z hz)
          · rw [e2] at kB
            exact tb bB aB (kB rfl)
        · rw [e1] at kB
          have q := kB rfl
          rw [aB, show (2 : Int32) = nI 2 from rfl, nI_add]
          refine s_Mtwo (K.mf bB.1) (by omega) (fun v2 e2 lv2 _ => ⟨fun _ => ?_, fun c => absurd c (by decide)⟩) (fun e2 v2 _ => ⟨fun _ => ?_, fun c => absurd c (by decide)⟩)
          · exact tb bB aB q
          · exact tb bB.bad (by rw [rI3 (by decide)]; exact aB) q
    have go : m_M_time_76 Q m (b2 w) (nI t) m (nI (t - f)) (nI (if w = true then 15 else 13)) h1 := by
      unfold m_M_time_76
      have hw : (if w = true then 15 else 13) < 2 ^ 31 := by split <;> decide
      rw [nI_eq (by omega) hw]
      refine ⟨fun c1 => neg (fun q => c1 q.1), fun c1 => ⟨K1.1, ?_⟩⟩
      have hw2 : 13 ≤ (if w = true then 15 else 13) := by split <;> decide
      have hgt := hg (t - 1) (by omega)
      rw [show (1 : Int32) = nI 1 from rfl, nI_sub (by omega)]
      refine s_here K1 (by omega) (fun _ => ?_)
      rw [show (90 : Int32) = nI 90 from rfl, nI_eq (by omega) (by omega)]
      exact ⟨fun c2 => neg (fun q => c2 q.2), fun c2 => pos ⟨c1, c2⟩⟩
    cases w with
    | true => exact ⟨fun c => absurd c (by decide), fun _ => go⟩
    | false => exact ⟨fun _ => go, fun c => absurd rfl c⟩
  cases w with
  | true => exact ⟨fun c => absurd c (by decide), fun _ => key⟩
  | false => exact ⟨fun _ => key, fun c => absurd rfl c⟩
theorem s_Mtime {Q : Int64 → AH → Prop} {h : AH} {m st x bs n a e : Nat} {g : Nat → Nat} (K : ME h m st x bs n g) (hat : hp_I h m 20 = nI a) (hbad : hp_I h m 21 = 0) (he : e ≤ n) (ha : a ≤ n) (kB : d_time g a e = none → ∀ v h1, MB h h1 m x → Q v h1) (kQ : ∀ t z, d_time g a e = some (t, z) → Q (lZ z) (up_I h m 20 (nI t))) : m_M_time Q m (nI e) h := by
  have k5 := K.2.2.2.2.1
  have hg := K.2.2.2.2.2.2.2.1
  unfold d_time at kB kQ
  refine ⟨K.1, fun c => absurd hbad c, fun _ => ?_⟩
  rw [hat, nI_leI (by omega) (by omega)]
  refine ⟨fun c1 => ?_, fun c1 => s_here K (by omega) (fun _ => ?_)⟩
  · rw [if_neg (by omega)] at kB kQ
    exact s_MtimeW false K hat hbad he ha kB kQ
  · have hga := hg a (by omega)
    rw [show (24 : Int32) = nI 24 from rfl, nI_eq (by omega) (by omega)]
    refine ⟨fun c2 => ?_, fun c2 => ?_⟩
    · rw [if_neg (by omega)] at kB kQ
      exact s_MtimeW false K hat hbad he ha kB kQ
    · rw [if_pos (by omega)] at kB kQ
      exact s_MtimeW true K hat hbad he ha kB kQ
