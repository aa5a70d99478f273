set_option maxRecDepth 10000
def d_164 (g : Nat → Nat) (a e : Nat) (F : Nat → Int32) : Option (Nat → Int32) := (d_names g a e).bind fun s => (d_key g s.1 e).bind fun v => (d_exts g v.2 e (up (up (up (up (up (up F 7 (nI a)) 15 (nI s.2)) 8 (nI s.1)) 13 0) 9 (nI (v.1 + 1))) 10 (nI v.2))).bind fun x => if x.1 = e then some x.2 else none
theorem d_in9_eq {g : Nat → Nat} {a e : Nat} {F : Nat → Int32} {L : Nat → Int64} : d_in9 g a e F L = (d_alg g a e).bind fun a1 => (d_names g a1 e).bind fun q => (d_in g 48 q.1 e).bind fun t => (d_time g t.1 t.2).bind fun u => (d_time g u.1 t.2).bind fun w => if w.1 = t.2 then (d_164 g w.1 e (up (up (up F 28 0) 5 (nI a1)) 6 (nI q.1))).bind fun F' => some (e, F', upL (upL L 16 (lZ u.2)) 17 (lZ w.2)) else none := by
  unfold d_in9
  cases d_alg g a e with
  | none => rfl
  | some a1 =>
  simp only [Option.bind_some]
  cases d_names g a1 e with
  | none => rfl
  | some q =>
  simp only [Option.bind_some]
  cases d_in g 48 q.1 e with
  | none => rfl
  | some t =>
  simp only [Option.bind_some]
  cases d_time g t.1 t.2 with
  | none => rfl
  | some u =>
  simp only [Option.bind_some]
  cases d_time g u.1 t.2 with
  | none => rfl
  | some w =>
  simp only [Option.bind_some]
  split
  rotate_left
  · rfl
  unfold d_164
  cases d_names g w.1 e with
  | none => rfl
  | some s =>
  simp only [Option.bind_some]
  unfold d_key d_bits
  cases d_in g 48 s.1 e with
  | none => rfl
  | some i =>
  simp only [Option.bind_some]
  cases d_alg g i.1 i.2 with
  | none => rfl
  | some k =>
  simp only [Option.bind_some]
  cases d_in g 3 k i.2 with
  | none => rfl
  | some v =>
  simp only [Option.bind_some]
  by_cases h1 : v.1 ≠ v.2 ∧ g v.1 = 0
  rotate_left
  · rw [if_neg (fun q => h1 ⟨q.1, q.2.1⟩), if_neg h1]; rfl
  rw [if_pos h1]
  simp only [Option.bind_some]
  by_cases h2 : v.2 = i.2 ∧ v.2 - (v.1 + 1) = 32
  rotate_left
  · rw [if_neg (fun q => h2 q.2.2), if_neg h2]; rfl
  rw [if_pos ⟨h1.1, h1.2, h2⟩, if_pos h2]
  simp only [Option.bind_some]
  generalize (d_exts g v.2 e _) = Z
  cases Z with
  | none => rfl
  | some x =>
  simp only [Option.bind_some]
  split <;> rfl
theorem b164_bad {Q : AH → Prop} {h h1 : AH} {m x : Nat} {x1 : Int32} (hm : hp_k h m = 13) (hb : MB h h1 m x) (k : ∀ h2, MB h h2 m x → Q h2) : m_M_body_164 Q m x1 h1 := by
  refine ⟨hb.k hm, ?_⟩
  rintro _ rfl
  refine B_name hm hb.set (fun v h2 hb _ => ?_)
  rintro _ rfl _ rfl
  exact B_key hm hb.set.set (fun h3 hb _ => ⟨fun _ => k _ hb, fun c => hb.c c⟩)
theorem d_exts_k {g : Nat → Nat} {a e : Nat} {F : Nat → Int32} {x : Nat × (Nat → Int32)} (h : d_exts g a e F = some x) : ∀ j, (j < 18 ∨ j = 20 ∨ 28 ≤ j) → x.2 j = F j := by
  have e0 : ∀ j, (j < 18 ∨ j = 20 ∨ 28 ≤ j) → d_ex0 F j = F j := fun j hj => by
    unfold d_ex0 up
    repeat rw [if_neg (by omega)]
  unfold d_exts at h
  split at h
  · cases h; exact e0
  cases h1 : d_in g 163 a e with
  | none => rw [h1] at h; cases h
  | some x =>
  rw [h1] at h
  simp only [Option.bind_some] at h
  cases h2 : d_in g 48 x.1 x.2 with
  | none => rw [h2] at h; cases h
  | some l =>
  rw [h2] at h
  simp only [Option.bind_some] at h
  split at h
  · cases h
  cases h3 : d_exl g l.2 (l.2 + 1) l.1 [] (d_ex0 F) with
  | none => rw [h3] at h; cases h
  | some r =>
  rw [h3] at h
  simp only [Option.bind_some] at h
  split at h
  · cases h
    intro j hj
    rw [d_exl_k h3 Kp.rf j (by omega)]
    exact e0 j hj
  · cases h
theorem MV.ex0 {h : AH} {m : Nat} {F F' : Nat → Int32} (V : MV h m (d_ex0 F)) : MV h m (d_ex0 F') := fun k k1 k2 k3 => by
  rw [V k k1 k2 k3]
  have : k = 18 ∨ k = 19 ∨ k = 21 ∨ k = 22 ∨ k = 23 ∨ k = 24 ∨ k = 25 ∨ k = 26 := by omega
  rcases this with rfl | rfl | rfl | rfl | rfl | rfl | rfl | rfl <;> rfl
theorem MV.g {h h1 : AH} {m x : Nat} {F G : Nat → Int32} {T : Nat → Int64} (V : MV h m F) (Y : MG h h1 m x G T) (hG : ∀ k, 25 ≤ k → k ≤ 43 → (k < 31 ∨ 41 < k) → G k = hp_I h m k) : MV h1 m F := fun k k1 k2 k3 => by
  have := mo_ne k k1 k2 k3
  rw [Y.g, hG _ (by omega) (by omega) (by omega)]
  exact V k k1 k2 k3
theorem s_M164 {Q : AH → Prop} {h : AH} {m st x bs n a e : Nat} {g : Nat → Nat} {F F0 : Nat → Int32} (K : ME h m st x bs n g) (hat : hp_I h m 20 = nI a) (hbad : hp_I h m 21 = 0) (he : e ≤ n) (ha : a ≤ n) (hN : n ≤ 49990) (V : MV h m (d_ex0 F0)) (h45 : hp_I h m 45 = 0) (kB : d_164 g a e F = none → ∀ h1, MB h h1 m x → Q h1) (kQ : ∀ F', d_164 g a e F = some F' → ∀ h1, MF h h1 m x → hp_I h1 m 20 = nI e → hp_I h1 m 21 = 0 → MV h1 m F' → (hp_I h1 m 39 = F' 7 ∧ hp_I h1 m 40 = F' 8 ∧ hp_I h1 m 41 = F' 9 ∧ hp_I h1 m 31 = F' 15) → (∀ j, 32 ≤ j → j ≤ 38 → hp_I h1 m j = hp_I h m j) → (∀ j, j < 7 ∨ j = 20 ∨ 28 ≤ j → F' j = F j) → hp_L h1 m = hp_L h m → Q h1) : m_M_body_164 Q m (nI e) h := by
  have k5 := K.2.2.2.2.1
  have hg := K.2.2.2.2.2.2.2.1
  have hxm := K.xm
  generalize hp : d_164 g a e F = P at kB kQ
  unfold d_164 at hp
  refine ⟨K.1, ?_⟩
  rw [hat]
  rintro h1 hh1
  have Y1 : MG h h1 m x (up (hp_I h m) 39 (nI a)) (hp_L h m) := by rw [hh1]; exact MG.rf.I hxm
  clear hh1
  have K1 := K.mf Y1.1
  refine s_Mname K1 (by rw [Y1.g]; exact hat) (by rw [Y1.g]; exact hbad) he ha (fun hd v h2 hb _ => ?_) (fun t k hd _ => ?_)
  · have q := kB (hp.symm.trans (by rw [hd]; rfl))
    have hb := hb.pre Y1.1
    rintro _ rfl _ rfl
    exact B_key K.1 hb.set.set (fun h3 hb _ => ⟨fun _ => q _ hb, fun c => hb.c c⟩)
  have l2 := d_names_le hd
  rw [hd] at hp
  simp only [Option.bind_some] at hp
  have Y2 := Y1.I hxm (j := 20) (v := nI t)
  generalize up_I h1 m 20 (nI t) = h2 at Y2 ⊢
  rintro h3 hh3 h4 hh4
  have Y4 : MG h h4 m x (up (up (up (up (hp_I h m) 39 (nI a)) 20 (nI t)) 31 (nI k)) 40 (nI t)) (hp_L h m) := by
    have Y3 := Y2.I hxm (j := 31) (v := nI k)
    rw [← hh3] at Y3
    have a3 : hp_I h3 m 20 = nI t := by rw [Y3.g]; rfl
    rw [hh4, a3]
    exact Y3.I hxm
  clear hh3 hh4
  have K4 := K.mf Y4.1
  have a4 : hp_I h4 m 20 = nI t := by rw [Y4.g]; rfl
  have b4 : hp_I h4 m 21 = 0 := by rw [Y4.g]; exact hbad
  refine s_Mkey K4 a4 b4 he (by omega) (fun hd h5 hb _ => ⟨fun _ => kB (hp.symm.trans (by rw [hd]; rfl)) _ (hb.pre Y4.1), fun c => hb.c c⟩) (fun v0 v1 hd lv1 lv2 h5 Y5 _ => ?_)
  rw [hd] at hp
  simp only [Option.bind_some] at hp
  rw [Y4.2.1, Y4.2.2.1] at Y5
  have Y5 := Y4.tr Y5
  have K5 := K.mf Y5.1
  have a5 : hp_I h5 m 20 = nI v1 := by rw [Y5.g]; rfl
  have b5 : hp_I h5 m 21 = 0 := by rw [Y5.g]; exact hbad
  have V5 : ∀ F', MV h5 m (d_ex0 F') := fun F' => (V.g Y5 (fun k k1 k2 k3 => by
    unfold up
    repeat rw [if_neg (by omega)])).ex0
  have q32 : ∀ j, 32 ≤ j → j ≤ 38 → hp_I h5 m j = hp_I h m j := fun j j1 j2 => by
    rw [Y5.g]
    unfold up
    repeat rw [if_neg (by omega)]
  have q39 : hp_I h5 m 39 = nI a ∧ hp_I h5 m 40 = nI t ∧ hp_I h5 m 41 = nI (v0 + 1) ∧ hp_I h5 m 31 = nI k ∧ hp_I h5 m 45 = 0 := by
    rw [Y5.g, Y5.g, Y5.g, Y5.g, Y5.g]
    exact ⟨rfl, rfl, rfl, rfl, h45⟩
  have l5 := Y5.2.2.1
  have X5 := Y5.1
  clear Y5 Y4 Y2 Y1
  generalize hFx : (up (up (up (up (up (up F 7 (nI a)) 15 (nI k)) 8 (nI t)) 13 0) 9 (nI (v0 + 1))) 10 (nI v1)) = Fx at hp
  have fx : Fx 7 = nI a ∧ Fx 8 = nI t ∧ Fx 9 = nI (v0 + 1) ∧ Fx 15 = nI k ∧ ∀ j, j < 7 ∨ j = 20 ∨ 28 ≤ j → Fx j = F j := by
    rw [← hFx]
    refine ⟨rfl, rfl, rfl, rfl, fun j hj => ?_⟩
    unfold up
    repeat rw [if_neg (by omega)]
  clear hFx
  have fin : ∀ F' h6, d_exts g v1 e Fx = some (e, F') → MF h5 h6 m x → hp_I h6 m 20 = nI e → hp_I h6 m 21 = 0 → MV h6 m F' → (∀ j, 31 ≤ j → j ≤ 41 → hp_I h6 m j = hp_I h5 m j) → hp_L h6 m = hp_L h5 m → Q h6 := fun F' h6 hd X6 a6 b6 V6 r6 l6 => by
    have kk := d_exts_k hd
    simp only at kk
    refine kQ F' (hp.symm.trans (by rw [hd]; simp)) h6 (X5.tr X6) a6 b6 V6 ⟨?_, ?_, ?_, ?_⟩ (fun j j1 j2 => (r6 j (by omega) (by omega)).trans (q32 j j1 j2)) (fun j hj => (kk j (by omega)).trans (fx.2.2.2.2 j hj)) (l6.trans l5)
    · rw [r6 39 (by decide) (by decide), q39.1, kk 7 (by decide), fx.1]
    · rw [r6 40 (by decide) (by decide), q39.2.1, kk 8 (by decide), fx.2.1]
    · rw [r6 41 (by decide) (by decide), q39.2.2.1, kk 9 (by decide), fx.2.2.1]
    · rw [r6 31 (by decide) (by decide), q39.2.2.2.1, kk 15 (by decide), fx.2.2.2.1]
  refine ⟨fun c => absurd b5 c, fun _ => ?_⟩
  rw [a5, nI_eq (by omega) (by omega)]
  refine ⟨fun c => ?_, fun c => ?_⟩
  rotate_left
  · subst c
    exact fin (d_ex0 Fx) h5 (by unfold d_exts; rw [if_pos rfl]) MF.rf a5 b5 (V5 _) (fun _ _ _ => rfl) rfl
  generalize hW : d_exts g v1 e Fx = W at hp fin
  unfold d_exts at hW
  rw [if_neg c] at hW
  have nb : (∀ F', W ≠ some (e, F')) → ∀ h1, MB h5 h1 m x → Q h1 := fun hn h1 hb => kB (hp.symm.trans (by
    cases W with
    | none => rfl
    | some w =>
      simp only [Option.bind_some]
      rw [if_neg]
      intro q
      obtain ⟨w1, w2⟩ := w
      simp only at q
      subst q
      exact hn w2 rfl)) h1 (hb.pre X5)
  refine s_open K5 a5 b5 he (by omega) (by decide) (fun hd h6 hb _ => B_open K5.1 hb (fun v h7 hb _ => ⟨fun c => hb.c c, fun _ => nb (fun F' q => ?_) _ hb⟩)) (fun x0 x1 hd _ => ?_)
  · rw [← hW, hd] at q; cases q
  have l6 := d_in_le hd
  rw [hd] at hW
  simp only [Option.bind_some] at hW
  have Y6 : MG h5 (up_I h5 m 20 (nI x0)) m x (up (hp_I h5 m) 20 (nI x0)) (hp_L h5 m) := MG.rf.I hxm
  generalize up_I h5 m 20 (nI x0) = h6 at Y6 ⊢
  have K6 := K5.mf Y6.1
  refine s_open K6 (by rw [Y6.g]; rfl) (by rw [Y6.g]; exact b5) (by omega) (by omega) (by decide) (fun hd h7 hb _ => ⟨fun c => hb.c c, fun _ => nb (fun F' q => ?_) _ (hb.pre Y6.1)⟩) (fun l0 l1 hd _ => ?_)
  · rw [← hW, hd] at q; cases q
  have l7 := d_in_le hd
  rw [hd] at hW
  simp only [Option.bind_some] at hW
  have Y7 := Y6.I hxm (j := 20) (v := nI l0)
  rw [up_up] at Y7
  generalize up_I h6 m 20 (nI l0) = h7 at Y7 ⊢
  have K7 := K5.mf Y7.1
  have a7 : hp_I h7 m 20 = nI l0 := by rw [Y7.g]; rfl
  have b7 : hp_I h7 m 21 = 0 := by rw [Y7.g]; exact b5
  refine ⟨fun _ => ?_, fun c => absurd b7 c⟩
  have ee : ∀ r, d_exl g l1 (l1 + 1) l0 [] (d_ex0 Fx) = some r → r.1 = l1 := fun r hr => d_exl_e hr (by omega)
  have neg : ¬ (x1 = e ∧ l1 = x1 ∧ l0 < l1) → m_M_body_265 Q m (nI l1) m h7 := fun hn => ⟨K7.1, s_need0 K7.1 (fun _ => by
    have q := nb (fun F' q => by
      rw [← hW] at q
      split at q
      · cases q
      · cases hx : d_exl g l1 (l1 + 1) l0 [] (d_ex0 Fx) with
        | none => rw [hx] at q; cases q
        | some r =>
          have := ee r hx
          rw [hx] at q
          simp only [Option.bind_some] at q
          split at q
          · cases q
            simp only at this
            omega
          · cases q)
    refine ⟨fun s => MB h5 s m x, fun _ => 0, MB.of Y7.1, ?_⟩
    intro s hs
    exact ⟨hs.k K5.1, fun _ => q s hs, fun c => hs.c c⟩)⟩
  rw [a7, nI_eq (by omega) (by omega), nI_eq (by omega) (by omega), nI_leI (by omega) (by omega)]
  refine ⟨fun c1 => neg (by omega), fun c1 => ⟨fun c2 => neg (by omega), fun c2 => ⟨fun c3 => neg (by omega), fun c3 => ⟨K7.1, s_need1 (fun _ => ?_)⟩⟩⟩⟩
  subst c1
  subst c2
  rw [if_neg (by omega)] at hW
  refine s_Mexl K7 a7 b7 (by omega) (by omega) hN ((V5 Fx).g Y7 (fun k k1 k2 k3 => ?_)) (by rw [Y7.g]; exact q39.2.2.2.2) rfl (fun hd h8 hb => nb (fun F' q => ?_) _ (hb.pre Y7.1)) (fun F' hd h8 X8 a8 b8 V8 r8 l8 => ?_)
  · unfold up
    rw [if_neg (by omega)]
  · rw [← hW, hd] at q; cases q
  · refine fin F' h8 (hW.symm.trans (by rw [hd]; simp)) (Y7.1.tr X8) a8 b8 V8 (fun j j1 j2 => ?_) ?_
    · rw [r8 j j1 j2, Y7.g]
      unfold up
      rw [if_neg (by omega)]
    · rw [l8, Y7.2.2.1]
