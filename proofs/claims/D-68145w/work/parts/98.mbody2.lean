set_option maxRecDepth 10000
def d_body (g : Nat → Nat) (a e : Nat) (F : Nat → Int32) (L : Nat → Int64) : Option (Nat × (Nat → Int32) × (Nat → Int64)) := (d_in g 160 a e).bind fun w => (d_in g 2 w.1 w.2).bind fun v => if v.2 - v.1 = 1 ∧ g v.1 = 2 ∧ v.2 = w.2 then (d_ser g v.2 e).bind fun s => d_in9 g s.2 e (up F 20 (nI (s.2 - s.1))) L else none
theorem d_ins_body {g : Nat → Nat} {a x : Nat} {F : Nat → Int32} {L : Nat → Int64} : d_ins g a x F L = (d_in g 48 a x).bind fun p => d_body g p.1 p.2 (up F 4 (nI p.2)) L := by
  unfold d_ins d_body d_ser
  cases d_in g 48 a x with
  | none => rfl
  | some p =>
  simp only [Option.bind_some]
  cases d_in g 160 p.1 p.2 with
  | none => rfl
  | some w =>
  simp only [Option.bind_some]
  cases d_in g 2 w.1 w.2 with
  | none => rfl
  | some v =>
  simp only [Option.bind_some]
  split
  rotate_left
  · rfl
  cases d_in g 2 v.2 p.2 with
  | none => rfl
  | some s =>
  simp only [Option.bind_some]
  split <;> rfl
/-- what was read stands in the model's cell -/
def MR (h : AH) (m : Nat) (F : Nat → Int32) (L : Nat → Int64) : Prop := MV h m F ∧ (hp_I h m 37 = F 5 ∧ hp_I h m 38 = F 6 ∧ hp_I h m 39 = F 7 ∧ hp_I h m 40 = F 8 ∧ hp_I h m 41 = F 9 ∧ hp_I h m 31 = F 15 ∧ hp_I h m 32 = F 20) ∧ hp_L h m 23 = L 16 ∧ hp_L h m 24 = L 17
theorem s_M75 {Q : AH → Prop} {h : AH} {m st x bs n a e : Nat} {g : Nat → Nat} {F F0 : Nat → Int32} {L : Nat → Int64} (K : ME h m st x bs n g) (hbad : hp_I h m 21 = 0) (he : e ≤ n) (ha : a ≤ n) (hN : n ≤ 49990) (V : MV h m (d_ex0 F0)) (h45 : hp_I h m 45 = 0) (kB : (d_ser g a e).bind (fun s => d_in9 g s.2 e (up F 20 (nI (s.2 - s.1))) L) = none → ∀ h1, MB h h1 m x → Q h1) (kQ : ∀ z F' L', (d_ser g a e).bind (fun s => d_in9 g s.2 e (up F 20 (nI (s.2 - s.1))) L) = some (z, F', L') → ∀ h1, MF h h1 m x → hp_I h1 m 20 = nI e → hp_I h1 m 21 = 0 → MR h1 m F' L' → (hp_I h1 m 35 = hp_I h m 35 ∧ hp_I h1 m 36 = hp_I h m 36) → (F' 28 = 0 ∧ ∀ j, j < 5 → F' j = F j) → Q h1) : m_M_body_75 Q m (nI e) m (nI a) h := by
  have k5 := K.2.2.2.2.1
  have hg := K.2.2.2.2.2.2.2.1
  have hxm := K.xm
  generalize hp : (d_ser g a e).bind (fun s => d_in9 g s.2 e (up F 20 (nI (s.2 - s.1))) L) = P at kB kQ
  refine ⟨K.1, ?_⟩
  rintro h1 hh1
  have Y1 : MG h h1 m x (up (hp_I h m) 20 (nI a)) (hp_L h m) := by rw [hh1]; exact MG.rf.I hxm
  clear hh1
  have K1 := K.mf Y1.1
  refine ⟨K1.1, ?_⟩
  refine s_Mser K1 (by rw [Y1.g]; rfl) (by rw [Y1.g]; exact hbad) he ha (fun hd h2 hb _ => ?_) (fun s0 s1 hd ls1 ls2 h2 Y2 _ => ?_)
  · have kq := kB (hp.symm.trans (by rw [hd]; rfl))
    have hb := hb.pre Y1.1
    (refine B_alg K.1 hb (fun h3 hb _ => ?_); (rintro _ rfl; refine B_name K.1 hb.set (fun v h5 hb _ => ?_); (rintro _ rfl; refine B_open K.1 hb.set (fun v h7 hb _ => ?_); (refine B_time K.1 hb (fun v h8 hb _ => ?_); (rintro _ rfl; refine B_time K.1 hb.L (fun v h9 hb _ => ?_); (rintro _ rfl; exact ⟨fun _ => b164_bad K.1 hb.L kq, fun c => hb.L.c c⟩))))))
  rw [hd] at hp
  simp only [Option.bind_some] at hp
  rw [d_in9_eq] at hp
  rw [Y1.2.1, Y1.2.2.1, up_comm (F := up (hp_I h m) 20 (nI a)) (by decide), up_up, up_comm (by decide)] at Y2
  have Y2 := Y1.tr Y2
  have K2 := K.mf Y2.1
  refine s_Malg K2 (by rw [Y2.g]; rfl) (by rw [Y2.g]; exact hbad) he (by omega) (fun hd h3 hb _ => ?_) (fun a1 hd _ => ?_)
  · have kq := kB (hp.symm.trans (by rw [hd]; rfl))
    have hb := hb.pre Y2.1
    (rintro _ rfl; refine B_name K.1 hb.set (fun v h5 hb _ => ?_); (rintro _ rfl; refine B_open K.1 hb.set (fun v h7 hb _ => ?_); (refine B_time K.1 hb (fun v h8 hb _ => ?_); (rintro _ rfl; refine B_time K.1 hb.L (fun v h9 hb _ => ?_); (rintro _ rfl; exact ⟨fun _ => b164_bad K.1 hb.L kq, fun c => hb.L.c c⟩)))))
  have l3 := d_alg_le hd
  rw [hd] at hp
  simp only [Option.bind_some] at hp
  have Y3 := Y2.I hxm (j := 20) (v := nI a1)
  rw [up_up] at Y3
  generalize up_I h2 m 20 (nI a1) = h3 at Y3 ⊢
  have a3 : hp_I h3 m 20 = nI a1 := by rw [Y3.g]; rfl
  rw [a3]
  rintro h4 hh4
  have Y4 := Y3.I hxm (j := 37) (v := nI a1)
  rw [← hh4] at Y4
  clear hh4
  have K4 := K.mf Y4.1
  refine s_Mname K4 (by rw [Y4.g]; rfl) (by rw [Y4.g]; exact hbad) he (by omega) (fun hd v h5 hb _ => ?_) (fun q0 k0 hd _ => ?_)
  · have kq := kB (hp.symm.trans (by rw [hd]; rfl))
    have hb := hb.pre Y4.1
    (rintro _ rfl; refine B_open K.1 hb.set (fun v h7 hb _ => ?_); (refine B_time K.1 hb (fun v h8 hb _ => ?_); (rintro _ rfl; refine B_time K.1 hb.L (fun v h9 hb _ => ?_); (rintro _ rfl; exact ⟨fun _ => b164_bad K.1 hb.L kq, fun c => hb.L.c c⟩))))
  have l4 := d_names_le hd
  rw [hd] at hp
  simp only [Option.bind_some] at hp
  have Y5 := Y4.I hxm (j := 20) (v := nI q0)
  generalize up_I h4 m 20 (nI q0) = h5 at Y5 ⊢
  have a5 : hp_I h5 m 20 = nI q0 := by rw [Y5.g]; rfl
  rw [a5]
  rintro h6 hh6
  have Y6 := Y5.I hxm (j := 38) (v := nI q0)
  rw [← hh6] at Y6
  clear hh6
  have K6 := K.mf Y6.1
  refine s_open K6 (by rw [Y6.g]; rfl) (by rw [Y6.g]; exact hbad) he (by omega) (by decide) (fun hd h7 hb _ => ?_) (fun t0 t1 hd _ => ?_)
  · have kq := kB (hp.symm.trans (by rw [hd]; rfl))
    have hb := hb.pre Y6.1
    (refine B_time K.1 hb (fun v h8 hb _ => ?_); (rintro _ rfl; refine B_time K.1 hb.L (fun v h9 hb _ => ?_); (rintro _ rfl; exact ⟨fun _ => b164_bad K.1 hb.L kq, fun c => hb.L.c c⟩)))
  have l6 := d_in_le hd
  rw [hd] at hp
  simp only [Option.bind_some] at hp
  have Y7 := Y6.I hxm (j := 20) (v := nI t0)
  generalize up_I h6 m 20 (nI t0) = h7 at Y7 ⊢
  have K7 := K.mf Y7.1
  refine s_Mtime K7 (by rw [Y7.g]; rfl) (by rw [Y7.g]; exact hbad) (by omega) (by omega) (fun hd v h8 hb _ => ?_) (fun u0 z0 hd _ => ?_)
  · have kq := kB (hp.symm.trans (by rw [hd]; rfl))
    have hb := hb.pre Y7.1
    (rintro _ rfl; refine B_time K.1 hb.L (fun v h9 hb _ => ?_); (rintro _ rfl; exact ⟨fun _ => b164_bad K.1 hb.L kq, fun c => hb.L.c c⟩))
  have l7 := d_time_le hd
  rw [hd] at hp
  simp only [Option.bind_some] at hp
  have Y8 := Y7.I hxm (j := 20) (v := nI u0)
  generalize up_I h7 m 20 (nI u0) = h8 at Y8 ⊢
  rintro h9 hh9
  have Y9 := Y8.L (j := 23) (v := lZ z0)
  rw [← hh9] at Y9
  clear hh9
  have K9 := K.mf Y9.1
  refine s_Mtime K9 (by rw [Y9.g]; rfl) (by rw [Y9.g]; exact hbad) (by omega) (by omega) (fun hd v h10 hb _ => ?_) (fun w0 z1 hd _ => ?_)
  · have kq := kB (hp.symm.trans (by rw [hd]; rfl))
    have hb := hb.pre Y9.1
    (rintro _ rfl; exact ⟨fun _ => b164_bad K.1 hb.L kq, fun c => hb.L.c c⟩)
  have l9 := d_time_le hd
  rw [hd] at hp
  simp only [Option.bind_some] at hp
  have Y10 := Y9.I hxm (j := 20) (v := nI w0)
  generalize up_I h9 m 20 (nI w0) = h10 at Y10 ⊢
  rintro h11 hh11
  have Y11 := Y10.L (j := 24) (v := lZ z1)
  rw [← hh11] at Y11
  clear hh11
  have K11 := K.mf Y11.1
  have a11 : hp_I h11 m 20 = nI w0 := by rw [Y11.g]; rfl
  have b11 : hp_I h11 m 21 = 0 := by rw [Y11.g]; exact hbad
  refine ⟨fun c => absurd b11 c, fun _ => ?_⟩
  rw [a11, nI_eq (by omega) (by omega)]
  refine ⟨fun c => ⟨K11.1, s_need0 K11.1 (fun _ => b164_bad K.1 (MB.of Y11.1) (kB (hp.symm.trans (by rw [if_neg c]))))⟩, fun c => ⟨K11.1, s_need1 (fun _ => ?_)⟩⟩
  rw [if_pos c] at hp
  have f37 : hp_I h11 m 37 = nI a1 ∧ hp_I h11 m 38 = nI q0 ∧ hp_I h11 m 32 = nI (s1 - s0) ∧ hp_I h11 m 45 = 0 ∧ hp_I h11 m 35 = hp_I h m 35 ∧ hp_I h11 m 36 = hp_I h m 36 := by
    rw [Y11.g, Y11.g, Y11.g, Y11.g, Y11.g, Y11.g]
    exact ⟨rfl, rfl, rfl, h45, rfl, rfl⟩
  have fL : hp_L h11 m 23 = lZ z0 ∧ hp_L h11 m 24 = lZ z1 := by
    rw [Y11.2.2.1]
    exact ⟨rfl, rfl⟩
  have V11 := V.g Y11 (fun k k1 k2 k3 => by
    unfold up
    repeat rw [if_neg (by omega)])
  have X11 := Y11.1
  clear Y1 Y2 Y3 Y4 Y5 Y6 Y7 Y8 Y9 Y10 Y11
  refine s_M164 K11 a11 b11 he (by omega) hN V11 f37.2.2.2.1 (fun hn h12 hb => kB (hp.symm.trans (by rw [hn]; rfl)) h12 (hb.pre X11)) (fun F' hd h12 X12 a12 b12 V12 r12 q12 k12 l12 => ?_)
  rw [hd] at hp
  simp only [Option.bind_some] at hp
  have k12' : ∀ j, j < 5 → F' j = F j := fun j hj => by
    rw [k12 j (by omega)]
    unfold up
    repeat rw [if_neg (by omega)]
  refine kQ _ _ _ hp.symm h12 (X11.tr X12) a12 b12 ⟨V12, ⟨?_, ?_, r12.1, r12.2.1, r12.2.2.1, r12.2.2.2, ?_⟩, ?_, ?_⟩ ⟨?_, ?_⟩ ⟨?_, k12'⟩
  · rw [q12 37 (by decide) (by decide), f37.1, k12 5 (by decide)]; rfl
  · rw [q12 38 (by decide) (by decide), f37.2.1, k12 6 (by decide)]; rfl
  · rw [q12 32 (by decide) (by decide), f37.2.2.1, k12 20 (by decide)]; rfl
  · rw [l12, fL.1]; rfl
  · rw [l12, fL.2]; rfl
  · rw [q12 35 (by decide) (by decide), f37.2.2.2.2.1]
  · rw [q12 36 (by decide) (by decide), f37.2.2.2.2.2]
  · rw [k12 28 (by decide)]; rfl
