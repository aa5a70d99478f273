set_option maxRecDepth 10000
/-- a certificate's object c with its reader r -/
def CC (h : AH) (c r : Nat) : Prop := hp_k h c = 8 ∧ hp_R h c 1 = some r ∧ hp_k h r = 9 ∧ ∃ w, hp_R h c 0 = some w ∧ hp_k h w = 4
def Sp (c r : Nat) : Nat → Nat → Prop := fun a j => (a = c ∧ 2 ≤ j) ∨ a = r
theorem CC.ne {h : AH} {c r : Nat} (C : CC h c r) : r ≠ c := k_ne C.2.2.1 C.1 (by decide)
theorem CC.fa {S : Nat → Nat → Prop} {h h1 : AH} {c r dz ds : Nat} (C : CC h c r) (x : fa S dz ds h h1) (h0 : ¬ S c 0) (h1' : ¬ S c 1) : CC h1 c r := by
  obtain ⟨c1, c2, c3, w, w1, w2⟩ := C
  exact ⟨x.k c1, by rw [x.R (by omega) h1']; exact c2, x.k c3, w, by rw [x.R (by omega) h0]; exact w1, x.k w2⟩
theorem Sc_p {c r : Nat} : ∀ a j, Sc c r a j → Sp c r a j := fun a j h => by
  rcases h with ⟨h1, h2⟩ | ⟨h1, -⟩
  · exact Or.inl ⟨h1, by omega⟩
  · exact Or.inr h1
theorem s_parse {Q : Int32 → AH → Prop} {h : AH} {c r b n : Nat} {g : Nat → Nat} (C : CC h c r) (O : CON h) (hb : bk (hp_k h b)) (hn : hp_n h b = n) (hn2 : n < 1000000) (hgb : ∀ i, i < n → ub (hp_I h b i) = g i) (hg : Gb g n) (m : rm h 1 6)
    (k1 : ∀ F' L', d_whole g 0 n (hp_I h c) (hp_L h c) = some (F', L') → ∀ h1, fm (Sp c r) h h1 → hp_I h1 c = F' → hp_L h1 c = L' → hp_R h1 c 2 = some b → Q 1 h1)
    (k0 : d_whole g 0 n (hp_I h c) (hp_L h c) = none → ∀ h1, fa (Sp c r) 1 6 h h1 → Q 0 h1) : m_Cert_parse Q c b 0 (nI n) h := by
  have hne := C.ne
  obtain ⟨c1, c2, c3, w, w1, w2⟩ := C
  have hbc : b ≠ c := by
    rintro rfl
    rcases hb with q | q <;> omega
  have hbr : b ≠ r := by
    rintro rfl
    rcases hb with q | q <;> omega
  unfold m_Cert_parse
  refine ⟨c1, ?_⟩
  rintro _ rfl
  refine ⟨r, by rw [rR3 (by decide)]; exact c2, c3, ?_⟩
  rintro _ rfl
  refine ⟨r, by rw [rR2 hne.symm, rR3 (by decide)]; exact c2, c3, ?_⟩
  rintro _ rfl
  have Fm : fm (Sp c r) h (up_I (up_R (up_R h c 2 (some b)) r 0 (some b)) r 1 0) := ((fm.R (Or.inl ⟨rfl, by decide⟩)).tr (fm.R (Or.inr rfl))).tr (fm.I (Or.inr rfl))
  have eI : hp_I (up_I (up_R (up_R h c 2 (some b)) r 0 (some b)) r 1 0) c = hp_I h c := by rw [rIg hne.symm]; rfl
  have eL : hp_L (up_I (up_R (up_R h c 2 (some b)) r 0 (some b)) r 1 0) c = hp_L h c := rfl
  have K : CE (up_I (up_R (up_R h c 2 (some b)) r 0 (some b)) r 1 0) c r b n 0 g := by
    refine ⟨c1, by rw [rRI, rR2 hne.symm, rR3 (by decide)]; exact c2, by rw [rRI, rR2 hne.symm, rR1], ⟨w, by rw [rRI, rR2 hne.symm, rR3 (by decide)]; exact w1, w2⟩, ⟨c3, by rw [rRI, rR1], rI1, hb, hn, hn2, fun i hi => by rw [rI2 hbr]; exact hgb i hi⟩, ?_, hg⟩
    refine O.fa (dz := 0) (ds := 0) Fm.fa (fun x j hk hs => ?_)
    rcases hs with ⟨rfl, -⟩ | rfl <;> omega
  rw [← eI, ← eL] at k1 k0
  generalize up_I (up_R (up_R h c 2 (some b)) r 0 (some b)) r 1 0 = h3 at Fm K k1 k0 ⊢
  have e0 : (0 : Int32) + nI n = nI n := Int32.zero_add _
  rw [e0]
  refine s_whole K (m.fm Fm) (Nat.le_refl _) (Nat.zero_le _) (fun hd q h4 hx _ => ⟨hx.1, k0 hd h4 ?_⟩) (fun F' L' hr h4 Y _ => k1 F' L' hr h4 (Fm.tr (Y.1.wk Sc_p)) Y.2.2.1 Y.2.2.2.1 (by rw [Y.2.2.2.2]; exact K.2.2.1))
  exact Fm.fa.tr (hx.2.wk (fun a j _ => Sc_p a j) (Nat.le_refl _) (Nat.le_refl _)) (dz := 0) (ds := 0) (by omega) (by omega)
