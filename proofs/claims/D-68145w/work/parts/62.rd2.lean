set_option maxRecDepth 10000
theorem iu_nI {N s : Nat} (hN : N < 2 ^ 32) (hs : s < 32) : sh_iu (nI N) (nI s) = nI (N / 2 ^ s) := by
  apply Int32.toBitVec_inj.mp
  have e1 : ((BitVec.ofNat 32 s &&& 31#32) % 32#32).toNat = s := by
    simp only [BitVec.toNat_umod, BitVec.toNat_and, BitVec.toNat_ofNat]
    rw [Nat.mod_eq_of_lt (by omega : s < 2 ^ 32)]
    have : s &&& 31 % 2 ^ 32 = s % 2 ^ 5 := Nat.and_two_pow_sub_one_eq_mod s 5
    rw [this]
    show s % 32 % 32 = s
    omega
  have e2 : (sh_iu (nI N) (nI s)).toBitVec = (BitVec.ofNat 32 N) >>> ((BitVec.ofNat 32 s &&& 31#32) % 32#32) := rfl
  rw [e2]
  apply BitVec.eq_of_toNat_eq
  show ((BitVec.ofNat 32 N) >>> ((BitVec.ofNat 32 s &&& 31#32) % 32#32).toNat).toNat = (BitVec.ofNat 32 (N / 2 ^ s)).toNat
  rw [e1, BitVec.toNat_ushiftRight, BitVec.toNat_ofNat, BitVec.toNat_ofNat, Nat.shiftRight_eq_div_pow, Nat.mod_eq_of_lt hN]
  have : N / 2 ^ s ≤ N := Nat.div_le_self _ _
  rw [Nat.mod_eq_of_lt (by omega)]
theorem lN_I (n : Nat) : (lN n).toInt32 = nI n := by
  apply Int32.toBitVec_inj.mp
  show (BitVec.ofNat 64 n).signExtend 32 = BitVec.ofNat 32 n
  apply BitVec.eq_of_toNat_eq
  rw [BitVec.signExtend_eq_setWidth_of_le _ (by decide)]
  simp [BitVec.toNat_setWidth, BitVec.toNat_ofNat]
theorem d_num_first {g : Nat → Nat} {a m : Nat} (hg : ∀ i, i < m → g (a + i) < 256) (h1 : 1 ≤ m) (h3 : m ≤ 3) : d_num g a m / 2 ^ (8 * m - 8) = g a ∧ d_num g a m < 2 ^ 24 := by
  have h0 := hg 0 (by omega)
  obtain rfl | rfl | rfl : m = 1 ∨ m = 2 ∨ m = 3 := by omega
  · simp only [d_num, Nat.zero_mul, Nat.zero_add, Nat.add_zero] at *
    omega
  · have h2 := hg 1 (by omega)
    simp only [d_num, Nat.zero_mul, Nat.zero_add, Nat.add_zero] at *
    omega
  · have h2 := hg 1 (by omega)
    have h3 := hg 2 (by omega)
    simp only [d_num, Nat.zero_mul, Nat.zero_add, Nat.add_zero] at *
    omega
def Gb (g : Nat → Nat) (n : Nat) : Prop := ∀ i, i < n → g i < 256
theorem s_enter {Q : Int32 → AH → Prop} {E : Nat → AH → Prop} {h : AH} {r b n a e tag : Nat} {g : Nat → Nat} (R : RD h r b n a g) (hg : Gb g n) (he : e ≤ n) (ha : a ≤ n) (ht : tag < 256) (m : rm h 1 6) (kE : d_in g tag a e = none → ∀ q h1, bx 14 (Sr r) h h1 q → E q h1) (kQ : ∀ a' e', d_in g tag a e = some (a', e') → Q (nI e') (up_I h r 1 (nI a'))) : m_Rd_enter Q E r (nI tag) (nI e) h := by
  have hne := R.ne
  have RT := R.to
  obtain ⟨h1, h2, h3, h4, h5, h6, h7⟩ := id R
  have bad : ∀ {h' : AH}, fm (Sr r) h h' → d_in g tag a e = none → m_Rd_bad (fun q1 h1 => fx_ext h' h1 → E q1 h1) h' := fun F hd => s_bad (Sr r) (m.fm F) (fun q h1 hb _ => kE hd q h1 (hb.pre F))
  unfold m_Rd_enter m_Rd_enter_19 m_Rd_enter_140 m_Rd_enter_86 m_Rd_enter_125
  refine ⟨h1, s_tag R he (by omega) (fun hlt hga _ => ?_) (fun hge _ => ?_)⟩
  rotate_left
  · refine ⟨fun _ => bad fm.rf ?_, fun c => ?_⟩
    · unfold d_in; rw [if_neg (by omega)]
    · exact absurd c.symm (by simp (disch := omega) only [lit_nI, nI_add, nI_sub, nI_mul, nI_neg, nI_leI, nI_ltI, nI_eq, nI_clamp, vp_iff, nI_negne, nI_l]; exact id)
  · simp (disch := omega) only [h3, lit_nI, nI_add, nI_sub, nI_mul, nI_neg, nI_leI, nI_ltI, nI_eq, nI_clamp, vp_iff, nI_negne, nI_l]
    refine ⟨fun c => bad fm.rf ?_, fun c => ⟨fun c2 => ⟨b, h2, h4, by omega, fun h8 => ?_⟩, fun c2 => bad fm.rf ?_⟩⟩
    · unfold d_in; rw [if_neg (by omega)]
    rotate_left
    · unfold d_in; rw [if_neg (by omega)]
    have e1 := by8_and h8
    have e2 := by8_lt h8
    rw [h7 (a + 1) (by omega)] at e1 e2
    rw [show nI 255 = (255 : Int32) from rfl, e1]
    rintro _ rfl _ rfl
    have hd : d_in g tag a e = d_hd g a e := by unfold d_in; rw [if_pos ⟨by omega, c⟩]
    simp (disch := omega) only [lit_nI, nI_add, nI_sub, nI_mul, nI_neg, nI_leI, nI_ltI, nI_eq, nI_clamp, vp_iff, nI_negne, nI_l, rI1, rI2, rI3, rIL, rIR, rICR, rIC1, rIC2, rIC3, rIN1, rIN2, rL1, rL2, rL3, rLI, rLR, rLCI, rLCR, rLN1, rLN2, rR1, rR2, rR3, rRI, rRL, rRCI, rRC1, rRC2, rRC3, rRN1, rRN2, rkI, rkL, rkR, rkCI, rkCR, rkN1, rkN2, rnI, rnL, rnR, rnCI, rnCR, rnN1, rnN2, rzI, rzL, rzR, rzCI, rzCR, rzN, rsI, rsL, rsR, rsCI, rsCR, rsN, rtI, rtL, rtR, rtCI, rtCR, rtN, rcI, rcL, rcR, rcCI, rcCR, rcN, uII]
    refine ⟨fun c3 => ⟨h1, fun c4 => ?_, fun c4 => bad (fm.I ⟨rfl, rfl⟩) ?_⟩, fun c3 => ?_⟩
    · refine kQ _ _ ?_
      rw [hd]; unfold d_hd; rw [if_pos c3, if_pos (by omega)]
    · rw [hd]; unfold d_hd; rw [if_pos c3, if_neg (by omega)]
    · rintro _ rfl
      simp (disch := omega) only [lit_nI, nI_add, nI_sub, nI_mul, nI_neg, nI_leI, nI_ltI, nI_eq, nI_clamp, vp_iff, nI_negne, nI_l]
      refine ⟨fun c4 => bad (fm.I ⟨rfl, rfl⟩) ?_, fun c4 => ⟨fun c5 => bad (fm.I ⟨rfl, rfl⟩) ?_, fun c5 => ⟨fun c6 => ?_, fun c6 => bad (fm.I ⟨rfl, rfl⟩) ?_⟩⟩⟩
      · rw [hd]; unfold d_hd; rw [if_neg c3, if_neg (by omega)]
      · rw [hd]; unfold d_hd; rw [if_neg c3, if_neg (by omega)]
      rotate_left
      · rw [hd]; unfold d_hd; rw [if_neg c3, if_neg (by omega)]
      obtain ⟨t1, t2, t3, t4, t5, t6, t7⟩ := RT (a + 2)
      refine s_number (g := g) t4 (by omega) (by omega) (by omega) (fun i hi => t7 i (by omega)) ?_
      rintro _ _ rfl
      have hf := d_num_first (g := g) (a := a + 2) (m := g (a + 1) - 128) (fun i hi => hg _ (by omega)) (by omega) (by omega)
      rw [lN_I]
      simp (disch := omega) only [lit_nI, nI_add, nI_sub, nI_mul, nI_neg, nI_leI, nI_ltI, nI_eq, nI_clamp, vp_iff, nI_negne, nI_l, rI1, rI2, rI3, rIL, rIR, rICR, rIC1, rIC2, rIC3, rIN1, rIN2, rL1, rL2, rL3, rLI, rLR, rLCI, rLCR, rLN1, rLN2, rR1, rR2, rR3, rRI, rRL, rRCI, rRC1, rRC2, rRC3, rRN1, rRN2, rkI, rkL, rkR, rkCI, rkCR, rkN1, rkN2, rnI, rnL, rnR, rnCI, rnCR, rnN1, rnN2, rzI, rzL, rzR, rzCI, rzCR, rzN, rsI, rsL, rsR, rsCI, rsCR, rsN, rtI, rtL, rtR, rtCI, rtCR, rtN, rcI, rcL, rcR, rcCI, rcCR, rcN, uII, iu_nI]
      rw [hf.1]
      have hg2 := hg (a + 2) (by omega)
      simp (disch := omega) only [lit_nI, nI_add, nI_sub, nI_mul, nI_neg, nI_leI, nI_ltI, nI_eq, nI_clamp, vp_iff, nI_negne, nI_l]
      refine ⟨fun c7 => bad (fm.I ⟨rfl, rfl⟩) ?_, fun c7 => ⟨fun c8 => ?_, fun c8 => bad (fm.I ⟨rfl, rfl⟩) ?_⟩⟩
      · rw [hd]; unfold d_hd; rw [if_neg c3, if_neg (by omega)]
      · rintro _ rfl
        simp (disch := omega) only [lit_nI, nI_add, nI_sub, nI_mul, nI_neg, nI_leI, nI_ltI, nI_eq, nI_clamp, vp_iff, nI_negne, nI_l, rI1, rI2, rI3, rIL, rIR, rICR, rIC1, rIC2, rIC3, rIN1, rIN2, rL1, rL2, rL3, rLI, rLR, rLCI, rLCR, rLN1, rLN2, rR1, rR2, rR3, rRI, rRL, rRCI, rRC1, rRC2, rRC3, rRN1, rRN2, rkI, rkL, rkR, rkCI, rkCR, rkN1, rkN2, rnI, rnL, rnR, rnCI, rnCR, rnN1, rnN2, rzI, rzL, rzR, rzCI, rzCR, rzN, rsI, rsL, rsR, rsCI, rsCR, rsN, rtI, rtL, rtR, rtCI, rtCR, rtN, rcI, rcL, rcR, rcCI, rcCR, rcN, uII]
        refine ⟨h1, fun c9 => ?_, fun c9 => bad (fm.I ⟨rfl, rfl⟩) ?_⟩
        · refine kQ _ _ ?_
          rw [hd]; unfold d_hd; rw [if_neg c3, if_pos (by omega)]
        · rw [hd]; unfold d_hd; rw [if_neg c3, if_neg (by omega)]
      · rw [hd]; unfold d_hd; rw [if_neg c3, if_neg (by omega)]
