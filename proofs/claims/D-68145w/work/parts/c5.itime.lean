set_option maxRecDepth 10000
/-! the calendar of a day, by search -/
def d_yr : Nat → Int → Nat → Nat
  | 0, _, y => y
  | k + 1, day, y => if day < d_days (y + 1) 1 1 then y else d_yr k day (y + 1)
def d_mo : Nat → Int → Nat → Nat → Nat
  | 0, _, _, m => m
  | k + 1, day, y, m => if day < d_days y (m + 1) 1 then m else d_mo k day y (m + 1)
theorem lZ_int {z : Int} (h1 : -2 ^ 62 ≤ z) (h2 : z < 2 ^ 62) : (lZ z).toInt = z := by
  unfold lZ
  exact Int64.toInt_ofInt_of_le (by omega) (by omega)
theorem lZ_lt {a b : Int} (h1 : -2 ^ 62 ≤ a) (h2 : a < 2 ^ 62) (h3 : -2 ^ 62 ≤ b) (h4 : b < 2 ^ 62) : lZ a < lZ b ↔ a < b := by
  rw [Int64.lt_iff_toInt_lt, lZ_int h1 h2, lZ_int h3 h4]
theorem lN_lZ {n : Nat} : lN n = lZ n := rfl
theorem lN_div {a b : Nat} (ha : a < 2 ^ 31) (hb : b < 2 ^ 31) (h0 : 0 < b) : lN a / lN b = lN (a / b) := by
  apply Int64.toInt_inj.mp
  have h1 : a / b ≤ a := Nat.div_le_self _ _
  rw [lg_ldiv_nonneg (by rw [lN_toInt ha]; omega) (by rw [lN_toInt hb]; omega), lN_toInt ha, lN_toInt hb, lN_toInt (by omega)]
  rfl
theorem dd_low : ∀ n : Nat, 365 * (n : Int) ≤ d_days (1970 + n) 1 1
  | 0 => by decide
  | n + 1 => by
    have h := dd_low n
    have e := dd_year (y := 1970 + n) (by omega)
    rw [show 1970 + (n + 1) = 1970 + n + 1 by omega, e]
    split <;> omega
theorem dd_rng {y mo : Nat} (hy0 : 1 ≤ y) (hy : y < 10000) (hm : mo < 20) : -2 ^ 40 ≤ d_days y mo 1 ∧ d_days y mo 1 < 2 ^ 40 := by
  unfold d_days
  split <;> omega
theorem dd_dec {y : Nat} (hy : 1 ≤ y) : d_days (y + 1) 1 1 = d_days y 12 1 + 31 := by
  unfold d_days
  simp
  omega
theorem md_le {y mo : Nat} : d_md y mo ≤ 31 := by
  unfold d_md
  repeat' split
  all_goals omega
/-- what the search finds -/
theorem d_yr_ok {day : Int} : ∀ k y, 1970 ≤ y → d_days y 1 1 ≤ day → day < d_days (y + k) 1 1 → d_days (d_yr k day y) 1 1 ≤ day ∧ day < d_days (d_yr k day y + 1) 1 1 ∧ 1970 ≤ d_yr k day y
  | 0, y, h0, h1, h2 => by simp at h2; omega
  | k + 1, y, h0, h1, h2 => by
    simp only [d_yr]
    split
    · exact ⟨h1, by assumption, h0⟩
    · exact d_yr_ok k (y + 1) (by omega) (by omega) (by rw [show y + 1 + k = y + (k + 1) by omega]; exact h2)
theorem d_mo_ok {day : Int} {y : Nat} (hy : 1 ≤ y) (hd : day < d_days (y + 1) 1 1) : ∀ k m, 1 ≤ m → m + k = 12 → d_days y m 1 ≤ day → 1 ≤ d_mo k day y m ∧ d_mo k day y m ≤ 12 ∧ d_days y (d_mo k day y m) 1 ≤ day ∧ day < d_days y (d_mo k day y m) 1 + 31
  | 0, m, h0, h1, h2 => by
    have : m = 12 := by omega
    subst this
    simp only [d_mo]
    have := dd_dec hy
    omega
  | k + 1, m, h0, h1, h2 => by
    simp only [d_mo]
    split
    · have := dd_month hy h0 (by omega)
      have := md_le (y := y) (mo := m)
      omega
    · exact d_mo_ok hy hd k (m + 1) (by omega) (by omega) (by omega)
def e_tm (mi y mo d : Nat) : List Nat := e_tlv (if y < 2050 then 23 else 24) ((if y < 2050 then [] else e_two (y / 100)) ++ (e_two (y % 100) ++ (e_two mo ++ (e_two d ++ (e_two (mi % 1440 / 60) ++ (e_two (mi % 60) ++ (e_two 0 ++ [90])))))))
def e_yr (mi : Nat) : Nat := d_yr 6000 (mi / 1440 : Nat) 1970
def e_mo (mi : Nat) : Nat := d_mo 11 (mi / 1440 : Nat) (e_yr mi) 1
def e_dy (mi : Nat) : Nat := ((mi / 1440 : Nat) - d_days (e_yr mi) (e_mo mi) 1 : Int).toNat + 1
def e_time (mi : Nat) : List Nat := e_tm mi (e_yr mi) (e_mo mi) (e_dy mi)
theorem dd_6000 : (2000000 : Int) < d_days (1970 + 6000) 1 1 := by
  have := dd_low 6000
  omega
theorem e_yr_ok {mi : Nat} (h : mi < 2 ^ 31) : d_days (e_yr mi) 1 1 ≤ (mi / 1440 : Nat) ∧ ((mi / 1440 : Nat) : Int) < d_days (e_yr mi + 1) 1 1 ∧ 1970 ≤ e_yr mi ∧ e_yr mi < 6100 := by
  have h1 : mi / 1440 < 1491309 := by omega
  obtain ⟨a, b, c⟩ := d_yr_ok (day := (mi / 1440 : Nat)) 6000 1970 (by omega) (by rw [dd_1970]; omega) (by have := dd_6000; omega)
  refine ⟨a, b, c, ?_⟩
  have : 1970 ≤ e_yr mi := c
  obtain ⟨n, hn⟩ : ∃ n, e_yr mi = 1970 + n := ⟨e_yr mi - 1970, by omega⟩
  have h2 := dd_low n
  have h3 : d_days (1970 + n) 1 1 ≤ (mi / 1440 : Nat) := by rw [← hn]; exact a
  omega
theorem e_mo_ok {mi : Nat} (h : mi < 2 ^ 31) : 1 ≤ e_mo mi ∧ e_mo mi ≤ 12 ∧ d_days (e_yr mi) (e_mo mi) 1 ≤ (mi / 1440 : Nat) ∧ ((mi / 1440 : Nat) : Int) < d_days (e_yr mi) (e_mo mi) 1 + 31 := by
  obtain ⟨a, b, c, d⟩ := e_yr_ok h
  exact d_mo_ok (by omega) b 11 1 (by omega) (by omega) a
theorem e_dy_ok {mi : Nat} (h : mi < 2 ^ 31) : 1 ≤ e_dy mi ∧ e_dy mi ≤ 31 ∧ ((e_dy mi : Nat) : Int) = (mi / 1440 : Nat) - d_days (e_yr mi) (e_mo mi) 1 + 1 := by
  obtain ⟨a, b, c, d⟩ := e_mo_ok h
  unfold e_dy
  omega
theorem e_tm_le {mi y mo d : Nat} : (e_tm mi y mo d).length ≤ 20 := by
  unfold e_tm
  refine Nat.le_trans e_tlv_le ?_
  simp only [List.length_append, e_two, List.length_cons, List.length_nil]
  split <;> simp
