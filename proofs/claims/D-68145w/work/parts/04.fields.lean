set_option maxRecDepth 100000
/-! the tables' words by their places -/
theorem fx_m1 {w : Cond} (h : w ∈ tables_1_1) : w ∈ tables_1 := List.mem_append_left _ h
theorem fx_m2 {w : Cond} (h : w ∈ tables_1_2) : w ∈ tables_1 := List.mem_append_right _ (List.mem_append_left _ h)
theorem fx_m3 {w : Cond} (h : w ∈ tables_1_3) : w ∈ tables_1 := List.mem_append_right _ (List.mem_append_right _ (List.mem_append_left _ h))
theorem fx_m4 {w : Cond} (h : w ∈ tables_1_4) : w ∈ tables_1 := List.mem_append_right _ (List.mem_append_right _ (List.mem_append_right _ (List.mem_append_left _ h)))
theorem fx_m5 {w : Cond} (h : w ∈ tables_1_5) : w ∈ tables_1 := List.mem_append_right _ (List.mem_append_right _ (List.mem_append_right _ (List.mem_append_right _ (List.mem_append_left _ h))))
theorem fx_m6 {w : Cond} (h : w ∈ tables_1_6) : w ∈ tables_1 := List.mem_append_right _ (List.mem_append_right _ (List.mem_append_right _ (List.mem_append_right _ (List.mem_append_right _ (List.mem_append_left _ h)))))
theorem fx_m7 {w : Cond} (h : w ∈ tables_1_7) : w ∈ tables_1 := List.mem_append_right _ (List.mem_append_right _ (List.mem_append_right _ (List.mem_append_right _ (List.mem_append_right _ (List.mem_append_right _ (List.mem_append_left _ h))))))
theorem fx_m8 {w : Cond} (h : w ∈ tables_1_8) : w ∈ tables_1 := List.mem_append_right _ (List.mem_append_right _ (List.mem_append_right _ (List.mem_append_right _ (List.mem_append_right _ (List.mem_append_right _ (List.mem_append_right _ (h)))))))
theorem fx_lay0 (k : Nat) (hk : k < 16) : u_lay "ChainJudge" fx_T0 k ∈ tables_1 := match k, hk with
  | 0, _ => fx_m2 (List.mem_of_getElem? (i := 131) rfl)
  | 1, _ => fx_m2 (List.mem_of_getElem? (i := 133) rfl)
  | 2, _ => fx_m2 (List.mem_of_getElem? (i := 135) rfl)
  | 3, _ => fx_m2 (List.mem_of_getElem? (i := 137) rfl)
  | 4, _ => fx_m2 (List.mem_of_getElem? (i := 139) rfl)
  | 5, _ => fx_m2 (List.mem_of_getElem? (i := 141) rfl)
  | 6, _ => fx_m2 (List.mem_of_getElem? (i := 143) rfl)
  | 7, _ => fx_m2 (List.mem_of_getElem? (i := 145) rfl)
  | 8, _ => fx_m2 (List.mem_of_getElem? (i := 147) rfl)
  | 9, _ => fx_m2 (List.mem_of_getElem? (i := 149) rfl)
  | 10, _ => fx_m2 (List.mem_of_getElem? (i := 151) rfl)
  | 11, _ => fx_m2 (List.mem_of_getElem? (i := 153) rfl)
  | 12, _ => fx_m2 (List.mem_of_getElem? (i := 155) rfl)
  | 13, _ => fx_m2 (List.mem_of_getElem? (i := 157) rfl)
  | 14, _ => fx_m2 (List.mem_of_getElem? (i := 159) rfl)
  | 15, _ => fx_m2 (List.mem_of_getElem? (i := 161) rfl)
  | n + 16, h => absurd h (by omega)
theorem fx_tyk0 : ∀ k, k < 16 → parseFieldDescriptor (fx_T0 k).2.2.1 = some (fx_y0 k) := by decide +kernel
theorem fx_nmk0 : ∀ a, a < 16 → ∀ b, b < 16 → a ≠ b → (fx_T0 a).2.1 ≠ (fx_T0 b).2.1 := by decide +kernel
theorem fx_lay1 (k : Nat) (hk : k < 2) : u_lay "ChainJudge$Row" fx_T1 k ∈ tables_1 := match k, hk with
  | 0, _ => fx_m1 (List.mem_of_getElem? (i := 50) rfl)
  | 1, _ => fx_m1 (List.mem_of_getElem? (i := 52) rfl)
  | n + 2, h => absurd h (by omega)
theorem fx_tyk1 : ∀ k, k < 2 → parseFieldDescriptor (fx_T1 k).2.2.1 = some (fx_y1 k) := by decide +kernel
theorem fx_nmk1 : ∀ a, a < 2 → ∀ b, b < 2 → a ≠ b → (fx_T1 a).2.1 ≠ (fx_T1 b).2.1 := by decide +kernel
theorem fx_lay2 (k : Nat) (hk : k < 2) : u_lay "ChainJudge$Held" fx_T2 k ∈ tables_1 := match k, hk with
  | 0, _ => fx_m4 (List.mem_of_getElem? (i := 233) rfl)
  | 1, _ => fx_m4 (List.mem_of_getElem? (i := 235) rfl)
  | n + 2, h => absurd h (by omega)
theorem fx_tyk2 : ∀ k, k < 2 → parseFieldDescriptor (fx_T2 k).2.2.1 = some (fx_y2 k) := by decide +kernel
theorem fx_nmk2 : ∀ a, a < 2 → ∀ b, b < 2 → a ≠ b → (fx_T2 a).2.1 ≠ (fx_T2 b).2.1 := by decide +kernel
theorem fx_lay3 (k : Nat) (hk : k < 2) : u_lay "ChainJudge$KeyedMarks" fx_T3 k ∈ tables_1 := match k, hk with
  | 0, _ => fx_m1 (List.mem_of_getElem? (i := 154) rfl)
  | 1, _ => fx_m1 (List.mem_of_getElem? (i := 156) rfl)
  | n + 2, h => absurd h (by omega)
theorem fx_tyk3 : ∀ k, k < 2 → parseFieldDescriptor (fx_T3 k).2.2.1 = some (fx_y3 k) := by decide +kernel
theorem fx_nmk3 : ∀ a, a < 2 → ∀ b, b < 2 → a ≠ b → (fx_T3 a).2.1 ≠ (fx_T3 b).2.1 := by decide +kernel
theorem fx_lay4 (k : Nat) (hk : k < 6) : u_lay "ChainJudge$Kdf" fx_T4 k ∈ tables_1 := match k, hk with
  | 0, _ => fx_m1 (List.mem_of_getElem? (i := 139) rfl)
  | 1, _ => fx_m1 (List.mem_of_getElem? (i := 141) rfl)
  | 2, _ => fx_m1 (List.mem_of_getElem? (i := 143) rfl)
  | 3, _ => fx_m1 (List.mem_of_getElem? (i := 145) rfl)
  | 4, _ => fx_m1 (List.mem_of_getElem? (i := 147) rfl)
  | 5, _ => fx_m1 (List.mem_of_getElem? (i := 149) rfl)
  | n + 6, h => absurd h (by omega)
theorem fx_tyk4 : ∀ k, k < 6 → parseFieldDescriptor (fx_T4 k).2.2.1 = some (fx_y4 k) := by decide +kernel
theorem fx_nmk4 : ∀ a, a < 6 → ∀ b, b < 6 → a ≠ b → (fx_T4 a).2.1 ≠ (fx_T4 b).2.1 := by decide +kernel
theorem fx_lay5 (k : Nat) (hk : k < 8) : u_lay "ChainJudge$Sha256" fx_T5 k ∈ tables_1 := match k, hk with
  | 0, _ => fx_m1 (List.mem_of_getElem? (i := 111) rfl)
  | 1, _ => fx_m1 (List.mem_of_getElem? (i := 113) rfl)
  | 2, _ => fx_m1 (List.mem_of_getElem? (i := 115) rfl)
  | 3, _ => fx_m1 (List.mem_of_getElem? (i := 117) rfl)
  | 4, _ => fx_m1 (List.mem_of_getElem? (i := 119) rfl)
  | 5, _ => fx_m1 (List.mem_of_getElem? (i := 121) rfl)
  | 6, _ => fx_m1 (List.mem_of_getElem? (i := 123) rfl)
  | 7, _ => fx_m1 (List.mem_of_getElem? (i := 125) rfl)
  | n + 8, h => absurd h (by omega)
theorem fx_tyk5 : ∀ k, k < 8 → parseFieldDescriptor (fx_T5 k).2.2.1 = some (fx_y5 k) := by decide +kernel
theorem fx_nmk5 : ∀ a, a < 8 → ∀ b, b < 8 → a ≠ b → (fx_T5 a).2.1 ≠ (fx_T5 b).2.1 := by decide +kernel
theorem fx_lay6 (k : Nat) (hk : k < 8) : u_lay "ChainJudge$Paths" fx_T6 k ∈ tables_1 := match k, hk with
  | 0, _ => fx_m1 (List.mem_of_getElem? (i := 179) rfl)
  | 1, _ => fx_m1 (List.mem_of_getElem? (i := 181) rfl)
  | 2, _ => fx_m1 (List.mem_of_getElem? (i := 183) rfl)
  | 3, _ => fx_m1 (List.mem_of_getElem? (i := 185) rfl)
  | 4, _ => fx_m1 (List.mem_of_getElem? (i := 187) rfl)
  | 5, _ => fx_m1 (List.mem_of_getElem? (i := 189) rfl)
  | 6, _ => fx_m1 (List.mem_of_getElem? (i := 191) rfl)
  | 7, _ => fx_m1 (List.mem_of_getElem? (i := 193) rfl)
  | n + 8, h => absurd h (by omega)
theorem fx_tyk6 : ∀ k, k < 8 → parseFieldDescriptor (fx_T6 k).2.2.1 = some (fx_y6 k) := by decide +kernel
theorem fx_nmk6 : ∀ a, a < 8 → ∀ b, b < 8 → a ≠ b → (fx_T6 a).2.1 ≠ (fx_T6 b).2.1 := by decide +kernel
theorem fx_lay7 (k : Nat) (hk : k < 29) : u_lay "ChainJudge$Certificate" fx_T7 k ∈ tables_1 := match k, hk with
  | 0, _ => fx_m2 (List.mem_of_getElem? (i := 25) rfl)
  | 1, _ => fx_m2 (List.mem_of_getElem? (i := 27) rfl)
  | 2, _ => fx_m2 (List.mem_of_getElem? (i := 29) rfl)
  | 3, _ => fx_m2 (List.mem_of_getElem? (i := 31) rfl)
  | 4, _ => fx_m2 (List.mem_of_getElem? (i := 33) rfl)
  | 5, _ => fx_m2 (List.mem_of_getElem? (i := 35) rfl)
  | 6, _ => fx_m2 (List.mem_of_getElem? (i := 37) rfl)
  | 7, _ => fx_m2 (List.mem_of_getElem? (i := 39) rfl)
  | 8, _ => fx_m2 (List.mem_of_getElem? (i := 41) rfl)
  | 9, _ => fx_m2 (List.mem_of_getElem? (i := 43) rfl)
  | 10, _ => fx_m2 (List.mem_of_getElem? (i := 45) rfl)
  | 11, _ => fx_m2 (List.mem_of_getElem? (i := 47) rfl)
  | 12, _ => fx_m2 (List.mem_of_getElem? (i := 49) rfl)
  | 13, _ => fx_m2 (List.mem_of_getElem? (i := 51) rfl)
  | 14, _ => fx_m2 (List.mem_of_getElem? (i := 53) rfl)
  | 15, _ => fx_m2 (List.mem_of_getElem? (i := 55) rfl)
  | 16, _ => fx_m2 (List.mem_of_getElem? (i := 57) rfl)
  | 17, _ => fx_m2 (List.mem_of_getElem? (i := 59) rfl)
  | 18, _ => fx_m2 (List.mem_of_getElem? (i := 61) rfl)
  | 19, _ => fx_m2 (List.mem_of_getElem? (i := 63) rfl)
  | 20, _ => fx_m2 (List.mem_of_getElem? (i := 65) rfl)
  | 21, _ => fx_m2 (List.mem_of_getElem? (i := 67) rfl)
  | 22, _ => fx_m2 (List.mem_of_getElem? (i := 69) rfl)
  | 23, _ => fx_m2 (List.mem_of_getElem? (i := 71) rfl)
  | 24, _ => fx_m2 (List.mem_of_getElem? (i := 73) rfl)
  | 25, _ => fx_m2 (List.mem_of_getElem? (i := 75) rfl)
  | 26, _ => fx_m2 (List.mem_of_getElem? (i := 77) rfl)
  | 27, _ => fx_m2 (List.mem_of_getElem? (i := 79) rfl)
  | 28, _ => fx_m2 (List.mem_of_getElem? (i := 81) rfl)
  | n + 29, h => absurd h (by omega)
theorem fx_tyk7 : ∀ k, k < 29 → parseFieldDescriptor (fx_T7 k).2.2.1 = some (fx_y7 k) := by decide +kernel
theorem fx_nmk7 : ∀ a, a < 29 → ∀ b, b < 29 → a ≠ b → (fx_T7 a).2.1 ≠ (fx_T7 b).2.1 := by decide +kernel
theorem fx_lay8 (k : Nat) (hk : k < 2) : u_lay "ChainJudge$Reader" fx_T8 k ∈ tables_1 := match k, hk with
  | 0, _ => fx_m1 (List.mem_of_getElem? (i := 212) rfl)
  | 1, _ => fx_m1 (List.mem_of_getElem? (i := 214) rfl)
  | n + 2, h => absurd h (by omega)
theorem fx_tyk8 : ∀ k, k < 2 → parseFieldDescriptor (fx_T8 k).2.2.1 = some (fx_y8 k) := by decide +kernel
theorem fx_nmk8 : ∀ a, a < 2 → ∀ b, b < 2 → a ≠ b → (fx_T8 a).2.1 ≠ (fx_T8 b).2.1 := by decide +kernel
theorem fx_lay9 (k : Nat) (hk : k < 2) : u_lay "ChainJudge$Issuer" fx_T9 k ∈ tables_1 := match k, hk with
  | 0, _ => fx_m2 (List.mem_of_getElem? (i := 108) rfl)
  | 1, _ => fx_m2 (List.mem_of_getElem? (i := 110) rfl)
  | n + 2, h => absurd h (by omega)
theorem fx_tyk9 : ∀ k, k < 2 → parseFieldDescriptor (fx_T9 k).2.2.1 = some (fx_y9 k) := by decide +kernel
theorem fx_nmk9 : ∀ a, a < 2 → ∀ b, b < 2 → a ≠ b → (fx_T9 a).2.1 ≠ (fx_T9 b).2.1 := by decide +kernel
theorem fx_lay10 (k : Nat) (hk : k < 2) : u_lay "ChainJudge$Writer" fx_T10 k ∈ tables_1 := match k, hk with
  | 0, _ => fx_m2 (List.mem_of_getElem? (i := 100) rfl)
  | 1, _ => fx_m2 (List.mem_of_getElem? (i := 102) rfl)
  | n + 2, h => absurd h (by omega)
theorem fx_tyk10 : ∀ k, k < 2 → parseFieldDescriptor (fx_T10 k).2.2.1 = some (fx_y10 k) := by decide +kernel
theorem fx_nmk10 : ∀ a, a < 2 → ∀ b, b < 2 → a ≠ b → (fx_T10 a).2.1 ≠ (fx_T10 b).2.1 := by decide +kernel
theorem fx_lay11 (k : Nat) (hk : k < 3) : u_lay "java/util/ArrayList" fx_T11 k ∈ tables_1 := match k, hk with
  | 0, _ => fx_m1 (List.mem_of_getElem? (i := 77) rfl)
  | 1, _ => fx_m1 (List.mem_of_getElem? (i := 79) rfl)
  | 2, _ => fx_m1 (List.mem_of_getElem? (i := 81) rfl)
  | n + 3, h => absurd h (by omega)
theorem fx_tyk11 : ∀ k, k < 3 → parseFieldDescriptor (fx_T11 k).2.2.1 = some (fx_y11 k) := by decide +kernel
theorem fx_nmk11 : ∀ a, a < 3 → ∀ b, b < 3 → a ≠ b → (fx_T11 a).2.1 ≠ (fx_T11 b).2.1 := by decide +kernel
theorem fx_lay12 (k : Nat) (hk : k < 57) : u_lay "ChainJudgeModel" fx_T12 k ∈ tables_1 := match k, hk with
  | 0, _ => fx_m6 (List.mem_of_getElem? (i := 63) rfl)
  | 1, _ => fx_m6 (List.mem_of_getElem? (i := 65) rfl)
  | 2, _ => fx_m6 (List.mem_of_getElem? (i := 67) rfl)
  | 3, _ => fx_m6 (List.mem_of_getElem? (i := 69) rfl)
  | 4, _ => fx_m6 (List.mem_of_getElem? (i := 71) rfl)
  | 5, _ => fx_m6 (List.mem_of_getElem? (i := 73) rfl)
  | 6, _ => fx_m6 (List.mem_of_getElem? (i := 75) rfl)
  | 7, _ => fx_m6 (List.mem_of_getElem? (i := 77) rfl)
  | 8, _ => fx_m6 (List.mem_of_getElem? (i := 79) rfl)
  | 9, _ => fx_m6 (List.mem_of_getElem? (i := 81) rfl)
  | 10, _ => fx_m6 (List.mem_of_getElem? (i := 83) rfl)
  | 11, _ => fx_m6 (List.mem_of_getElem? (i := 85) rfl)
  | 12, _ => fx_m6 (List.mem_of_getElem? (i := 87) rfl)
  | 13, _ => fx_m6 (List.mem_of_getElem? (i := 89) rfl)
  | 14, _ => fx_m6 (List.mem_of_getElem? (i := 91) rfl)
  | 15, _ => fx_m6 (List.mem_of_getElem? (i := 93) rfl)
  | 16, _ => fx_m6 (List.mem_of_getElem? (i := 95) rfl)
  | 17, _ => fx_m6 (List.mem_of_getElem? (i := 97) rfl)
  | 18, _ => fx_m6 (List.mem_of_getElem? (i := 99) rfl)
  | 19, _ => fx_m6 (List.mem_of_getElem? (i := 101) rfl)
  | 20, _ => fx_m6 (List.mem_of_getElem? (i := 103) rfl)
  | 21, _ => fx_m6 (List.mem_of_getElem? (i := 105) rfl)
  | 22, _ => fx_m6 (List.mem_of_getElem? (i := 107) rfl)
  | 23, _ => fx_m6 (List.mem_of_getElem? (i := 109) rfl)
  | 24, _ => fx_m6 (List.mem_of_getElem? (i := 111) rfl)
  | 25, _ => fx_m6 (List.mem_of_getElem? (i := 113) rfl)
  | 26, _ => fx_m6 (List.mem_of_getElem? (i := 115) rfl)
  | 27, _ => fx_m6 (List.mem_of_getElem? (i := 117) rfl)
  | 28, _ => fx_m6 (List.mem_of_getElem? (i := 119) rfl)
  | 29, _ => fx_m6 (List.mem_of_getElem? (i := 121) rfl)
  | 30, _ => fx_m6 (List.mem_of_getElem? (i := 123) rfl)
  | 31, _ => fx_m6 (List.mem_of_getElem? (i := 125) rfl)
  | 32, _ => fx_m6 (List.mem_of_getElem? (i := 127) rfl)
  | 33, _ => fx_m6 (List.mem_of_getElem? (i := 129) rfl)
  | 34, _ => fx_m6 (List.mem_of_getElem? (i := 131) rfl)
  | 35, _ => fx_m6 (List.mem_of_getElem? (i := 133) rfl)
  | 36, _ => fx_m6 (List.mem_of_getElem? (i := 135) rfl)
  | 37, _ => fx_m6 (List.mem_of_getElem? (i := 137) rfl)
  | 38, _ => fx_m6 (List.mem_of_getElem? (i := 139) rfl)
  | 39, _ => fx_m6 (List.mem_of_getElem? (i := 141) rfl)
  | 40, _ => fx_m6 (List.mem_of_getElem? (i := 143) rfl)
  | 41, _ => fx_m6 (List.mem_of_getElem? (i := 145) rfl)
  | 42, _ => fx_m6 (List.mem_of_getElem? (i := 147) rfl)
  | 43, _ => fx_m6 (List.mem_of_getElem? (i := 149) rfl)
  | 44, _ => fx_m6 (List.mem_of_getElem? (i := 151) rfl)
  | 45, _ => fx_m6 (List.mem_of_getElem? (i := 153) rfl)
  | 46, _ => fx_m6 (List.mem_of_getElem? (i := 155) rfl)
  | 47, _ => fx_m6 (List.mem_of_getElem? (i := 157) rfl)
  | 48, _ => fx_m6 (List.mem_of_getElem? (i := 159) rfl)
  | 49, _ => fx_m6 (List.mem_of_getElem? (i := 161) rfl)
  | 50, _ => fx_m6 (List.mem_of_getElem? (i := 163) rfl)
  | 51, _ => fx_m6 (List.mem_of_getElem? (i := 165) rfl)
  | 52, _ => fx_m6 (List.mem_of_getElem? (i := 167) rfl)
  | 53, _ => fx_m6 (List.mem_of_getElem? (i := 169) rfl)
  | 54, _ => fx_m6 (List.mem_of_getElem? (i := 171) rfl)
  | 55, _ => fx_m6 (List.mem_of_getElem? (i := 173) rfl)
  | 56, _ => fx_m6 (List.mem_of_getElem? (i := 175) rfl)
  | n + 57, h => absurd h (by omega)
theorem fx_tyk12 : ∀ k, k < 57 → parseFieldDescriptor (fx_T12 k).2.2.1 = some (fx_y12 k) := by decide +kernel
theorem fx_nmk12 : ∀ a, a < 57 → ∀ b, b < 57 → a ≠ b → (fx_T12 a).2.1 ≠ (fx_T12 b).2.1 := by decide +kernel
theorem fx_lay13 (k : Nat) (hk : k < 0) : u_lay "java/lang/IllegalArgumentException" fx_T13 k ∈ tables_1 := match k, hk with
  | n + 0, h => absurd h (by omega)
theorem fx_tyk13 : ∀ k, k < 0 → parseFieldDescriptor (fx_T13 k).2.2.1 = some (fx_y13 k) := by decide +kernel
theorem fx_nmk13 : ∀ a, a < 0 → ∀ b, b < 0 → a ≠ b → (fx_T13 a).2.1 ≠ (fx_T13 b).2.1 := by decide +kernel
theorem fx_lay14 (k : Nat) (hk : k < 0) : u_lay "java/lang/IllegalStateException" fx_T14 k ∈ tables_1 := match k, hk with
  | n + 0, h => absurd h (by omega)
theorem fx_tyk14 : ∀ k, k < 0 → parseFieldDescriptor (fx_T14 k).2.2.1 = some (fx_y14 k) := by decide +kernel
theorem fx_nmk14 : ∀ a, a < 0 → ∀ b, b < 0 → a ≠ b → (fx_T14 a).2.1 ≠ (fx_T14 b).2.1 := by decide +kernel
theorem fx_lay15 (k : Nat) (hk : k < 0) : u_lay "java/util/NoSuchElementException" fx_T15 k ∈ tables_1 := match k, hk with
  | n + 0, h => absurd h (by omega)
theorem fx_tyk15 : ∀ k, k < 0 → parseFieldDescriptor (fx_T15 k).2.2.1 = some (fx_y15 k) := by decide +kernel
theorem fx_nmk15 : ∀ a, a < 0 → ∀ b, b < 0 → a ≠ b → (fx_T15 a).2.1 ≠ (fx_T15 b).2.1 := by decide +kernel
theorem fx_lay16 (k : Nat) (hk : k < 0) : u_lay "java/lang/UnsupportedOperationException" fx_T16 k ∈ tables_1 := match k, hk with
  | n + 0, h => absurd h (by omega)
theorem fx_tyk16 : ∀ k, k < 0 → parseFieldDescriptor (fx_T16 k).2.2.1 = some (fx_y16 k) := by decide +kernel
theorem fx_nmk16 : ∀ a, a < 0 → ∀ b, b < 0 → a ≠ b → (fx_T16 a).2.1 ≠ (fx_T16 b).2.1 := by decide +kernel
theorem fx_lay17 (k : Nat) (hk : k < 0) : u_lay "java/lang/IndexOutOfBoundsException" fx_T17 k ∈ tables_1 := match k, hk with
  | n + 0, h => absurd h (by omega)
theorem fx_tyk17 : ∀ k, k < 0 → parseFieldDescriptor (fx_T17 k).2.2.1 = some (fx_y17 k) := by decide +kernel
theorem fx_nmk17 : ∀ a, a < 0 → ∀ b, b < 0 → a ≠ b → (fx_T17 a).2.1 ≠ (fx_T17 b).2.1 := by decide +kernel
theorem fx_lays (ci : Nat) {r : vw_C} (h : fx_cl[ci]? = some r) : ∀ k, k < r.2.2 → u_lay r.1 r.2.1 k ∈ tables_1 := match ci, h with
  | 0, h => by cases h; exact fx_lay0
  | 1, h => by cases h; exact fx_lay1
  | 2, h => by cases h; exact fx_lay2
  | 3, h => by cases h; exact fx_lay3
  | 4, h => by cases h; exact fx_lay4
  | 5, h => by cases h; exact fx_lay5
  | 6, h => by cases h; exact fx_lay6
  | 7, h => by cases h; exact fx_lay7
  | 8, h => by cases h; exact fx_lay8
  | 9, h => by cases h; exact fx_lay9
  | 10, h => by cases h; exact fx_lay10
  | 11, h => by cases h; exact fx_lay11
  | 12, h => by cases h; exact fx_lay12
  | 13, h => by cases h; exact fx_lay13
  | 14, h => by cases h; exact fx_lay14
  | 15, h => by cases h; exact fx_lay15
  | 16, h => by cases h; exact fx_lay16
  | 17, h => by cases h; exact fx_lay17
  | n + 18, h => absurd (List.getElem?_eq_some_iff.mp h).1 (by show ¬ _ < 18; omega)
theorem fx_tyok (ci : Nat) {r : vw_C} (h : fx_cl[ci]? = some r) : ∀ k, k < r.2.2 → parseFieldDescriptor (r.2.1 k).2.2.1 = some (fx_ty ci k) := match ci, h with
  | 0, h => by cases h; exact fx_tyk0
  | 1, h => by cases h; exact fx_tyk1
  | 2, h => by cases h; exact fx_tyk2
  | 3, h => by cases h; exact fx_tyk3
  | 4, h => by cases h; exact fx_tyk4
  | 5, h => by cases h; exact fx_tyk5
  | 6, h => by cases h; exact fx_tyk6
  | 7, h => by cases h; exact fx_tyk7
  | 8, h => by cases h; exact fx_tyk8
  | 9, h => by cases h; exact fx_tyk9
  | 10, h => by cases h; exact fx_tyk10
  | 11, h => by cases h; exact fx_tyk11
  | 12, h => by cases h; exact fx_tyk12
  | 13, h => by cases h; exact fx_tyk13
  | 14, h => by cases h; exact fx_tyk14
  | 15, h => by cases h; exact fx_tyk15
  | 16, h => by cases h; exact fx_tyk16
  | 17, h => by cases h; exact fx_tyk17
  | n + 18, h => absurd (List.getElem?_eq_some_iff.mp h).1 (by show ¬ _ < 18; omega)
theorem fx_nmok (ci : Nat) {r : vw_C} (h : fx_cl[ci]? = some r) : ∀ a, a < r.2.2 → ∀ b, b < r.2.2 → a ≠ b → (r.2.1 a).2.1 ≠ (r.2.1 b).2.1 := match ci, h with
  | 0, h => by cases h; exact fx_nmk0
  | 1, h => by cases h; exact fx_nmk1
  | 2, h => by cases h; exact fx_nmk2
  | 3, h => by cases h; exact fx_nmk3
  | 4, h => by cases h; exact fx_nmk4
  | 5, h => by cases h; exact fx_nmk5
  | 6, h => by cases h; exact fx_nmk6
  | 7, h => by cases h; exact fx_nmk7
  | 8, h => by cases h; exact fx_nmk8
  | 9, h => by cases h; exact fx_nmk9
  | 10, h => by cases h; exact fx_nmk10
  | 11, h => by cases h; exact fx_nmk11
  | 12, h => by cases h; exact fx_nmk12
  | 13, h => by cases h; exact fx_nmk13
  | 14, h => by cases h; exact fx_nmk14
  | 15, h => by cases h; exact fx_nmk15
  | 16, h => by cases h; exact fx_nmk16
  | 17, h => by cases h; exact fx_nmk17
  | n + 18, h => absurd (List.getElem?_eq_some_iff.mp h).1 (by show ¬ _ < 18; omega)
