theorem tb_0_0 : Nat.testBit 0 0 = false := rfl
theorem tb_0_1 : Nat.testBit 0 1 = false := rfl
theorem tb_0_2 : Nat.testBit 0 2 = false := rfl
theorem tb_0_3 : Nat.testBit 0 3 = false := rfl
theorem tb_1_0 : Nat.testBit 1 0 = true := rfl
theorem tb_1_1 : Nat.testBit 1 1 = false := rfl
theorem tb_1_2 : Nat.testBit 1 2 = false := rfl
theorem tb_1_3 : Nat.testBit 1 3 = false := rfl
theorem tb_2_0 : Nat.testBit 2 0 = false := rfl
theorem tb_2_1 : Nat.testBit 2 1 = true := rfl
theorem tb_2_2 : Nat.testBit 2 2 = false := rfl
theorem tb_2_3 : Nat.testBit 2 3 = false := rfl
theorem tb_3_0 : Nat.testBit 3 0 = true := rfl
theorem tb_3_1 : Nat.testBit 3 1 = true := rfl
theorem tb_3_2 : Nat.testBit 3 2 = false := rfl
theorem tb_3_3 : Nat.testBit 3 3 = false := rfl
theorem tb_4_0 : Nat.testBit 4 0 = false := rfl
theorem tb_4_1 : Nat.testBit 4 1 = false := rfl
theorem tb_4_2 : Nat.testBit 4 2 = true := rfl
theorem tb_4_3 : Nat.testBit 4 3 = false := rfl
theorem tb_5_0 : Nat.testBit 5 0 = true := rfl
theorem tb_5_1 : Nat.testBit 5 1 = false := rfl
theorem tb_5_2 : Nat.testBit 5 2 = true := rfl
theorem tb_5_3 : Nat.testBit 5 3 = false := rfl
theorem tb_6_0 : Nat.testBit 6 0 = false := rfl
theorem tb_6_1 : Nat.testBit 6 1 = true := rfl
theorem tb_6_2 : Nat.testBit 6 2 = true := rfl
theorem tb_6_3 : Nat.testBit 6 3 = false := rfl
theorem tb_7_0 : Nat.testBit 7 0 = true := rfl
theorem tb_7_1 : Nat.testBit 7 1 = true := rfl
theorem tb_7_2 : Nat.testBit 7 2 = true := rfl
theorem tb_7_3 : Nat.testBit 7 3 = false := rfl
theorem tb_8_0 : Nat.testBit 8 0 = false := rfl
theorem tb_8_1 : Nat.testBit 8 1 = false := rfl
theorem tb_8_2 : Nat.testBit 8 2 = false := rfl
theorem tb_8_3 : Nat.testBit 8 3 = true := rfl
theorem tb_9_0 : Nat.testBit 9 0 = true := rfl
theorem tb_9_1 : Nat.testBit 9 1 = false := rfl
theorem tb_9_2 : Nat.testBit 9 2 = false := rfl
theorem tb_9_3 : Nat.testBit 9 3 = true := rfl
theorem tb_10_0 : Nat.testBit 10 0 = false := rfl
theorem tb_10_1 : Nat.testBit 10 1 = true := rfl
theorem tb_10_2 : Nat.testBit 10 2 = false := rfl
theorem tb_10_3 : Nat.testBit 10 3 = true := rfl
theorem tb_11_0 : Nat.testBit 11 0 = true := rfl
theorem tb_11_1 : Nat.testBit 11 1 = true := rfl
theorem tb_11_2 : Nat.testBit 11 2 = false := rfl
theorem tb_11_3 : Nat.testBit 11 3 = true := rfl
theorem tb_12_0 : Nat.testBit 12 0 = false := rfl
theorem tb_12_1 : Nat.testBit 12 1 = false := rfl
theorem tb_12_2 : Nat.testBit 12 2 = true := rfl
theorem tb_12_3 : Nat.testBit 12 3 = true := rfl
theorem tb_13_0 : Nat.testBit 13 0 = true := rfl
theorem tb_13_1 : Nat.testBit 13 1 = false := rfl
theorem tb_13_2 : Nat.testBit 13 2 = true := rfl
theorem tb_13_3 : Nat.testBit 13 3 = true := rfl
theorem tb_14_0 : Nat.testBit 14 0 = false := rfl
theorem tb_14_1 : Nat.testBit 14 1 = true := rfl
theorem tb_14_2 : Nat.testBit 14 2 = true := rfl
theorem tb_14_3 : Nat.testBit 14 3 = true := rfl
theorem tb_15_0 : Nat.testBit 15 0 = true := rfl
theorem tb_15_1 : Nat.testBit 15 1 = true := rfl
theorem tb_15_2 : Nat.testBit 15 2 = true := rfl
theorem tb_15_3 : Nat.testBit 15 3 = true := rfl
theorem dtI_dt4 (A : Nat → Nat → Int) : dtI 4 A 8 0 0 = dtn 4 A := by
  have e : dtI 4 A 8 0 0 = A 0 0 * D3 (A 1 1) (A 1 2) (A 1 3) (A 2 1) (A 2 2) (A 2 3) (A 3 1) (A 3 2) (A 3 3) - A 0 1 * D3 (A 1 0) (A 1 2) (A 1 3) (A 2 0) (A 2 2) (A 2 3) (A 3 0) (A 3 2) (A 3 3) + A 0 2 * D3 (A 1 0) (A 1 1) (A 1 3) (A 2 0) (A 2 1) (A 2 3) (A 3 0) (A 3 1) (A 3 3) - A 0 3 * D3 (A 1 0) (A 1 1) (A 1 2) (A 2 0) (A 2 1) (A 2 2) (A 3 0) (A 3 1) (A 3 2) := by
    simp [dtI, smI, sgL, D3, tb_0_0, tb_0_1, tb_0_2, tb_0_3, tb_1_0, tb_1_1, tb_1_2, tb_1_3, tb_2_0, tb_2_1, tb_2_2, tb_2_3, tb_3_0, tb_3_1, tb_3_2, tb_3_3, tb_4_0, tb_4_1, tb_4_2, tb_4_3, tb_5_0, tb_5_1, tb_5_2, tb_5_3, tb_6_0, tb_6_1, tb_6_2, tb_6_3, tb_7_0, tb_7_1, tb_7_2, tb_7_3, tb_8_0, tb_8_1, tb_8_2, tb_8_3, tb_9_0, tb_9_1, tb_9_2, tb_9_3, tb_10_0, tb_10_1, tb_10_2, tb_10_3, tb_11_0, tb_11_1, tb_11_2, tb_11_3, tb_12_0, tb_12_1, tb_12_2, tb_12_3, tb_13_0, tb_13_1, tb_13_2, tb_13_3, tb_14_0, tb_14_1, tb_14_2, tb_14_3, tb_15_0, tb_15_1, tb_15_2, tb_15_3]
    grind
  exact e
theorem dtR_dt {n : Nat} (hn : 1 ≤ n) (hn4 : n ≤ 4) {a : Nat → Nat → Int64} {A : Nat → Nat → Int} (h : ∀ r c, r < n → c < n → a r c = Int64.ofInt (A r c)) : dtR n a 8 0 0 = Int64.ofInt (dtn n A) := by
  rw [dtR_I h 8 0 0 (by omega)]
  by_cases h4 : n = 4
  · subst h4; rw [dtI_dt4]
  · rw [dtI_dt hn (by omega)]
