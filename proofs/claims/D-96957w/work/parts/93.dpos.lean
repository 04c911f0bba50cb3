/-! the determinant is positive; place, miss -/
theorem qf_1 (a : Nat → Nat → Int) : qf a 1 = a 0 0 := by
  unfold qf qr
  simp only [show ind 1 0 = 1 from rfl, show ind 1 1 = 0 from rfl, show ind 1 2 = 0 from rfl, show ind 1 3 = 0 from rfl]
  omega
theorem qf_2 (a : Nat → Nat → Int) : qf a 2 = a 1 1 := by
  unfold qf qr
  simp only [show ind 2 0 = 0 from rfl, show ind 2 1 = 1 from rfl, show ind 2 2 = 0 from rfl, show ind 2 3 = 0 from rfl]
  omega
theorem qf_3 (a : Nat → Nat → Int) : qf a 3 = a 0 0 + a 0 1 + a 1 0 + a 1 1 := by
  unfold qf qr
  simp only [show ind 3 0 = 1 from rfl, show ind 3 1 = 1 from rfl, show ind 3 2 = 0 from rfl, show ind 3 3 = 0 from rfl]
  omega
theorem qf_4 (a : Nat → Nat → Int) : qf a 4 = a 2 2 := by
  unfold qf qr
  simp only [show ind 4 0 = 0 from rfl, show ind 4 1 = 0 from rfl, show ind 4 2 = 1 from rfl, show ind 4 3 = 0 from rfl]
  omega
theorem qf_5 (a : Nat → Nat → Int) : qf a 5 = a 0 0 + a 0 2 + a 2 0 + a 2 2 := by
  unfold qf qr
  simp only [show ind 5 0 = 1 from rfl, show ind 5 1 = 0 from rfl, show ind 5 2 = 1 from rfl, show ind 5 3 = 0 from rfl]
  omega
theorem qf_6 (a : Nat → Nat → Int) : qf a 6 = a 1 1 + a 1 2 + a 2 1 + a 2 2 := by
  unfold qf qr
  simp only [show ind 6 0 = 0 from rfl, show ind 6 1 = 1 from rfl, show ind 6 2 = 1 from rfl, show ind 6 3 = 0 from rfl]
  omega
theorem qf_7 (a : Nat → Nat → Int) : qf a 7 = a 0 0 + a 0 1 + a 0 2 + a 1 0 + a 1 1 + a 1 2 + a 2 0 + a 2 1 + a 2 2 := by
  unfold qf qr
  simp only [show ind 7 0 = 1 from rfl, show ind 7 1 = 1 from rfl, show ind 7 2 = 1 from rfl, show ind 7 3 = 0 from rfl]
  omega
theorem qf_8 (a : Nat → Nat → Int) : qf a 8 = a 3 3 := by
  unfold qf qr
  simp only [show ind 8 0 = 0 from rfl, show ind 8 1 = 0 from rfl, show ind 8 2 = 0 from rfl, show ind 8 3 = 1 from rfl]
  omega
theorem qf_9 (a : Nat → Nat → Int) : qf a 9 = a 0 0 + a 0 3 + a 3 0 + a 3 3 := by
  unfold qf qr
  simp only [show ind 9 0 = 1 from rfl, show ind 9 1 = 0 from rfl, show ind 9 2 = 0 from rfl, show ind 9 3 = 1 from rfl]
  omega
theorem qf_10 (a : Nat → Nat → Int) : qf a 10 = a 1 1 + a 1 3 + a 3 1 + a 3 3 := by
  unfold qf qr
  simp only [show ind 10 0 = 0 from rfl, show ind 10 1 = 1 from rfl, show ind 10 2 = 0 from rfl, show ind 10 3 = 1 from rfl]
  omega
theorem qf_11 (a : Nat → Nat → Int) : qf a 11 = a 0 0 + a 0 1 + a 0 3 + a 1 0 + a 1 1 + a 1 3 + a 3 0 + a 3 1 + a 3 3 := by
  unfold qf qr
  simp only [show ind 11 0 = 1 from rfl, show ind 11 1 = 1 from rfl, show ind 11 2 = 0 from rfl, show ind 11 3 = 1 from rfl]
  omega
theorem qf_12 (a : Nat → Nat → Int) : qf a 12 = a 2 2 + a 2 3 + a 3 2 + a 3 3 := by
  unfold qf qr
  simp only [show ind 12 0 = 0 from rfl, show ind 12 1 = 0 from rfl, show ind 12 2 = 1 from rfl, show ind 12 3 = 1 from rfl]
  omega
theorem qf_13 (a : Nat → Nat → Int) : qf a 13 = a 0 0 + a 0 2 + a 0 3 + a 2 0 + a 2 2 + a 2 3 + a 3 0 + a 3 2 + a 3 3 := by
  unfold qf qr
  simp only [show ind 13 0 = 1 from rfl, show ind 13 1 = 0 from rfl, show ind 13 2 = 1 from rfl, show ind 13 3 = 1 from rfl]
  omega
theorem qf_14 (a : Nat → Nat → Int) : qf a 14 = a 1 1 + a 1 2 + a 1 3 + a 2 1 + a 2 2 + a 2 3 + a 3 1 + a 3 2 + a 3 3 := by
  unfold qf qr
  simp only [show ind 14 0 = 0 from rfl, show ind 14 1 = 1 from rfl, show ind 14 2 = 1 from rfl, show ind 14 3 = 1 from rfl]
  omega
theorem qf_15 (a : Nat → Nat → Int) : qf a 15 = a 0 0 + a 0 1 + a 0 2 + a 0 3 + a 1 0 + a 1 1 + a 1 2 + a 1 3 + a 2 0 + a 2 1 + a 2 2 + a 2 3 + a 3 0 + a 3 1 + a 3 2 + a 3 3 := by
  unfold qf qr
  simp only [show ind 15 0 = 1 from rfl, show ind 15 1 = 1 from rfl, show ind 15 2 = 1 from rfl, show ind 15 3 = 1 from rfl]
  omega
theorem D_pos {row : Nat → Int32} (hI : INV row) (hh : heldQ row) : 0 < DP row ∧ DP row ≤ 1048576 := by
  have h8 := hI.1.2
  have hP1 := hI.2.1.2.1
  have hP4 := hI.2.1.2.2
  have cp := fun T => cut_pos hI hh (T := T)
  have sy := fun i j => nrm_sym row i j (nM row)
  have np : ∀ i j, i < 4 → j < 4 → i ≠ j → nwI row i j ≤ 0 := fun i j hi hj hij => nrm_np row (by omega) (by omega) hij (nM row)
  have rn : ∀ i, i < 4 → 0 ≤ nwI row i 0 + nwI row i 1 + nwI row i 2 + nwI row i 3 := fun i hi => row_nn hI hi (nM row) (Nat.le_refl _)
  have bd : ∀ i, nwI row i i ≤ 32 := fun i => by have := nrm_b row i i (nM row); show nrm row (nM row) i i ≤ 32; omega
  have s10 : nwI row 1 0 = nwI row 0 1 := sy 1 0
  have s20 : nwI row 2 0 = nwI row 0 2 := sy 2 0
  have s21 : nwI row 2 1 = nwI row 1 2 := sy 2 1
  have s30 : nwI row 3 0 = nwI row 0 3 := sy 3 0
  have s31 : nwI row 3 1 = nwI row 1 3 := sy 3 1
  have s32 : nwI row 3 2 = nwI row 2 3 := sy 3 2
  have n01 := np 0 1 (by decide) (by decide) (by decide)
  have n02 := np 0 2 (by decide) (by decide) (by decide)
  have n03 := np 0 3 (by decide) (by decide) (by decide)
  have n12 := np 1 2 (by decide) (by decide) (by decide)
  have n13 := np 1 3 (by decide) (by decide) (by decide)
  have n23 := np 2 3 (by decide) (by decide) (by decide)
  have r0 := rn 0 (by decide)
  have r1 := rn 1 (by decide)
  have r2 := rn 2 (by decide)
  have r3 := rn 3 (by decide)
  have b0 := bd 0
  have b1 := bd 1
  have b2 := bd 2
  have b3 := bd 3
  rw [s10] at r1
  rw [s20, s21] at r2
  rw [s30, s31, s32] at r3
  unfold DP
  have hc : nP row = 1 ∨ nP row = 2 ∨ nP row = 3 ∨ nP row = 4 := by omega
  rcases hc with e | e | e | e
  · rw [e] at cp ⊢
    have c1 := cp 1 (by decide) (by decide)
    rw [qf_1] at c1
    show 0 < nwI row 0 0 ∧ nwI row 0 0 ≤ 1048576
    omega
  · rw [e] at cp ⊢
    have c1 := cp 1 (by decide) (by decide)
    have c2 := cp 2 (by decide) (by decide)
    have c3 := cp 3 (by decide) (by decide)
    rw [qf_1] at c1
    rw [qf_2] at c2
    rw [qf_3, s10] at c3
    obtain ⟨g1, g2⟩ := pd2 (a := nwI row 0 0) (b := nwI row 0 1) (c := nwI row 1 1) n01 (by omega) (by omega) c1 c2 (by omega)
    have ed : dtn 2 (nwI row) = nwI row 0 0 * nwI row 1 1 - nwI row 0 1 * nwI row 0 1 := by
      show nwI row 1 1 * nwI row 0 0 - nwI row 1 0 * nwI row 0 1 = _
      rw [s10, Int.mul_comm (nwI row 1 1)]
    have bb : nwI row 0 0 * nwI row 1 1 ≤ 32 * 32 := Int.mul_le_mul b0 b1 (by omega) (by omega)
    rw [ed]
    omega
  · rw [e] at cp ⊢
    have c1 := cp 1 (by decide) (by decide)
    have c2 := cp 2 (by decide) (by decide)
    have c3 := cp 3 (by decide) (by decide)
    have c4 := cp 4 (by decide) (by decide)
    have c5 := cp 5 (by decide) (by decide)
    have c6 := cp 6 (by decide) (by decide)
    have c7 := cp 7 (by decide) (by decide)
    rw [qf_1] at c1
    rw [qf_2] at c2
    rw [qf_3, s10] at c3
    rw [qf_4] at c4
    rw [qf_5, s20] at c5
    rw [qf_6, s21] at c6
    rw [qf_7, s10, s20, s21] at c7
    obtain ⟨g1, g2⟩ := pd3 (a := nwI row 0 0) (b := nwI row 0 1) (c := nwI row 0 2) (d := nwI row 1 1) (e := nwI row 1 2) (f := nwI row 2 2) n01 n02 n12 (by omega) (by omega) (by omega) c1 c2 c4 (by omega) (by omega) (by omega) (by omega)
    have ed : dtn 3 (nwI row) = D3 (nwI row 0 0) (nwI row 0 1) (nwI row 0 2) (nwI row 0 1) (nwI row 1 1) (nwI row 1 2) (nwI row 0 2) (nwI row 1 2) (nwI row 2 2) := by
      show D3 (nwI row 0 0) (nwI row 0 1) (nwI row 0 2) (nwI row 1 0) (nwI row 1 1) (nwI row 1 2) (nwI row 2 0) (nwI row 2 1) (nwI row 2 2) = _
      rw [s10, s20, s21]
    have bb : nwI row 0 0 * nwI row 1 1 ≤ 32 * 32 := Int.mul_le_mul b0 b1 (by omega) (by omega)
    have bb2 : nwI row 0 0 * nwI row 1 1 * nwI row 2 2 ≤ 32 * 32 * 32 := Int.mul_le_mul bb b2 (by omega) (by omega)
    rw [ed]
    omega
  · rw [e] at cp ⊢
    have c1 := cp 1 (by decide) (by decide)
    have c2 := cp 2 (by decide) (by decide)
    have c3 := cp 3 (by decide) (by decide)
    have c4 := cp 4 (by decide) (by decide)
    have c5 := cp 5 (by decide) (by decide)
    have c6 := cp 6 (by decide) (by decide)
    have c7 := cp 7 (by decide) (by decide)
    have c8 := cp 8 (by decide) (by decide)
    have c9 := cp 9 (by decide) (by decide)
    have c10 := cp 10 (by decide) (by decide)
    have c11 := cp 11 (by decide) (by decide)
    have c12 := cp 12 (by decide) (by decide)
    have c13 := cp 13 (by decide) (by decide)
    have c14 := cp 14 (by decide) (by decide)
    have c15 := cp 15 (by decide) (by decide)
    rw [qf_1] at c1
    rw [qf_2] at c2
    rw [qf_3, s10] at c3
    rw [qf_4] at c4
    rw [qf_5, s20] at c5
    rw [qf_6, s21] at c6
    rw [qf_7, s10, s20, s21] at c7
    rw [qf_8] at c8
    rw [qf_9, s30] at c9
    rw [qf_10, s31] at c10
    rw [qf_11, s10, s30, s31] at c11
    rw [qf_12, s32] at c12
    rw [qf_13, s20, s30, s32] at c13
    rw [qf_14, s21, s31, s32] at c14
    rw [qf_15, s10, s20, s21, s30, s31, s32] at c15
    obtain ⟨g1, g2⟩ := pd4 (a := nwI row 0 0) (b := nwI row 0 1) (c := nwI row 0 2) (g := nwI row 0 3) (d := nwI row 1 1) (e := nwI row 1 2) (h := nwI row 1 3) (f := nwI row 2 2) (k := nwI row 2 3) (l := nwI row 3 3) n01 n02 n03 n12 n13 n23 (by omega) (by omega) (by omega) (by omega) c1 c2 c4 c8 (by omega) (by omega) (by omega) (by omega) (by omega) (by omega) (by omega) (by omega) (by omega) (by omega) (by omega)
    have ed : dtn 4 (nwI row) = D4 (nwI row 0 0) (nwI row 0 1) (nwI row 0 2) (nwI row 0 3) (nwI row 1 1) (nwI row 1 2) (nwI row 1 3) (nwI row 2 2) (nwI row 2 3) (nwI row 3 3) := by
      unfold D4
      rw [← s10, ← s20, ← s21, ← s30, ← s31, ← s32]
      simp only [dtn, mkn, D3, s10, s20, s21, s30, s31, s32]
    have bb : nwI row 0 0 * nwI row 1 1 ≤ 32 * 32 := Int.mul_le_mul b0 b1 (by omega) (by omega)
    have bb2 : nwI row 0 0 * nwI row 1 1 * nwI row 2 2 ≤ 32 * 32 * 32 := Int.mul_le_mul bb b2 (by omega) (by omega)
    have bb3 : nwI row 0 0 * nwI row 1 1 * nwI row 2 2 * nwI row 3 3 ≤ 32 * 32 * 32 * 32 := Int.mul_le_mul bb2 b3 (by omega) (by omega)
    rw [ed]
    omega
