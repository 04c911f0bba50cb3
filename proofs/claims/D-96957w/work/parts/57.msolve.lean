/-! adds, isSolved (the model) -/
def mSq (S : MS) (row : Nat → Int32) (k : Nat) : Prop := (∀ i j, i < 4 → j < 4 → mLA S 8 (4 * i + j) = Int64.ofInt (nrm row k i j)) ∧ ∀ i, i < 4 → mLA S 9 i = Int64.ofInt (rgt row k i)
/-- alike but for the facts, the pile, the square, what stands right of it, the places, the line -/
def mEqS (S T : MS) : Prop := (∀ k, k ≠ 14 → k ≠ 15 → mIA T k = mIA S k) ∧ (∀ k, k ≠ 8 → k ≠ 9 → k ≠ 10 → mLA T k = mLA S k) ∧ (∀ k, mIF T k = mIF S k)
theorem mEqS.rfl' {S : MS} : mEqS S S := ⟨fun _ _ _ => rfl, fun _ _ _ _ => rfl, fun _ => rfl⟩
theorem mEqS.trans {S T U : MS} (h : mEqS S T) (k : mEqS T U) : mEqS S U := ⟨fun i a b => (k.1 i a b).trans (h.1 i a b), fun i a b c => (k.2.1 i a b c).trans (h.2.1 i a b c), fun i => (k.2.2 i).trans (h.2.2 i)⟩
theorem mEqS.row {S T : MS} (h : mEqS S T) : mIA T 0 = mIA S 0 := h.1 0 (by decide) (by decide)
theorem mEq.toS {S T : MS} (h : mEq S T) : mEqS S T := ⟨h.1, fun k _ _ _ => h.2.1 k, h.2.2.1⟩
theorem mEqS.la {S : MS} (k : Nat) (f : Nat → Int64) (hk : k = 8 ∨ k = 9 ∨ k = 10) : mEqS S (sLA S k f) := ⟨fun _ _ _ => rfl, fun j a b c => by rw [mLA_LA, if_neg (by omega)], fun _ => rfl⟩
theorem mEqS.lf {S : MS} (v : Int64) : mEqS S (sLF S v) := ⟨fun _ _ _ => rfl, fun _ _ _ _ => rfl, fun _ => rfl⟩
theorem I_m1 {i : Nat} (h : i < 2 ^ 31) : ¬ (-1 : Int32) = I i := by
  intro e
  have h1 := I_nn h
  rw [← e] at h1
  exact h1 (by decide)
theorem vI_g {row : Nat → Int32} {k t : Nat} (ht : row (8 + 6 * k + 3) = I t) (ht4 : t < 4) (hf : row (8 + 6 * k + 2) = -1) {i : Nat} (hi : i < 4) : vI row k i = if i = t then 1 else 0 := by
  unfold vI
  rw [ht, hf, if_neg (I_m1 (i := i) (by omega))]
  by_cases e : i = t
  · rw [if_pos (by rw [e]), if_pos e]; rfl
  · rw [if_neg (by rw [I_inj (by omega) (by omega)]; omega), if_neg e]; rfl
theorem vI_p {row : Nat → Int32} {k t a : Nat} (ht : row (8 + 6 * k + 3) = I t) (ht4 : t < 4) (hf : row (8 + 6 * k + 2) = I a) (ha4 : a < 4) {i : Nat} (hi : i < 4) : vI row k i = (if i = t then 1 else 0) - (if i = a then 1 else 0) := by
  unfold vI
  rw [ht, hf]
  have e1 : (I t = I i) ↔ i = t := by rw [I_inj (by omega) (by omega)]; omega
  have e2 : (I a = I i) ↔ i = a := by rw [I_inj (by omega) (by omega)]; omega
  simp only [e1, e2]
theorem nrm_on {row : Nat → Int32} {k : Nat} (h : row (8 + 6 * k + 5) = 1) (i j : Nat) : nrm row (k + 1) i j = nrm row k i j + (wP row k).toInt * (vI row k i * vI row k j) := by
  show nrm row k i j + (if row (8 + 6 * k + 5) = 1 then (wP row k).toInt * (vI row k i * vI row k j) else 0) = _
  rw [if_pos h]
theorem rgt_on {row : Nat → Int32} {k : Nat} (h : row (8 + 6 * k + 5) = 1) (i : Nat) : rgt row (k + 1) i = rgt row k i + (wP row k).toInt * (sP row k).toInt * vI row k i := by
  show rgt row k i + (if row (8 + 6 * k + 5) = 1 then (wP row k).toInt * (sP row k).toInt * vI row k i else 0) = _
  rw [if_pos h]
theorem i5 (t : Nat) : (5 : Int32) * I t = I (5 * t) := I_mul 5 t
theorem adds_m {S : MS} {k : Nat} (hI : INV (mIA S 0)) (hk : k < nM (mIA S 0)) (hon : mIA S 0 (8 + 6 * k + 5) = 1) (hq : mSq S (mIA S 0) k) : ∃ S', fX4_adds (I k) S = some S' ∧ mEqS S S' ∧ mSq S' (mIA S 0) (k + 1) := by
  have hk8 : k < 8 := by have := hI.1.2; omega
  have hP4 := hI.2.1.2.2
  obtain ⟨-, -, hf, ⟨t, htP, ht⟩, hne, -⟩ := hI.2.2.1 k hk
  have ht4 : t < 4 := by omega
  obtain ⟨q8, q9⟩ := hq
  have eW : ∀ x : Int32, x.toInt64 = Int64.ofInt x.toInt := fun x => (Int64.ofInt_int32ToInt x).symm
  obtain ⟨S2, e1, q1⟩ := w_m hI hk
  unfold fX4_adds bX4_adds_122
  rw [e1, bnd_s, nm_s, of_2 hk8, bnd_s, of_3 hk8, bnd_s, q1.row, ht, i5, nm_s, chk_t (inB_I (by omega) (by decide)), chk_t (inB_I (by omega) (by decide)), I_nat (by omega), nm_s, chk_t (inB_I (by omega) (by decide)), I_nat (by omega)]
  generalize hS14 : sLA S2 8 (vp_updL (mLA S2 8) (5 * t) (mLA S2 8 (5 * t) + (wP (mIA S 0) k).toInt64)) = S14
  have m14 : mEqS S S14 := by rw [← hS14]; exact q1.toS.trans (mEqS.la 8 _ (Or.inl rfl))
  have hI14 : INV (mIA S14 0) := by rw [m14.row]; exact hI
  obtain ⟨S17, e2, q2⟩ := s_m (S := S14) hI14 (by rw [m14.row]; exact hk)
  rw [e2, bnd_s, chk_t (inB_I (by omega) (by decide)), nm_s, m14.row]
  generalize hS20 : sLA S17 9 (vp_updL (mLA S17 9) t (mLA S14 9 t + (wP (mIA S 0) k).toInt64 * (sP (mIA S 0) k).toInt64)) = S20
  have m20 : mEqS S S20 := by rw [← hS20]; exact (m14.trans q2.toS).trans (mEqS.la 9 _ (Or.inr (Or.inl rfl)))
  have a8 : mLA S20 8 = vp_updL (mLA S 8) (5 * t) (mLA S 8 (5 * t) + (wP (mIA S 0) k).toInt64) := by
    rw [← hS20, mLA_LA, if_neg (by decide), q2.2.1 8, ← hS14, mLA_LA, if_pos rfl, q1.2.1 8]
  have a9 : mLA S20 9 = vp_updL (mLA S 9) t (mLA S 9 t + (wP (mIA S 0) k).toInt64 * (sP (mIA S 0) k).toInt64) := by
    rw [← hS20, mLA_LA, if_pos rfl, q2.2.1 9, ← hS14, mLA_LA, if_neg (by decide), q1.2.1 9]
  rcases hf with hf | ⟨a, haP, hf⟩
  · rw [hf, if_pos (by decide)]
    refine ⟨S20, rfl, m20, fun i j hi hj => ?_, fun i hi => ?_⟩
    · rw [a8, nrm_on hon, vI_g ht ht4 hf hi, vI_g ht ht4 hf hj, Int64.ofInt_add, ← q8 i j hi hj]
      unfold vp_updL
      by_cases hit : i = t <;> by_cases hjt : j = t
      · rw [if_pos (by omega), if_pos hit, if_pos hjt, hit, hjt, eW, Int.mul_one, Int.mul_one, show 5 * t = 4 * t + t by omega]
      · rw [if_neg (by omega), if_neg hjt, Int.mul_zero, Int.mul_zero]; simp
      · rw [if_neg (by omega), if_neg hit, Int.zero_mul, Int.mul_zero]; simp
      · rw [if_neg (by omega), if_neg hit, Int.zero_mul, Int.mul_zero]; simp
    · rw [a9, rgt_on hon, vI_g ht ht4 hf hi, Int64.ofInt_add, ← q9 i hi]
      unfold vp_updL
      by_cases hit : i = t
      · rw [if_pos hit, if_pos hit, hit, eW, eW, Int.mul_one, Int64.ofInt_mul]
      · rw [if_neg hit, if_neg hit, Int.mul_zero]; simp
  · have ha4 : a < 4 := by omega
    have hta : t ≠ a := fun e => hne (by rw [hf, ht, e])
    rw [hf, if_neg (I_nn (by omega)), i5, nm_s, chk_t (inB_I (by omega) (by decide)), chk_t (inB_I (by omega) (by decide)), I_nat (by omega), nm_s, ix4, nm_s, chk_t (inB_I (by omega) (by decide)), chk_t (inB_I (by omega) (by decide)), I_nat (by omega), nm_s, ix4, nm_s, chk_t (inB_I (by omega) (by decide)), chk_t (inB_I (by omega) (by decide)), I_nat (by omega), nm_s, chk_t (inB_I (by omega) (by decide)), I_nat (by omega)]
    generalize hS25 : sLA S20 8 (vp_updL (mLA S20 8) (5 * a) (mLA S20 8 (5 * a) + (wP (mIA S 0) k).toInt64)) = S25
    generalize hS29 : sLA S25 8 (vp_updL (mLA S25 8) (4 * a + t) (mLA S25 8 (4 * a + t) - (wP (mIA S 0) k).toInt64)) = S29
    generalize hS33 : sLA S29 8 (vp_updL (mLA S29 8) (4 * t + a) (mLA S29 8 (4 * t + a) - (wP (mIA S 0) k).toInt64)) = S33
    have m33 : mEqS S S33 := by
      rw [← hS33, ← hS29, ← hS25]
      exact ((m20.trans (mEqS.la 8 _ (Or.inl rfl))).trans (mEqS.la 8 _ (Or.inl rfl))).trans (mEqS.la 8 _ (Or.inl rfl))
    have hI33 : INV (mIA S33 0) := by rw [m33.row]; exact hI
    obtain ⟨S36, e3, q3⟩ := s_m (S := S33) hI33 (by rw [m33.row]; exact hk)
    rw [e3, bnd_s, chk_t (inB_I (by omega) (by decide)), nm_s, m33.row]
    generalize hS39 : sLA S36 9 (vp_updL (mLA S36 9) a (mLA S33 9 a - (wP (mIA S 0) k).toInt64 * (sP (mIA S 0) k).toInt64)) = S39
    have m39 : mEqS S S39 := by rw [← hS39]; exact (m33.trans q3.toS).trans (mEqS.la 9 _ (Or.inr (Or.inl rfl)))
    have b8 : ∀ x, mLA S39 8 x = vp_updL (vp_updL (vp_updL (mLA S20 8) (5 * a) (mLA S20 8 (5 * a) + (wP (mIA S 0) k).toInt64)) (4 * a + t) (mLA S20 8 (4 * a + t) - (wP (mIA S 0) k).toInt64)) (4 * t + a) (mLA S20 8 (4 * t + a) - (wP (mIA S 0) k).toInt64) x := by
      intro x
      rw [← hS39, mLA_LA, if_neg (by decide), q3.2.1 8, ← hS33, mLA_LA, if_pos rfl, ← hS29, mLA_LA, if_pos rfl, ← hS25, mLA_LA, if_pos rfl]
      rw [updL_ne _ _ (show 4 * a + t ≠ 5 * a by omega), updL_ne _ _ (show 4 * t + a ≠ 4 * a + t by omega), updL_ne _ _ (show 4 * t + a ≠ 5 * a by omega)]
    have b9 : mLA S39 9 = vp_updL (mLA S20 9) a (mLA S20 9 a - (wP (mIA S 0) k).toInt64 * (sP (mIA S 0) k).toInt64) := by
      have e33 : mLA S33 9 = mLA S20 9 := by rw [← hS33, mLA_LA, if_neg (by decide), ← hS29, mLA_LA, if_neg (by decide), ← hS25, mLA_LA, if_neg (by decide)]
      rw [← hS39, mLA_LA, if_pos rfl, q3.2.1 9, e33]
    refine ⟨S39, rfl, m39, fun i j hi hj => ?_, fun i hi => ?_⟩
    · rw [b8, a8, nrm_on hon, vI_p ht ht4 hf ha4 hi, vI_p ht ht4 hf ha4 hj, Int64.ofInt_add, ← q8 i j hi hj]
      unfold vp_updL
      by_cases hit : i = t
      · by_cases hjt : j = t
        · rw [if_neg (by omega), if_neg (by omega), if_neg (by omega), if_pos (by omega), if_pos hit, if_neg (by omega), if_pos hjt, if_neg (by omega), hit, hjt, eW, show 5 * t = 4 * t + t by omega]
          simp
        · by_cases hja : j = a
          · rw [if_pos (by omega), if_neg (by omega), if_pos hit, if_neg (by omega), if_neg hjt, if_pos hja, hit, hja, eW]
            simp
            grind
          · rw [if_neg (by omega), if_neg (by omega), if_neg (by omega), if_neg (by omega), if_neg hjt, if_neg hja]
            simp
      · by_cases hia : i = a
        · by_cases hjt : j = t
          · rw [if_neg (by omega), if_pos (by omega), if_neg (by omega), if_neg hit, if_pos hia, if_pos hjt, if_neg (by omega), hia, hjt, eW]
            simp
            grind
          · by_cases hja : j = a
            · rw [if_neg (by omega), if_neg (by omega), if_pos (by omega), if_neg (by omega), if_neg hit, if_pos hia, if_neg hjt, if_pos hja, hia, hja, eW, show 5 * a = 4 * a + a by omega]
              simp
            · rw [if_neg (by omega), if_neg (by omega), if_neg (by omega), if_neg (by omega), if_neg hjt, if_neg hja]
              simp
        · rw [if_neg (by omega), if_neg (by omega), if_neg (by omega), if_neg (by omega), if_neg hit, if_neg hia]
          simp
    · rw [b9, a9, rgt_on hon, vI_p ht ht4 hf ha4 hi, Int64.ofInt_add, ← q9 i hi]
      unfold vp_updL
      by_cases hit : i = t
      · rw [if_neg (by omega), if_pos hit, if_pos hit, if_neg (by omega), hit, eW, eW]
        simp
      · by_cases hia : i = a
        · rw [if_pos hia, if_neg (by omega), if_neg hit, if_pos hia, hia, eW, eW]
          simp
          grind
        · rw [if_neg hia, if_neg hit, if_neg hit, if_neg hia]
          simp
