/-! voices: ties -/
section VT
variable {b : Nat} {u : XS} {S : MS} {k mm kd : Nat} {r : Nat → Int32}
theorem t5 (h : Vs b u S k mm kd r) (x : Int32) : ∃ v u' S', fX5_ties mm x (b + 54) u = some (v, u') ∧ fX4_plainTies (I k) x S = some (v, S') ∧ Vs b u' S' k mm kd r := by
  obtain ⟨u1, S1, a1, a2, a3⟩ := h.ran (x := 12) (by decide)
  obtain ⟨v, u2, S2, b1, b2, b3⟩ := v_says a3 x
  refine ⟨v - r (8 + 6 * k + 1), u2, S2, ?_, ?_, b3⟩
  · unfold fX5_ties; rw [chk_t h.tr, a1, bn1_s, b1, bnd_s, b3.g1, bn1_s]
  · unfold fX4_plainTies; rw [a2, bn1_s, b2, bnd_s, of_1 b3.2.2.2.2.1, bnd_s, b3.2.1]
theorem v_ties (h : Vs b u S k mm kd r) (x : Int32) : ∃ v u' S', v_X5_ties mm x (b + 54) u = some (v, u') ∧ fX4_ties (I k) x S = some (v, S') ∧ Vs b u' S' k mm kd r := by
  have hm := h.2.2.1
  have hk := h.2.2.2.2.1
  have h6 := h.2.2.2.2.2.2
  obtain ⟨d1, d2, d3, d4, d5, d6⟩ := kd_e kd h6
  have hM : fX4_of (I k) 0 S = some (I kd, S) := by rw [of_0 hk, h.2.1, h.2.2.2.2.2.1]
  unfold fX4_ties v_X5_ties
  rw [hM, bnd_s]
  simp only [d3, d4]
  have hc : kd = 0 ∨ kd = 1 ∨ kd = 2 ∨ kd = 3 ∨ kd = 4 ∨ kd = 5 ∨ kd = 6 := by omega
  have pl : ∃ v u' S', fX5_ties mm x (b + 54) u = some (v, u') ∧ (bnd (fX4_plainTies (I k) x S) fun v18 S17 => some (v18, S17)) = some (v, S') ∧ Vs b u' S' k mm kd r := by
    obtain ⟨v, u', S', e1, e2, e3⟩ := t5 h x
    exact ⟨v, u', S', e1, by rw [e2, bnd_s], e3⟩
  rcases hc with c | c | c | c | c | c | c <;> rw [c] at hm
  · obtain ⟨v, u', S', e1, e2, e3⟩ := pl
    exact ⟨v, u', S', by rw [if_pos (isC_of hm), e1], by simp [c]; exact e2, e3⟩
  · obtain ⟨v, u', S', e1, e2, e3⟩ := pl
    exact ⟨v, u', S', by rw [if_neg (isC_no hm (by decide)), if_pos (isC_of hm), e1], by simp [c]; exact e2, e3⟩
  · obtain ⟨v, u', S', e1, e2, e3⟩ := pl
    exact ⟨v, u', S', by rw [if_neg (isC_no hm (by decide)), if_neg (isC_no hm (by decide)), if_pos (isC_of hm), e1], by simp [c]; exact e2, e3⟩
  · obtain ⟨u1, S1, a1, a2, a3⟩ := h.ran (x := 40) (by decide)
    obtain ⟨v, u', S', e1, e2, e3⟩ := t5 a3 (x / 2)
    refine ⟨v, u', S', ?_, ?_, e3⟩
    · rw [if_neg (isC_no hm (by decide)), if_neg (isC_no hm (by decide)), if_neg (isC_no hm (by decide)), if_pos (isC_of hm)]
      unfold fX8_ties
      rw [chk_t h.tr, a1, bn1_s, chk_t a3.mk, e1, bnd_s]
    · simp [c]; rw [a2, bn1_s, e2, bnd_s]
  · obtain ⟨u1, S1, a1, a2, a3⟩ := h.ran (x := 51) (by decide)
    obtain ⟨v, u', S', e1, e2, e3⟩ := t5 a3 x
    refine ⟨v ^^^ I k, u', S', ?_, ?_, e3⟩
    · rw [if_neg (isC_no hm (by decide)), if_neg (isC_no hm (by decide)), if_neg (isC_no hm (by decide)), if_neg (isC_no hm (by decide)), if_pos (isC_of hm)]
      unfold fX9_ties
      rw [chk_t h.tr, a1, bn1_s, chk_t a3.mk, e1, bnd_s, e3.g0, bn1_s]
    · simp [c]; rw [a2, bn1_s, e2, bnd_s]
  · obtain ⟨v, u', S', e1, e2, e3⟩ := pl
    exact ⟨v, u', S', by rw [if_neg (isC_no hm (by decide)), if_neg (isC_no hm (by decide)), if_neg (isC_no hm (by decide)), if_neg (isC_no hm (by decide)), if_neg (isC_no hm (by decide)), if_pos (isC_of hm), e1], by simp [c]; exact e2, e3⟩
  · obtain ⟨v, u', S', e1, e2, e3⟩ := pl
    exact ⟨v, u', S', by rw [if_neg (isC_no hm (by decide)), if_neg (isC_no hm (by decide)), if_neg (isC_no hm (by decide)), if_neg (isC_no hm (by decide)), if_neg (isC_no hm (by decide)), if_neg (isC_no hm (by decide)), if_pos (isC_of hm), e1], by simp [c]; exact e2, e3⟩
end VT
