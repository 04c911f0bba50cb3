/-! voices: says -/
section VS
variable {b : Nat} {u : XS} {S : MS} {k mm kd : Nat} {r : Nat → Int32}
theorem s15 (h : Vs b u S k mm kd r) (x : Int32) : ∃ v u' S', fX15_says mm x (b + 54) u = some (v, u') ∧ fX4_plainSays (I k) x S = some (v, S') ∧ Vs b u' S' k mm kd r := by
  obtain ⟨u1, S1, a1, a2, a3⟩ := h.ran (x := 11) (by decide)
  obtain ⟨v, u2, S2, b1, -, b2, b3⟩ := v_weighs a3 x
  refine ⟨v * 2, u2, S2, ?_, ?_, b3⟩
  · unfold fX15_says; rw [chk_t h.tr, a1, bn1_s, b1, bnd_s]
  · unfold fX4_plainSays; rw [a2, bn1_s, b2, bnd_s]
theorem s7 (h : Vs b u S k mm kd r) (x : Int32) : ∃ v u' S', fX7_says mm x (b + 54) u = some (v, u') ∧ fX4_starSays (I k) x S = some (v, S') ∧ Vs b u' S' k mm kd r := by
  obtain ⟨u1, S1, a1, a2, a3⟩ := h.ran (x := 30) (by decide)
  obtain ⟨v, u2, S2, b1, b2, b3⟩ := s15 a3 x
  refine ⟨-v, u2, S2, ?_, ?_, b3⟩
  · unfold fX7_says; rw [chk_t h.tr, a1, bn1_s, chk_t a3.mk, b1, bnd_s, Int32.zero_sub]
  · unfold fX4_starSays; rw [a2, bn1_s, b2, bnd_s]
theorem s10 (h : Vs b u S k mm kd r) (x : Int32) : ∃ v u' S', fX10_says mm x (b + 54) u = some (v, u') ∧ (bn1 (fX4_begins (60 : Int32) S) fun S13 => bnd (fX4_starSays (I k) (x + (1 : Int32)) S13) fun v16 S15 => some (v16, S15)) = some (v, S') ∧ Vs b u' S' k mm kd r := by
  obtain ⟨u1, S1, a1, a2, a3⟩ := h.ran (x := 60) (by decide)
  obtain ⟨v, u2, S2, b1, b2, b3⟩ := s7 a3 (x + 1)
  refine ⟨v, u2, S2, ?_, ?_, b3⟩
  · unfold fX10_says; rw [chk_t h.tr, a1, bn1_s, chk_t a3.mk, b1, bnd_s]
  · rw [a2, bn1_s, b2, bnd_s]
theorem s11 (h : Vs b u S k mm kd r) (x : Int32) : ∃ v u' S', fX11_says mm x (b + 54) u = some (v, u') ∧ (bn1 (fX4_begins (71 : Int32) S) fun S19 => bnd (fX4_plainSays (I k) x S19) fun v22 S21 => bnd (fX4_of (I k) (1 : Int32) S21) fun v25 S24 => some ((v22 + v25), S24)) = some (v, S') ∧ Vs b u' S' k mm kd r := by
  obtain ⟨u1, S1, a1, a2, a3⟩ := h.ran (x := 71) (by decide)
  obtain ⟨v, u2, S2, b1, b2, b3⟩ := s15 a3 x
  refine ⟨v + r (8 + 6 * k + 1), u2, S2, ?_, ?_, b3⟩
  · unfold fX11_says; rw [chk_t h.tr, a1, bn1_s, chk_t a3.mk, b1, bnd_s, b3.g1, bn1_s]
  · rw [a2, bn1_s, b2, bnd_s, of_1 b3.2.2.2.2.1, bnd_s, b3.2.1]
theorem v_says (h : Vs b u S k mm kd r) (x : Int32) : ∃ v u' S', v_X5_says mm x (b + 54) u = some (v, u') ∧ fX4_says (I k) x S = some (v, S') ∧ Vs b u' S' k mm kd r := by
  have hm := h.2.2.1
  have hk := h.2.2.2.2.1
  have h6 := h.2.2.2.2.2.2
  obtain ⟨d1, d2, d3, d4, d5, d6⟩ := kd_e kd h6
  have hM : fX4_of (I k) 0 S = some (I kd, S) := by rw [of_0 hk, h.2.1, h.2.2.2.2.2.1]
  unfold fX4_says v_X5_says bX4_says_82
  rw [hM, bnd_s]
  simp only [d2, d5, d6]
  have hc : kd = 0 ∨ kd = 1 ∨ kd = 2 ∨ kd = 3 ∨ kd = 4 ∨ kd = 5 ∨ kd = 6 := by omega
  have pl : ∃ v u' S', fX15_says mm x (b + 54) u = some (v, u') ∧ (bnd (fX4_plainSays (I k) x S) fun v3 S2 => some (v3, S2)) = some (v, S') ∧ Vs b u' S' k mm kd r := by
    obtain ⟨v, u', S', e1, e2, e3⟩ := s15 h x
    exact ⟨v, u', S', e1, by rw [e2, bnd_s], e3⟩
  rcases hc with c | c | c | c | c | c | c <;> rw [c] at hm
  · obtain ⟨v, u', S', e1, e2, e3⟩ := pl
    exact ⟨v, u', S', by rw [if_pos (isC_of hm), e1], by simp [c]; exact e2, e3⟩
  · obtain ⟨v, u', S', e1, e2, e3⟩ := pl
    exact ⟨v, u', S', by rw [if_neg (isC_no hm (by decide)), if_pos (isC_of hm), e1], by simp [c]; exact e2, e3⟩
  · obtain ⟨v, u', S', e1, e2, e3⟩ := s7 h x
    exact ⟨v, u', S', by rw [if_neg (isC_no hm (by decide)), if_neg (isC_no hm (by decide)), if_pos (isC_of hm), e1], by simp [c]; rw [e2, bnd_s], e3⟩
  · obtain ⟨v, u', S', e1, e2, e3⟩ := pl
    exact ⟨v, u', S', by rw [if_neg (isC_no hm (by decide)), if_neg (isC_no hm (by decide)), if_neg (isC_no hm (by decide)), if_pos (isC_of hm), e1], by simp [c]; exact e2, e3⟩
  · obtain ⟨v, u', S', e1, e2, e3⟩ := pl
    exact ⟨v, u', S', by rw [if_neg (isC_no hm (by decide)), if_neg (isC_no hm (by decide)), if_neg (isC_no hm (by decide)), if_neg (isC_no hm (by decide)), if_pos (isC_of hm), e1], by simp [c]; exact e2, e3⟩
  · obtain ⟨v, u', S', e1, e2, e3⟩ := s10 h x
    exact ⟨v, u', S', by rw [if_neg (isC_no hm (by decide)), if_neg (isC_no hm (by decide)), if_neg (isC_no hm (by decide)), if_neg (isC_no hm (by decide)), if_neg (isC_no hm (by decide)), if_pos (isC_of hm), e1], by simp [c]; exact e2, e3⟩
  · obtain ⟨v, u', S', e1, e2, e3⟩ := s11 h x
    exact ⟨v, u', S', by rw [if_neg (isC_no hm (by decide)), if_neg (isC_no hm (by decide)), if_neg (isC_no hm (by decide)), if_neg (isC_no hm (by decide)), if_neg (isC_no hm (by decide)), if_neg (isC_no hm (by decide)), if_pos (isC_of hm), e1], by simp [c]; exact e2, e3⟩
end VS
