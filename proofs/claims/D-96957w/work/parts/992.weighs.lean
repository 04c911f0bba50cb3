/-! voices: weighs -/
def Vs (b : Nat) (u : XS) (S : MS) (k mm kd : Nat) (r : Nat → Int32) : Prop := RL b u S ∧ mIA S 0 = r ∧ u.1 mm = some (aeO (5 + kd) [.int (I k), .int (r (8 + 6 * k + 1))]) ∧ b + 76 ≤ mm ∧ k < 8 ∧ r (8 + 6 * k) = I kd ∧ kd ≤ 6
section VW
variable {b : Nat} {u : XS} {S : MS} {k mm kd : Nat} {r : Nat → Int32}
theorem Vs.ran (h : Vs b u S k mm kd r) {x : Int32} (hx : x.toInt8.toInt32 = x) : ∃ u' S', fX3_ran (b + 54) x u = some u' ∧ fX4_begins x S = some S' ∧ Vs b u' S' k mm kd r := by
  obtain ⟨h1, h2, h3, h4, h5⟩ := h
  obtain ⟨u', S', g1, g2, g3, g4, g5, -⟩ := h1.ran hx
  exact ⟨u', S', g1, g2, g3, g4.trans h2, (g5.2 mm (by omega)).trans h3, h4, h5⟩
theorem Vs.tr (h : Vs b u S k mm kd r) : isC u (b + 54) 3 = true := by
  obtain ⟨⟨hd, tx, hX, hI, ⟨hK, hA, hF, ⟨hT1, -⟩, hS⟩⟩, -⟩ := h
  exact isC_of hT1
theorem Vs.g0 (h : Vs b u S k mm kd r) : gIM u mm 0 = some (I k) := gIM_of h.2.2.1 (by have := h.2.2.2.2.2.2; omega) rfl
theorem Vs.g1 (h : Vs b u S k mm kd r) : gIM u mm 1 = some (r (8 + 6 * k + 1)) := gIM_of h.2.2.1 (by have := h.2.2.2.2.2.2; omega) rfl
theorem Vs.mk (h : Vs b u S k mm kd r) : mkB u mm = true := mkB_of h.2.2.1 (by have := h.2.2.2.2.2.2; omega)
theorem w5 (h : Vs b u S k mm kd r) (x : Int32) : ∃ v u' S', fX5_weighs mm x (b + 54) u = some (v, u') ∧ fX4_plainWeighs (I k) x S = some (v, S') ∧ Vs b u' S' k mm kd r := by
  obtain ⟨u1, S1, a1, a2, a3⟩ := h.ran (x := 10) (by decide)
  refine ⟨x + I k, u1, S1, ?_, ?_, a3⟩
  · unfold fX5_weighs; rw [chk_t h.tr, a1, bn1_s, a3.g0, bn1_s]
  · unfold fX4_plainWeighs; rw [a2, bn1_s]
theorem w6 (h : Vs b u S k mm kd r) (x : Int32) : ∃ v u' S', fX6_weighs mm x (b + 54) u = some (v, u') ∧ fX4_flatWeighs (I k) x S = some (v, S') ∧ Vs b u' S' k mm kd r := by
  obtain ⟨u1, S1, a1, a2, a3⟩ := h.ran (x := 20) (by decide)
  obtain ⟨v, u2, S2, b1, b2, b3⟩ := w5 a3 x
  refine ⟨v - 4, u2, S2, ?_, ?_, b3⟩
  · unfold fX6_weighs; rw [chk_t h.tr, a1, bn1_s, chk_t a3.mk, b1, bnd_s]
  · unfold fX4_flatWeighs; rw [a2, bn1_s, b2, bnd_s]
theorem w9 (h : Vs b u S k mm kd r) (x : Int32) : ∃ v u' S', fX9_weighs mm x (b + 54) u = some (v, u') ∧ (bn1 (fX4_begins (50 : Int32) S) fun S10 => bnd (fX4_flatWeighs (I k) x S10) fun v13 S12 => some ((v13 * (3 : Int32)), S12)) = some (v, S') ∧ Vs b u' S' k mm kd r := by
  obtain ⟨u1, S1, a1, a2, a3⟩ := h.ran (x := 50) (by decide)
  obtain ⟨v, u2, S2, b1, b2, b3⟩ := w6 a3 x
  refine ⟨v * 3, u2, S2, ?_, ?_, b3⟩
  · unfold fX9_weighs; rw [chk_t h.tr, a1, bn1_s, chk_t a3.mk, b1, bnd_s]
  · rw [a2, bn1_s, b2, bnd_s]
theorem w11 (h : Vs b u S k mm kd r) (x : Int32) : ∃ v u' S', fX11_weighs mm x (b + 54) u = some (v, u') ∧ (bn1 (fX4_begins (70 : Int32) S) fun S16 => some ((9 : Int32), S16)) = some (v, S') ∧ Vs b u' S' k mm kd r := by
  obtain ⟨u1, S1, a1, a2, a3⟩ := h.ran (x := 70) (by decide)
  refine ⟨9, u1, S1, ?_, ?_, a3⟩
  · unfold fX11_weighs; rw [chk_t h.tr, a1, bn1_s]
  · rw [a2, bn1_s]
theorem kd_e : ∀ n, n ≤ 6 → (I n = 1 ↔ n = 1) ∧ (I n = 2 ↔ n = 2) ∧ (I n = 3 ↔ n = 3) ∧ (I n = 4 ↔ n = 4) ∧ (I n = 5 ↔ n = 5) ∧ (I n = 6 ↔ n = 6) := by decide
theorem v_weighs (h : Vs b u S k mm kd r) (x : Int32) : ∃ v u' S', v_X15_weighs mm x (b + 54) u = some (v, u') ∧ v_X5_weighs mm x (b + 54) u = some (v, u') ∧ fX4_weighs (I k) x S = some (v, S') ∧ Vs b u' S' k mm kd r := by
  have hm := h.2.2.1
  have hk := h.2.2.2.2.1
  have h6 := h.2.2.2.2.2.2
  obtain ⟨d1, d2, d3, d4, d5, d6⟩ := kd_e kd h6
  have hM : fX4_of (I k) 0 S = some (I kd, S) := by rw [of_0 hk, h.2.1, h.2.2.2.2.2.1]
  unfold fX4_weighs v_X15_weighs v_X5_weighs
  rw [hM, bnd_s]
  simp only [d1, d4, d6]
  have hc : kd = 0 ∨ kd = 1 ∨ kd = 2 ∨ kd = 3 ∨ kd = 4 ∨ kd = 5 ∨ kd = 6 := by omega
  have pl : ∃ v u' S', fX5_weighs mm x (b + 54) u = some (v, u') ∧ (bnd (fX4_plainWeighs (I k) x S) fun v19 S18 => some (v19, S18)) = some (v, S') ∧ Vs b u' S' k mm kd r := by
    obtain ⟨v, u', S', e1, e2, e3⟩ := w5 h x
    exact ⟨v, u', S', e1, by rw [e2, bnd_s], e3⟩
  rcases hc with c | c | c | c | c | c | c <;> rw [c] at hm
  · obtain ⟨v, u', S', e1, e2, e3⟩ := pl
    refine ⟨v, u', S', ?_, ?_, ?_, e3⟩
    · rw [if_pos (isC_of hm), e1]
    · rw [if_pos (isC_of hm), e1]
    · simp [c]; exact e2
  · obtain ⟨v, u', S', e1, e2, e3⟩ := w6 h x
    refine ⟨v, u', S', ?_, ?_, ?_, e3⟩
    · rw [if_neg (isC_no hm (by decide)), if_pos (isC_of hm), e1]
    · rw [if_neg (isC_no hm (by decide)), if_pos (isC_of hm), e1]
    · simp [c]; rw [e2, bnd_s]
  · obtain ⟨v, u', S', e1, e2, e3⟩ := pl
    refine ⟨v, u', S', ?_, ?_, ?_, e3⟩
    · rw [if_neg (isC_no hm (by decide)), if_neg (isC_no hm (by decide)), if_pos (isC_of hm), e1]
    · rw [if_neg (isC_no hm (by decide)), if_neg (isC_no hm (by decide)), if_pos (isC_of hm), e1]
    · simp [c]; exact e2
  · obtain ⟨v, u', S', e1, e2, e3⟩ := pl
    refine ⟨v, u', S', ?_, ?_, ?_, e3⟩
    · rw [if_neg (isC_no hm (by decide)), if_neg (isC_no hm (by decide)), if_neg (isC_no hm (by decide)), if_pos (isC_of hm), e1]
    · rw [if_neg (isC_no hm (by decide)), if_neg (isC_no hm (by decide)), if_neg (isC_no hm (by decide)), if_pos (isC_of hm), e1]
    · simp [c]; exact e2
  · obtain ⟨v, u', S', e1, e2, e3⟩ := w9 h x
    refine ⟨v, u', S', ?_, ?_, ?_, e3⟩
    · rw [if_neg (isC_no hm (by decide)), if_neg (isC_no hm (by decide)), if_neg (isC_no hm (by decide)), if_neg (isC_no hm (by decide)), if_pos (isC_of hm), e1]
    · rw [if_neg (isC_no hm (by decide)), if_neg (isC_no hm (by decide)), if_neg (isC_no hm (by decide)), if_neg (isC_no hm (by decide)), if_pos (isC_of hm), e1]
    · simp [c]; exact e2
  · obtain ⟨v, u', S', e1, e2, e3⟩ := pl
    refine ⟨v, u', S', ?_, ?_, ?_, e3⟩
    · rw [if_neg (isC_no hm (by decide)), if_neg (isC_no hm (by decide)), if_neg (isC_no hm (by decide)), if_neg (isC_no hm (by decide)), if_neg (isC_no hm (by decide)), if_pos (isC_of hm), e1]
    · rw [if_neg (isC_no hm (by decide)), if_neg (isC_no hm (by decide)), if_neg (isC_no hm (by decide)), if_neg (isC_no hm (by decide)), if_neg (isC_no hm (by decide)), if_pos (isC_of hm), e1]
    · simp [c]; exact e2
  · obtain ⟨v, u', S', e1, e2, e3⟩ := w11 h x
    refine ⟨v, u', S', ?_, ?_, ?_, e3⟩
    · rw [if_neg (isC_no hm (by decide)), if_neg (isC_no hm (by decide)), if_neg (isC_no hm (by decide)), if_neg (isC_no hm (by decide)), if_neg (isC_no hm (by decide)), if_neg (isC_no hm (by decide)), if_pos (isC_of hm), e1]
    · rw [if_neg (isC_no hm (by decide)), if_neg (isC_no hm (by decide)), if_neg (isC_no hm (by decide)), if_neg (isC_no hm (by decide)), if_neg (isC_no hm (by decide)), if_neg (isC_no hm (by decide)), if_pos (isC_of hm), e1]
    · simp [c]; exact e2
end VW
