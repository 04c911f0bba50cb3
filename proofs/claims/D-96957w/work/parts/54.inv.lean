/-! THE ROW: what always holds of it; what marks weigh and say -/
def nM (row : Nat → Int32) : Nat := (row 2).toNatClampNeg
def nP (row : Nat → Int32) : Nat := (row 3).toNatClampNeg
def mkOK (row : Nat → Int32) (k : Nat) : Prop := (∃ a, a ≤ 6 ∧ row (8 + 6 * k) = I a) ∧ (∃ a, a ≤ 9 ∧ row (8 + 6 * k + 1) = I a) ∧ (row (8 + 6 * k + 2) = -1 ∨ ∃ a, a < nP row ∧ row (8 + 6 * k + 2) = I a) ∧ (∃ a, a < nP row ∧ row (8 + 6 * k + 3) = I a) ∧ row (8 + 6 * k + 2) ≠ row (8 + 6 * k + 3) ∧ (row (8 + 6 * k + 5) = 0 ∨ row (8 + 6 * k + 5) = 1)
def txOK (row : Nat → Int32) (a : Nat) : Prop := ∃ L, L ≤ 60 ∧ row a = I L ∧ (L = 0 ∨ wfR row a L = some 1)
def INV (row : Nat → Int32) : Prop := (row 2 = I (nM row) ∧ nM row ≤ 8) ∧ (row 3 = I (nP row) ∧ 1 ≤ nP row ∧ nP row ≤ 4) ∧ (∀ k, k < nM row → mkOK row k) ∧ (∃ d, d ≤ 9999 ∧ row 5 = I d) ∧ (∃ t, t ≤ 60 ∧ row 6 = I t) ∧ (∃ w, w ≤ 24 ∧ row 7 = I w) ∧ txOK row 140 ∧ txOK row 261 ∧ (∀ k, k < 60 → ∃ c, c ≤ 255 ∧ row (56 + k) = I c)
def heldP (v lo hi : Int32) : Int32 := if lo ≤ v then (if v ≤ hi then v else hi) else lo
theorem held_m (v lo hi : Int32) (S : MS) : fX4_held v lo hi S = some (heldP v lo hi, S) := by
  unfold fX4_held heldP bX4_held_19
  by_cases h1 : lo ≤ v
  · rw [if_pos h1, if_pos h1]
    by_cases h2 : v ≤ hi
    · rw [if_pos h2, if_pos h2]
    · rw [if_neg h2, if_neg h2]
  · rw [if_neg h1, if_neg h1]
def fcP (a b c : Int32) : Nat → Int32 := fun i => if i = 2 then c else if i = 1 then b else a
def rawG (row : Nat → Int32) (at_ : Nat) (a b c : Int32) : Int32 := if row at_ ≤ 0 then a else (evR row at_ (fcP a b c) (row at_).toNatClampNeg).headD 0
def givP (row : Nat → Int32) (u : Nat) (a b c : Int32) : Int32 := if u = 0 then heldP (rawG row 140 a b c) 1 4 else heldP (rawG row 261 a b c) (-30) 30
theorem I_le0 {L : Nat} (h : L < 2 ^ 31) : I L ≤ 0 ↔ L = 0 := by
  have e : (0 : Int32) = I 0 := rfl
  rw [e, I_le h (by decide)]; omega
theorem gives_raw {S : MS} {a : Nat} (ha : a ≤ 261) (h : txOK (mIA S 0) a) (x y z : Int32) {S1 : MS} (e1 : S1 = sIA (sIA (sIA S 14 (upd (mIA S 14) 0 x)) 14 (upd (mIA (sIA S 14 (upd (mIA S 14) 0 x)) 14) 1 y)) 14 (upd (mIA (sIA (sIA S 14 (upd (mIA S 14) 0 x)) 14 (upd (mIA (sIA S 14 (upd (mIA S 14) 0 x)) 14) 1 y)) 14) 2 z)) :
    mEq S S1 ∧ (mIA S 0 a ≤ 0 → rawG (mIA S 0) a x y z = x) ∧ (¬ mIA S 0 a ≤ 0 → ∃ S', fX4_works (I a) S1 = some (rawG (mIA S 0) a x y z, S') ∧ mEq S S') := by
  have q : mEq S S1 := by
    subst e1
    exact ⟨fun k h1 _ => by rw [mIA_IA, if_neg h1, mIA_IA, if_neg h1, mIA_IA, if_neg h1], fun _ => rfl, fun _ => rfl, rfl⟩
  refine ⟨q, fun h0 => by unfold rawG; rw [if_pos h0], fun h0 => ?_⟩
  obtain ⟨L, hL, hr, hw⟩ := h
  have hL0 : ¬ L = 0 := by rw [hr, I_le0 (by omega)] at h0; exact h0
  have hw := hw.resolve_left hL0
  have hfc : ∀ i, i < 3 → mIA S1 14 i = fcP x y z i := by
    intro i hi
    subst e1
    have hc : i = 0 ∨ i = 1 ∨ i = 2 := by omega
    rcases hc with rfl | rfl | rfl <;> simp [mIA_IA, upd, fcP]
  obtain ⟨S', h1, h2⟩ := works_loop (row := mIA S 0) (fc := fcP x y z) ha hr hL hw L 0 (by omega) FU (by show L < 1000; omega) 0 S1 q.row hfc rfl trivial
  refine ⟨S', ?_, q.trans h2⟩
  unfold fX4_works rawG
  rw [if_neg h0, hr, I_nat (by omega)]
  exact h1
theorem gives_0 {S : MS} (h : txOK (mIA S 0) 140) (x y z : Int32) : ∃ S', fX4_gives 0 x y z S = some (givP (mIA S 0) 0 x y z, S') ∧ mEq S S' := by
  obtain ⟨q1, q2, q3⟩ := gives_raw (a := 140) (by decide) h x y z rfl
  unfold fX4_gives
  simp only [nm_s]
  have e1 : (140 : Int32) + 121 * 0 = I 140 := rfl
  have e2 : ((0 : Int32)).toNatClampNeg = 0 := rfl
  have e3 : ((1 : Int32)).toNatClampNeg = 1 := rfl
  have e4 : ((2 : Int32)).toNatClampNeg = 2 := rfl
  rw [e1, e2, e3, e4, chk_t (by decide), I_nat (by decide), q1.row]
  by_cases h0 : mIA S 0 140 ≤ 0
  · rw [if_pos h0]
    refine ⟨_, ?_, q1⟩
    unfold bX4_gives_52 bX4_gives_77
    rw [if_pos rfl, held_m, bnd_s, givP, if_pos rfl, q2 h0]
  · rw [if_neg h0]
    obtain ⟨S', h1, h2⟩ := q3 h0
    refine ⟨S', ?_, h2⟩
    rw [h1, bnd_s]
    unfold bX4_gives_52 bX4_gives_77
    rw [if_pos rfl, held_m, bnd_s, givP, if_pos rfl]
theorem gives_1 {S : MS} (h : txOK (mIA S 0) 261) (x y z : Int32) : ∃ S', fX4_gives 1 x y z S = some (givP (mIA S 0) 1 x y z, S') ∧ mEq S S' := by
  obtain ⟨q1, q2, q3⟩ := gives_raw (a := 261) (by decide) h x y z rfl
  unfold fX4_gives
  simp only [nm_s]
  have e1 : (140 : Int32) + 121 * 1 = I 261 := rfl
  have e2 : ((0 : Int32)).toNatClampNeg = 0 := rfl
  have e3 : ((1 : Int32)).toNatClampNeg = 1 := rfl
  have e4 : ((2 : Int32)).toNatClampNeg = 2 := rfl
  rw [e1, e2, e3, e4, chk_t (by decide), I_nat (by decide), q1.row]
  by_cases h0 : mIA S 0 261 ≤ 0
  · rw [if_pos h0]
    refine ⟨_, ?_, q1⟩
    unfold bX4_gives_52 bX4_gives_77
    rw [if_neg (by decide), held_m, bnd_s, givP, if_neg (by decide), q2 h0]
  · rw [if_neg h0]
    obtain ⟨S', h1, h2⟩ := q3 h0
    refine ⟨S', ?_, h2⟩
    rw [h1, bnd_s]
    unfold bX4_gives_52 bX4_gives_77
    rw [if_neg (by decide), held_m, bnd_s, givP, if_neg (by decide)]
/-! by kinds -/
def starP (t : Int32) : Int32 := if t ≤ 3 then 3 else 1
def kwP (kd m r t : Int32) : Int32 := if kd = 1 then 3 else if kd = 2 then starP t else if kd = 3 then (if m ≤ 4 then 2 else 4) else if kd = 4 then (if r - r / 2 * 2 = 0 then 3 else 1) else if kd = 5 then starP t - 1 else if kd = 6 then 4 else 2
def krP (kd m r t : Int32) : Int32 := if kd = 3 then (t + (m - m / 3 * 3)) - 1 else if kd = 4 then t + (r - r / (m + 1) * (m + 1)) else if kd = 5 then 2 * (t / 2) else if kd = 6 then (if 0 ≤ t then t else 0) - m else t
def tcP (row : Nat → Int32) (k : Nat) : Int32 := tchP row k (nM row)
def r8 (row : Nat → Int32) : Int32 := row 0 - row 0 / 8 * 8
def wgtP (row : Nat → Int32) (k : Nat) : Int32 := kwP (row (8 + 6 * k)) (row (8 + 6 * k + 1)) (row 0) (tcP row k)
def redP (row : Nat → Int32) (k : Nat) : Int32 := krP (row (8 + 6 * k)) (row (8 + 6 * k + 1)) (row 0) (row (8 + 6 * k + 4))
def wP (row : Nat → Int32) (k : Nat) : Int32 := givP row 0 (wgtP row k) (tcP row k) (r8 row)
def sP (row : Nat → Int32) (k : Nat) : Int32 := givP row 1 (redP row k) (row (8 + 6 * k + 4)) (r8 row)
theorem wgt_m {S : MS} {k : Nat} (hI : INV (mIA S 0)) (hk : k < nM (mIA S 0)) : fX4_weighsBy (I k) S = some (wgtP (mIA S 0) k, S) := by
  obtain ⟨⟨h2, h8⟩, -⟩ := hI
  unfold fX4_weighsBy
  rw [tch_m h2 h8 (by omega), bnd_s]
  have e2 : ((0 : Int32)).toNatClampNeg = 0 := rfl
  have hb : ∀ t, bX4_weighsBy_14 (I k) t S = some ((if mIA S 0 (8 + 6 * k) = 1 then 3 else if mIA S 0 (8 + 6 * k) = 2 then t else if mIA S 0 (8 + 6 * k) = 3 then (if mIA S 0 (8 + 6 * k + 1) ≤ 4 then 2 else 4) else if mIA S 0 (8 + 6 * k) = 4 then (if mIA S 0 0 - mIA S 0 0 / 2 * 2 = 0 then 3 else 1) else if mIA S 0 (8 + 6 * k) = 5 then t - 1 else if mIA S 0 (8 + 6 * k) = 6 then 4 else 2), S) := by
    intro t
    unfold bX4_weighsBy_14
    simp only [of_0 (show k < 8 by omega), of_1 (show k < 8 by omega), bnd_s, bX4_weighsBy_79, bX4_weighsBy_96, e2]
    by_cases c1 : mIA S 0 (8 + 6 * k) = 1
    · rw [if_pos c1, if_pos c1]
    rw [if_neg c1, if_neg c1]
    by_cases c2 : mIA S 0 (8 + 6 * k) = 2
    · rw [if_pos c2, if_pos c2]
    rw [if_neg c2, if_neg c2]
    by_cases c3 : mIA S 0 (8 + 6 * k) = 3
    · rw [if_pos c3, if_pos c3]
      by_cases c : mIA S 0 (8 + 6 * k + 1) ≤ 4
      · rw [if_pos c, if_pos c]
      · rw [if_neg c, if_neg c]
    rw [if_neg c3, if_neg c3]
    by_cases c4 : mIA S 0 (8 + 6 * k) = 4
    · rw [if_pos c4, if_pos c4]
      by_cases c : mIA S 0 0 - mIA S 0 0 / 2 * 2 = 0
      · rw [if_pos c, if_pos c]
      · rw [if_neg c, if_neg c]
    rw [if_neg c4, if_neg c4]
    by_cases c5 : mIA S 0 (8 + 6 * k) = 5
    · rw [if_pos c5, if_pos c5]
    rw [if_neg c5, if_neg c5]
    by_cases c6 : mIA S 0 (8 + 6 * k) = 6
    · rw [if_pos c6, if_pos c6]
    rw [if_neg c6, if_neg c6]
  rw [hb, hb]
  unfold wgtP kwP starP tcP
  by_cases c : tchP (mIA S 0) k (nM (mIA S 0)) ≤ 3
  · rw [if_pos c, if_pos c]
  · rw [if_neg c, if_neg c]
theorem I_succ_ne0 {a : Nat} (h : a ≤ 9) : ¬ I a + 1 = 0 := by
  rw [I_succ]
  have e : (0 : Int32) = I 0 := rfl
  rw [e, I_inj (by omega) (by omega)]; omega
theorem red_m {S : MS} {k : Nat} (hI : INV (mIA S 0)) (hk : k < nM (mIA S 0)) : fX4_readBy (I k) S = some (redP (mIA S 0) k, S) := by
  obtain ⟨⟨h2, h8⟩, -, hm, -⟩ := hI
  obtain ⟨-, ⟨a, ha, hma⟩, -⟩ := hm k hk
  unfold fX4_readBy bX4_readBy_90
  have e2 : ((0 : Int32)).toNatClampNeg = 0 := rfl
  simp only [of_0 (show k < 8 by omega), of_1 (show k < 8 by omega), of_4 (show k < 8 by omega), bnd_s, e2]
  rw [chk_t (ne0_t (by rw [hma]; exact I_succ_ne0 ha))]
  unfold redP krP
  by_cases c3 : mIA S 0 (8 + 6 * k) = 3
  · rw [if_pos c3, if_pos c3]
  rw [if_neg c3, if_neg c3]
  by_cases c4 : mIA S 0 (8 + 6 * k) = 4
  · rw [if_pos c4, if_pos c4]
  rw [if_neg c4, if_neg c4]
  by_cases c5 : mIA S 0 (8 + 6 * k) = 5
  · rw [if_pos c5, if_pos c5]
  rw [if_neg c5, if_neg c5]
  by_cases c6 : mIA S 0 (8 + 6 * k) = 6
  · rw [if_pos c6, if_pos c6]
    by_cases c : 0 ≤ mIA S 0 (8 + 6 * k + 4)
    · rw [if_pos c, if_pos c]
    · rw [if_neg c, if_neg c]
  rw [if_neg c6, if_neg c6]
theorem w_m {S : MS} {k : Nat} (hI : INV (mIA S 0)) (hk : k < nM (mIA S 0)) : ∃ S', fX4_weight (I k) S = some (wP (mIA S 0) k, S') ∧ mEq S S' := by
  obtain ⟨S', h1, h2⟩ := gives_0 hI.2.2.2.2.2.2.1 (wgtP (mIA S 0) k) (tcP (mIA S 0) k) (r8 (mIA S 0))
  refine ⟨S', ?_, h2⟩
  unfold fX4_weight
  rw [wgt_m hI hk, bnd_s, tch_m hI.1.1 hI.1.2 (by have := hI.1.2; omega), bnd_s]
  have e2 : ((0 : Int32)).toNatClampNeg = 0 := rfl
  rw [e2]
  have h1 : fX4_gives 0 (wgtP (mIA S 0) k) (tchP (mIA S 0) k (nM (mIA S 0))) (mIA S 0 0 - mIA S 0 0 / 8 * 8) S = some (wP (mIA S 0) k, S') := h1
  rw [h1, bnd_s]
theorem s_m {S : MS} {k : Nat} (hI : INV (mIA S 0)) (hk : k < nM (mIA S 0)) : ∃ S', fX4_saysOf (I k) S = some (sP (mIA S 0) k, S') ∧ mEq S S' := by
  obtain ⟨S', h1, h2⟩ := gives_1 hI.2.2.2.2.2.2.2.1 (redP (mIA S 0) k) (mIA S 0 (8 + 6 * k + 4)) (r8 (mIA S 0))
  refine ⟨S', ?_, h2⟩
  unfold fX4_saysOf
  rw [red_m hI hk, bnd_s, of_4 (by have := hI.1.2; omega), bnd_s]
  have e2 : ((0 : Int32)).toNatClampNeg = 0 := rfl
  rw [e2]
  have h1 : fX4_gives 1 (redP (mIA S 0) k) (mIA S 0 (8 + 6 * k + 4)) (mIA S 0 0 - mIA S 0 0 / 8 * 8) S = some (sP (mIA S 0) k, S') := h1
  rw [h1, bnd_s]
