/-! WHICH MARKS ARE ON, WHAT A SET TIES (the model) -/
def usP (row : Nat → Int32) : Nat → Int32
  | 0 => 0
  | k + 1 => usP row k ||| (row (8 + 6 * k + 5) <<< (I k &&& 31))
def onP (row : Nat → Int32) : Int32 := usP row (nM row)
theorem on_loop {S : MS} {N : Nat} (hN : mIA S 0 2 = I N) (hN8 : N ≤ 8) : ∀ (j i : Nat), i + j = N → ∀ f, j < f → lX4_onOnes_4 f (usP (mIA S 0) i) (I i) S = some (usP (mIA S 0) N, S) := by
  intro j
  induction j with
  | zero =>
    intro i hi f hf
    obtain ⟨f, rfl⟩ : ∃ g, f = g + 1 := ⟨f - 1, by omega⟩
    have e : i = N := by omega
    subst e
    show bX4_onOnes_4 (lX4_onOnes_4 f) _ _ _ = _
    unfold bX4_onOnes_4
    rw [if_pos (by show mIA S 0 2 ≤ _; rw [hN, I_le (by omega) (by omega)]; omega)]
  | succ j ih =>
    intro i hi f hf
    obtain ⟨f, rfl⟩ : ∃ g, f = g + 1 := ⟨f - 1, by omega⟩
    show bX4_onOnes_4 (lX4_onOnes_4 f) _ _ _ = _
    unfold bX4_onOnes_4
    rw [if_neg (by show ¬ mIA S 0 2 ≤ _; rw [hN, I_le (by omega) (by omega)]; omega), of_5 (by omega), bnd_s, nm_s, nm_s, I_succ]
    exact ih (i + 1) (by omega) f (by omega)
theorem on_m {S : MS} (hI : INV (mIA S 0)) : fX4_onOnes S = some (onP (mIA S 0), S) :=
  on_loop hI.1.1 hI.1.2 (nM (mIA S 0)) 0 (by omega) FU (by have := hI.1.2; show nM (mIA S 0) < 1000; omega)
def tie1 (set t f is : Int32) (k : Nat) : Int32 :=
  if ((set >>> (I k &&& 31)) &&& 1) = 1 ∧ (f < 0 ∨ ((is >>> (f &&& 31)) &&& 1) = 1 ∨ ((is >>> (t &&& 31)) &&& 1) = 1) then is ||| (((1 : Int32) <<< (t &&& 31)) ||| (if 0 ≤ f then (1 : Int32) <<< (f &&& 31) else 0)) else is
def tieR (row : Nat → Int32) (set is : Int32) : Nat → Int32
  | 0 => is
  | k + 1 => tie1 set (row (8 + 6 * k + 3)) (row (8 + 6 * k + 2)) (tieR row set is k) k
def tieP (row : Nat → Int32) (set : Int32) : Nat → Int32
  | 0 => 0
  | q + 1 => tieR row set (tieP row set q) (nM row)
def tdP (row : Nat → Int32) (set : Int32) : Int32 := tieP row set 4
theorem tie_in {S : MS} {N : Nat} (hN : mIA S 0 2 = I N) (hN8 : N ≤ 8) (set is0 x3 : Int32) (k4 : Int32 → Int32 → Int32 → MS → Option (Int32 × MS)) : ∀ (j i : Nat), i + j = N → ∀ f, j < f → lX4_tiedBy_12 k4 f set (tieR (mIA S 0) set is0 i) x3 (I i) S = k4 set (tieR (mIA S 0) set is0 N) (x3 + 1) S := by
  intro j
  induction j with
  | zero =>
    intro i hi f hf
    obtain ⟨f, rfl⟩ : ∃ g, f = g + 1 := ⟨f - 1, by omega⟩
    have e : i = N := by omega
    subst e
    show bX4_tiedBy_12 k4 (lX4_tiedBy_12 k4 f) _ _ _ _ _ = _
    unfold bX4_tiedBy_12
    rw [if_pos (by show mIA S 0 2 ≤ _; rw [hN, I_le (by omega) (by omega)]; omega), nm_s]
  | succ j ih =>
    intro i hi f hf
    obtain ⟨f, rfl⟩ : ∃ g, f = g + 1 := ⟨f - 1, by omega⟩
    have h := ih (i + 1) (by omega) f (by omega)
    show bX4_tiedBy_12 k4 (lX4_tiedBy_12 k4 f) _ _ _ _ _ = _
    unfold bX4_tiedBy_12
    rw [if_neg (by show ¬ mIA S 0 2 ≤ _; rw [hN, I_le (by omega) (by omega)]; omega)]
    have h : lX4_tiedBy_12 k4 f set (tie1 set (mIA S 0 (8 + 6 * i + 3)) (mIA S 0 (8 + 6 * i + 2)) (tieR (mIA S 0) set is0 i) i) x3 (I (i + 1)) S = _ := h
    simp only [of_2 (show i < 8 by omega), of_3 (show i < 8 by omega), bnd_s, bX4_tiedBy_48, bX4_tiedBy_53, bX4_tiedBy_75, bX4_tiedBy_97, bX4_tiedBy_130, bX4_tiedBy_133, nm_s, I_succ]
    unfold tie1 at h
    have one0 : ¬ (1 : Int32) = 0 := by decide
    generalize tieR (mIA S 0) set is0 i = is at h ⊢
    generalize mIA S 0 (8 + 6 * i + 3) = t at h ⊢
    generalize mIA S 0 (8 + 6 * i + 2) = fr at h ⊢
    by_cases h0 : ((set >>> (I i &&& 31)) &&& 1) = 1 <;> by_cases h1 : fr < 0 <;> by_cases h2 : ((is >>> (fr &&& 31)) &&& 1) = 1 <;> by_cases h3 : ((is >>> (t &&& 31)) &&& 1) = 1 <;> by_cases h4 : 0 ≤ fr <;> simp only [h0, h1, h2, h3, h4, one0, if_true, if_false, true_and, false_and, or_true, true_or, false_or, or_false, and_true, and_false] at h ⊢ <;> exact h
theorem tie_out {S : MS} (hI : INV (mIA S 0)) (set : Int32) : ∀ (j q : Nat), q + j = 4 → ∀ f, j < f → lX4_tiedBy_4 f set (tieP (mIA S 0) set q) (I q) S = some (tdP (mIA S 0) set, S) := by
  intro j
  induction j with
  | zero =>
    intro q hq f hf
    obtain ⟨f, rfl⟩ : ∃ g, f = g + 1 := ⟨f - 1, by omega⟩
    have e : q = 4 := by omega
    subst e
    show bX4_tiedBy_4 (lX4_tiedBy_4 f) _ _ _ _ = _
    unfold bX4_tiedBy_4
    rw [if_pos (by decide)]
    rfl
  | succ j ih =>
    intro q hq f hf
    obtain ⟨f, rfl⟩ : ∃ g, f = g + 1 := ⟨f - 1, by omega⟩
    show bX4_tiedBy_4 (lX4_tiedBy_4 f) _ _ _ _ = _
    unfold bX4_tiedBy_4
    have e4 : (4 : Int32) = I 4 := rfl
    rw [e4, if_neg (by rw [I_le (by omega) (by omega)]; omega)]
    have h1 := tie_in hI.1.1 hI.1.2 set (tieP (mIA S 0) set q) (I q) (lX4_tiedBy_4 f) (nM (mIA S 0)) 0 (by omega) FU (by have := hI.1.2; show nM (mIA S 0) < 1000; omega)
    refine h1.trans ?_
    rw [I_succ]
    exact ih (q + 1) (by omega) f (by omega)
theorem td_m {S : MS} (hI : INV (mIA S 0)) (set : Int32) : fX4_tiedBy set S = some (tdP (mIA S 0) set, S) := tie_out hI set 4 0 (by omega) FU (by decide)
def allP (row : Nat → Int32) : Int32 := ((1 : Int32) <<< (row 3 &&& 31)) - 1
theorem hold_m {S : MS} (hI : INV (mIA S 0)) (set : Int32) : fX4_doesHold set S = some (if tdP (mIA S 0) set = allP (mIA S 0) then 1 else 0, S) := by
  unfold fX4_doesHold bX4_doesHold_23
  rw [td_m hI, bnd_s]
  have e3 : ((3 : Int32)).toNatClampNeg = 3 := rfl
  rw [e3]
  unfold allP
  by_cases h : tdP (mIA S 0) set = ((1 : Int32) <<< (mIA S 0 3 &&& 31)) - 1
  · rw [if_pos h, if_pos h]; rfl
  · rw [if_neg h, if_neg h]; rfl
