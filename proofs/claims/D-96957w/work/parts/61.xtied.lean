/-! what a set ties (PictureBlock) -/
theorem bit01 (y : Int32) : (y &&& 1) = 0 ∨ (y &&& 1) = 1 := by
  have e : (y &&& 1).toBitVec = y.toBitVec &&& 1#32 := rfl
  rw [BitVec.and_one_eq_setWidth_ofBool_getLsbD] at e
  cases h : y.toBitVec.getLsbD 0
  · left; rw [h] at e; exact Int32.toBitVec.inj e
  · right; rw [h] at e; exact Int32.toBitVec.inj e
/-- one step, as PictureBlock takes it -/
def tieX (t f is : Int32) : Int32 :=
  if ((((if f < 0 ∨ ((is >>> (f &&& 31)) &&& 1) = 1 then is ||| ((1 : Int32) <<< (t &&& 31)) else is) >>> (t &&& 31)) &&& 1) = 1) then
    (if f < 0 then (if f < 0 ∨ ((is >>> (f &&& 31)) &&& 1) = 1 then is ||| ((1 : Int32) <<< (t &&& 31)) else is) else (if f < 0 ∨ ((is >>> (f &&& 31)) &&& 1) = 1 then is ||| ((1 : Int32) <<< (t &&& 31)) else is) ||| ((1 : Int32) <<< (f &&& 31)))
  else (if f < 0 ∨ ((is >>> (f &&& 31)) &&& 1) = 1 then is ||| ((1 : Int32) <<< (t &&& 31)) else is)
/-- the model's step, the mark being in the set -/
def tieM (t f is : Int32) : Int32 := if f < 0 ∨ ((is >>> (f &&& 31)) &&& 1) = 1 ∨ ((is >>> (t &&& 31)) &&& 1) = 1 then is ||| (((1 : Int32) <<< (t &&& 31)) ||| (if 0 ≤ f then (1 : Int32) <<< (f &&& 31) else 0)) else is
/-- the same as a number -/
def tieN (t : Nat) (f : Option Nat) (x : Nat) : Nat := match f with
  | none => x ||| 1 <<< t
  | some f => if x.testBit f = true ∨ x.testBit t = true then x ||| (1 <<< t ||| 1 <<< f) else x
theorem tie_decG : ∀ x, x < 16 → ∀ t, t < 4 → tieX (I t) (-1) (I x) = tieM (I t) (-1) (I x) ∧ tieM (I t) (-1) (I x) = I (tieN t none x) ∧ tieN t none x < 16 := by decide
theorem tie_decP : ∀ x, x < 16 → ∀ t, t < 4 → ∀ f, f < 4 → tieX (I t) (I f) (I x) = tieM (I t) (I f) (I x) ∧ tieM (I t) (I f) (I x) = I (tieN t (some f) x) ∧ tieN t (some f) x < 16 := by decide
theorem tie1_M (set t f is : Int32) (k : Nat) : tie1 set t f is k = if ((set >>> (I k &&& 31)) &&& 1) = 1 then tieM t f is else is := by
  unfold tie1 tieM
  by_cases h : ((set >>> (I k &&& 31)) &&& 1) = 1
  · simp only [h, true_and, if_true]
  · simp only [h, false_and, if_false]
/-- the picture from which k goes, as a number -/
def frN (row : Nat → Int32) (k : Nat) : Option Nat := if row (8 + 6 * k + 2) < 0 then none else some (row (8 + 6 * k + 2)).toNatClampNeg
def toN (row : Nat → Int32) (k : Nat) : Nat := (row (8 + 6 * k + 3)).toNatClampNeg
theorem fr_cases {row : Nat → Int32} (hI : INV row) {k : Nat} (hk : k < nM row) : (row (8 + 6 * k + 2) = -1 ∧ frN row k = none) ∨ ∃ f, f < nP row ∧ f < 4 ∧ row (8 + 6 * k + 2) = I f ∧ frN row k = some f := by
  have hP := hI.2.1.2.2
  rcases (hI.2.2.1 k hk).2.2.1 with e | ⟨f, hf, e⟩
  · left
    refine ⟨e, ?_⟩
    unfold frN
    rw [e]; rfl
  · right
    refine ⟨f, hf, by omega, e, ?_⟩
    unfold frN
    rw [e, if_neg (I_nn (by omega)), I_nat (by omega)]
theorem to_cases {row : Nat → Int32} (hI : INV row) {k : Nat} (hk : k < nM row) : row (8 + 6 * k + 3) = I (toN row k) ∧ toN row k < nP row ∧ toN row k < 4 := by
  have hP := hI.2.1.2.2
  obtain ⟨t, ht, e⟩ := (hI.2.2.1 k hk).2.2.2.1
  unfold toN
  rw [e, I_nat (by omega)]
  exact ⟨rfl, ht, by omega⟩
theorem tie_dec {row : Nat → Int32} (hI : INV row) {k : Nat} (hk : k < nM row) {x : Nat} (hx : x < 16) : tieX (row (8 + 6 * k + 3)) (row (8 + 6 * k + 2)) (I x) = tieM (row (8 + 6 * k + 3)) (row (8 + 6 * k + 2)) (I x) ∧ tieM (row (8 + 6 * k + 3)) (row (8 + 6 * k + 2)) (I x) = I (tieN (toN row k) (frN row k) x) ∧ tieN (toN row k) (frN row k) x < 16 := by
  obtain ⟨t1, t2, t3⟩ := to_cases hI hk
  rcases fr_cases hI hk with ⟨f1, f2⟩ | ⟨f, -, f0, f1, f2⟩
  · rw [t1, f1, f2]; exact tie_decG x hx _ t3
  · rw [t1, f1, f2]; exact tie_decP x hx _ t3 _ f0
theorem tieR_sm {row : Nat → Int32} (hI : INV row) {set is : Int32} (his : ∃ x, x < 16 ∧ is = I x) : ∀ k, k ≤ nM row → ∃ x, x < 16 ∧ tieR row set is k = I x := by
  intro k
  induction k with
  | zero => intro _; exact his
  | succ k ih =>
    intro h
    obtain ⟨x, hx, e⟩ := ih (by omega)
    unfold tieR
    rw [tie1_M, e]
    split
    · have q := tie_dec hI (show k < nM row by omega) hx
      exact ⟨_, q.2.2, q.2.1⟩
    · exact ⟨x, hx, rfl⟩
theorem tieP_sm {row : Nat → Int32} (hI : INV row) {set : Int32} : ∀ q, ∃ x, x < 16 ∧ tieP row set q = I x := by
  intro q
  induction q with
  | zero => exact ⟨0, by decide, rfl⟩
  | succ q ih => exact tieR_sm hI ih (nM row) (Nat.le_refl _)
section XT
variable {u : XS} {a : Nat} {row : Nat → Int32} {hd tx : Nat → Option Nat}
theorem tied_in (h : HV u a row hd tx) (hI : INV row) (set is0 x3 : Int32) (his : ∃ x, x < 16 ∧ is0 = I x) (k4 : Nat → Int32 → Int32 → Int32 → XS → Option (Int32 × XS)) : ∀ (j i : Nat), i + j = nM row → ∀ f, j < f → lX1_tied_12 k4 f a set (tieR row set is0 i) x3 (I i) u = k4 a set (tieR row set is0 (nM row)) (x3 + 1) u := by
  have h8 := hI.1.2
  intro j
  induction j with
  | zero =>
    intro i hi f hf
    obtain ⟨f, rfl⟩ : ∃ g, f = g + 1 := ⟨f - 1, by omega⟩
    have e : i = nM row := by omega
    subst e
    show bX1_tied_12 k4 (lX1_tied_12 k4 f) _ _ _ _ _ _ = _
    unfold bX1_tied_12
    rw [h.i0, bn1_s, if_pos (by rw [hI.1.1, I_le (by omega) (by omega)]; exact Nat.le_refl _), nm_s]
  | succ j ih =>
    intro i hi f hf
    obtain ⟨f, rfl⟩ : ∃ g, f = g + 1 := ⟨f - 1, by omega⟩
    have h9 := ih (i + 1) (by omega) f (by omega)
    obtain ⟨x, hx, ex⟩ := tieR_sm hI (set := set) his i (by omega)
    have q := (tie_dec hI (show i < nM row by omega) hx).1
    have h9 : lX1_tied_12 k4 f a set (tie1 set (row (8 + 6 * i + 3)) (row (8 + 6 * i + 2)) (tieR row set is0 i) i) x3 (I (i + 1)) u = _ := h9
    rw [tie1_M] at h9
    show bX1_tied_12 k4 (lX1_tied_12 k4 f) _ _ _ _ _ _ = _
    unfold bX1_tied_12
    rw [h.i0, bn1_s, if_neg (by rw [hI.1.1, I_le (by omega) (by omega)]; omega)]
    simp only [h.r9, h.r10, bn1_s, h.from (show i < 8 by omega), h.to (show i < 8 by omega), bX1_tied_119, bX1_tied_82, bX1_tied_63, bX1_tied_58, nm_s, I_succ]
    have one0 : ¬ (1 : Int32) = 0 := by decide
    have one0' : ¬ (0 : Int32) = 1 := by decide
    rcases bit01 (set >>> (I i &&& 31)) with hb | hb
    · rw [if_pos hb]
      rw [hb, if_neg one0'] at h9
      exact h9
    · rw [hb, if_neg one0]
      rw [if_pos hb, ex, ← q, ← ex] at h9
      unfold tieX at h9
      generalize tieR row set is0 i = is at h9 ⊢
      generalize row (8 + 6 * i + 3) = t at h9 ⊢
      generalize row (8 + 6 * i + 2) = fr at h9 ⊢
      by_cases h1 : fr < 0 <;> by_cases h2 : ((is >>> (fr &&& 31)) &&& 1) = 1 <;> by_cases h3 : ((is >>> (t &&& 31)) &&& 1) = 1 <;> by_cases h4 : (((is ||| ((1 : Int32) <<< (t &&& 31))) >>> (t &&& 31)) &&& 1) = 1 <;> simp only [h1, h2, h3, h4, one0, if_true, if_false, true_or, or_true, false_or, or_false] at h9 ⊢ <;> exact h9
theorem tied_out (h : HV u a row hd tx) (hI : INV row) (set : Int32) : ∀ (j q : Nat), q + j = 4 → ∀ f, j < f → lX1_tied_4 f a set (tieP row set q) (I q) u = some (tdP row set, u) := by
  intro j
  induction j with
  | zero =>
    intro q hq f hf
    obtain ⟨f, rfl⟩ : ∃ g, f = g + 1 := ⟨f - 1, by omega⟩
    have e : q = 4 := by omega
    subst e
    show bX1_tied_4 (lX1_tied_4 f) _ _ _ _ _ = _
    unfold bX1_tied_4
    rw [if_pos (by decide)]
    rfl
  | succ j ih =>
    intro q hq f hf
    obtain ⟨f, rfl⟩ : ∃ g, f = g + 1 := ⟨f - 1, by omega⟩
    show bX1_tied_4 (lX1_tied_4 f) _ _ _ _ _ = _
    unfold bX1_tied_4
    have e4 : (4 : Int32) = I 4 := rfl
    rw [e4, if_neg (by rw [I_le (by omega) (by omega)]; omega)]
    have h1 := tied_in h hI set (tieP row set q) (I q) (tieP_sm hI q) (lX1_tied_4 f) (nM row) 0 (by omega) FU (by have := hI.1.2; show nM row < 1000; omega)
    refine h1.trans ?_
    rw [I_succ]
    exact ih (q + 1) (by omega) f (by omega)
theorem tied_x (h : HV u a row hd tx) (hI : INV row) (set : Int32) : fX1_tied a set u = some (tdP row set, u) := tied_out h hI set 4 0 (by omega) FU (by decide)
/-! a mark, by its slot -/
def kdN (row : Nat → Int32) (k : Nat) : Nat := (row (8 + 6 * k)).toNatClampNeg
def MK1 (u : XS) (lo : Nat) (row : Nat → Int32) (k : Nat) (ad : Option Nat) : Prop := ∃ m, ad = some m ∧ lo ≤ m ∧ u.1 m = some (aeO (5 + kdN row k) [.int (I k), .int (row (8 + 6 * k + 1))])
def MKv (u : XS) (lo : Nat) (row : Nat → Int32) (hd : Nat → Option Nat) : Prop := ∀ k, k < nM row → MK1 u lo row k (hd k)
theorem kd_ok {row : Nat → Int32} (hI : INV row) {k : Nat} (hk : k < nM row) : row (8 + 6 * k) = I (kdN row k) ∧ kdN row k ≤ 6 := by
  obtain ⟨a, ha, e⟩ := (hI.2.2.1 k hk).1
  unfold kdN
  rw [e, I_nat (by omega)]
  exact ⟨rfl, ha⟩
theorem at_x {lo : Nat} (h : HV u a row hd tx) (hI : INV row) (hM : MKv u lo row hd) {k : Nat} (hk : k < nM row) : ∃ m, fX1_at a (I k) u = some (m, u) ∧ hd k = some m ∧ lo ≤ m ∧ u.1 m = some (aeO (5 + kdN row k) [.int (I k), .int (row (8 + 6 * k + 1))]) := by
  have h8 := hI.1.2
  obtain ⟨m, e1, e2, e3⟩ := hM k hk
  have h6 := (kd_ok hI hk).2
  refine ⟨m, ?_, e1, e2, e3⟩
  unfold fX1_at
  rw [h.r8, bn1_s, h.slot (by omega), bn1_s, h.held (by omega), bn1_s, e1, bn1_s, chk_t (mkB_of e3 (by omega))]
theorem round_x (h : HV u a row hd tx) : fX1_round a u = some (row 0, u) := by
  unfold fX1_round
  rw [h.i2, bn1_s]
theorem told_x (h : HV u a row hd tx) {k : Nat} (hk : k < 8) : fX1_told a (I k) u = some (row (8 + 6 * k + 4), u) := by
  unfold fX1_told
  rw [h.r11, bn1_s, h.told hk, bn1_s]
/-! what a mark weighs and says, by its class -/
theorem kw_x (h : HV u a row hd tx) (hI : INV row) {k m : Nat} (hk : k < nM row) (hm : u.1 m = some (aeO (5 + kdN row k) [.int (I k), .int (row (8 + 6 * k + 1))])) : v_Seen_weight m a u = some (wgtP row k, u) := by
  have h8 := hI.1.2
  obtain ⟨k1, k2⟩ := kd_ok hI hk
  unfold wgtP kwP
  have d : ∀ n, n ≤ 6 → (I n = 1 ↔ n = 1) ∧ (I n = 2 ↔ n = 2) ∧ (I n = 3 ↔ n = 3) ∧ (I n = 4 ↔ n = 4) ∧ (I n = 5 ↔ n = 5) ∧ (I n = 6 ↔ n = 6) := by decide
  obtain ⟨d1, d2, d3, d4, d5, d6⟩ := d _ k2
  rw [k1]
  simp only [d1, d2, d3, d4, d5, d6]
  have g0 : gIM u m 0 = some (I k) := gIM_of hm (by omega) rfl
  have g1 : gIM u m 1 = some (row (8 + 6 * k + 1)) := gIM_of hm (by omega) rfl
  have gm : mkB u m = true := mkB_of hm (by omega)
  have w7 : fX7_weight m a u = some (starP (tcP row k), u) := by
    unfold fX7_weight bX7_weight_25 fX5_weight starP
    rw [g0, bn1_s, chk_t h.isH, touch_x h hI (by omega), bnd_s]
    by_cases c : tcP row k ≤ 3
    · rw [if_pos c, if_pos c, chk_t gm]; rfl
    · rw [if_neg c, if_neg c]
  unfold v_Seen_weight
  have hc : kdN row k = 0 ∨ kdN row k = 1 ∨ kdN row k = 2 ∨ kdN row k = 3 ∨ kdN row k = 4 ∨ kdN row k = 5 ∨ kdN row k = 6 := by omega
  rcases hc with c | c | c | c | c | c | c <;> rw [c] at hm
  · rw [if_pos (isC_of hm)]; simp [c, fX5_weight]
  · rw [if_neg (isC_no hm (by decide)), if_pos (isC_of hm)]; simp [c, fX6_weight, fX5_weight, chk_t gm, bnd_s]
  · rw [if_neg (isC_no hm (by decide)), if_neg (isC_no hm (by decide)), if_pos (isC_of hm), w7]; simp [c]
  · rw [if_neg (isC_no hm (by decide)), if_neg (isC_no hm (by decide)), if_neg (isC_no hm (by decide)), if_pos (isC_of hm)]
    unfold fX8_weight bX8_weight_17 fX5_weight
    rw [g1, bn1_s]
    simp only [c]
    by_cases q : row (8 + 6 * k + 1) ≤ 4
    · simp [q, chk_t gm, bnd_s]
    · simp [q]
  · rw [if_neg (isC_no hm (by decide)), if_neg (isC_no hm (by decide)), if_neg (isC_no hm (by decide)), if_neg (isC_no hm (by decide)), if_pos (isC_of hm)]
    unfold fX9_weight bX9_weight_20 fX6_weight fX5_weight
    rw [chk_t h.isH, round_x h, bnd_s]
    simp only [c]
    by_cases q : row 0 - row 0 / 2 * 2 = 0
    · simp [q, chk_t gm, bnd_s]
    · simp [q]
  · rw [if_neg (isC_no hm (by decide)), if_neg (isC_no hm (by decide)), if_neg (isC_no hm (by decide)), if_neg (isC_no hm (by decide)), if_neg (isC_no hm (by decide)), if_pos (isC_of hm)]
    unfold fX10_weight
    rw [chk_t gm, w7, bnd_s]
    simp [c]
  · rw [if_neg (isC_no hm (by decide)), if_neg (isC_no hm (by decide)), if_neg (isC_no hm (by decide)), if_neg (isC_no hm (by decide)), if_neg (isC_no hm (by decide)), if_neg (isC_no hm (by decide)), if_pos (isC_of hm)]
    unfold fX11_weight fX5_weight
    rw [chk_t gm, bnd_s]
    simp [c]
theorem max0 (v : Int32) : (if (0 : Int32) < v then v else 0) = (if 0 ≤ v then v else 0) := by
  by_cases h : (0 : Int32) < v
  · have h' : (0 : Int32) ≤ v := by rw [Int32.lt_iff_toInt_lt] at h; rw [Int32.le_iff_toInt_le]; omega
    rw [if_pos h, if_pos h']
  · rw [if_neg h]
    split
    · next q =>
      rw [Int32.lt_iff_toInt_lt] at h
      rw [Int32.le_iff_toInt_le] at q
      exact Int32.toInt_inj.mp (by omega)
    · rfl
theorem kr_x (h : HV u a row hd tx) (hI : INV row) {k m : Nat} (hk : k < nM row) (hm : u.1 m = some (aeO (5 + kdN row k) [.int (I k), .int (row (8 + 6 * k + 1))])) : v_Seen_value m a u = some (redP row k, u) := by
  have h8 := hI.1.2
  obtain ⟨k1, k2⟩ := kd_ok hI hk
  obtain ⟨-, ⟨mm, hmm, em⟩, -⟩ := hI.2.2.1 k hk
  unfold redP krP
  have d : ∀ n, n ≤ 6 → (I n = 1 ↔ n = 1) ∧ (I n = 2 ↔ n = 2) ∧ (I n = 3 ↔ n = 3) ∧ (I n = 4 ↔ n = 4) ∧ (I n = 5 ↔ n = 5) ∧ (I n = 6 ↔ n = 6) := by decide
  obtain ⟨d1, d2, d3, d4, d5, d6⟩ := d _ k2
  rw [k1]
  simp only [d1, d2, d3, d4, d5, d6]
  have g0 : gIM u m 0 = some (I k) := gIM_of hm (by omega) rfl
  have g1 : gIM u m 1 = some (row (8 + 6 * k + 1)) := gIM_of hm (by omega) rfl
  have gm : mkB u m = true := mkB_of hm (by omega)
  have w5 : fX5_value m a u = some (row (8 + 6 * k + 4), u) := by
    unfold fX5_value
    rw [g0, bn1_s, chk_t h.isH, told_x h (by omega), bnd_s]
  unfold v_Seen_value
  have hc : kdN row k = 0 ∨ kdN row k = 1 ∨ kdN row k = 2 ∨ kdN row k = 3 ∨ kdN row k = 4 ∨ kdN row k = 5 ∨ kdN row k = 6 := by omega
  rcases hc with c | c | c | c | c | c | c <;> rw [c] at hm
  · rw [if_pos (isC_of hm), w5]; simp [c]
  · rw [if_neg (isC_no hm (by decide)), if_pos (isC_of hm), w5]; simp [c]
  · rw [if_neg (isC_no hm (by decide)), if_neg (isC_no hm (by decide)), if_pos (isC_of hm), w5]; simp [c]
  · rw [if_neg (isC_no hm (by decide)), if_neg (isC_no hm (by decide)), if_neg (isC_no hm (by decide)), if_pos (isC_of hm)]
    unfold fX8_value
    rw [chk_t gm, w5, bnd_s, g1, bn1_s]
    simp [c]
  · rw [if_neg (isC_no hm (by decide)), if_neg (isC_no hm (by decide)), if_neg (isC_no hm (by decide)), if_neg (isC_no hm (by decide)), if_pos (isC_of hm)]
    unfold fX9_value
    rw [chk_t gm, w5, bnd_s, chk_t h.isH, round_x h, bnd_s, g1, bn1_s, chk_t (ne0_t (by rw [em]; exact I_succ_ne0 hmm))]
    simp [c]
  · rw [if_neg (isC_no hm (by decide)), if_neg (isC_no hm (by decide)), if_neg (isC_no hm (by decide)), if_neg (isC_no hm (by decide)), if_neg (isC_no hm (by decide)), if_pos (isC_of hm)]
    unfold fX10_value
    rw [chk_t gm, w5, bnd_s]
    simp [c, Int32.mul_comm]
  · rw [if_neg (isC_no hm (by decide)), if_neg (isC_no hm (by decide)), if_neg (isC_no hm (by decide)), if_neg (isC_no hm (by decide)), if_neg (isC_no hm (by decide)), if_neg (isC_no hm (by decide)), if_pos (isC_of hm)]
    unfold fX11_value
    rw [chk_t gm, w5, bnd_s, g1, bn1_s, max0]
    simp [c]
end XT
