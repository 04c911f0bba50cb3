/-! PictureBlock's OBJECTS as they lie: reading -/
theorem gV_of {u : XS} {a ci k : Nat} {fs : List Value} {v : Value} (h : u.1 a = some (aeO ci fs)) (hk : fs[k]? = some v) : gV u a ci k = some v := by
  unfold gV
  rw [xObj_of h]
  simp only [if_pos]
  exact hk
theorem gI_of {u : XS} {a ci k : Nat} {fs : List Value} {v : Int32} (h : u.1 a = some (aeO ci fs)) (hk : fs[k]? = some (.int v)) : gI u a ci k = some v := by
  unfold gI; rw [gV_of h hk]
theorem gL_of {u : XS} {a ci k : Nat} {fs : List Value} {v : Int64} (h : u.1 a = some (aeO ci fs)) (hk : fs[k]? = some (.long v)) : gL u a ci k = some v := by
  unfold gL; rw [gV_of h hk]
theorem gR_of {u : XS} {a ci k v : Nat} {fs : List Value} (h : u.1 a = some (aeO ci fs)) (hk : fs[k]? = some (.ref v)) : gR u a ci k = some v := by
  unfold gR; rw [gV_of h hk]
theorem gQ_of {u : XS} {a ci k : Nat} {fs : List Value} {v : Option Nat} (h : u.1 a = some (aeO ci fs)) (hk : fs[k]? = some (va_rf v)) : gQ u a ci k = some v := by
  unfold gQ; rw [gV_of h hk]; cases v <;> rfl
theorem isC_of {u : XS} {a ci : Nat} {fs : List Value} (h : u.1 a = some (aeO ci fs)) : isC u a ci = true := by
  unfold isC; rw [xObj_of h]; exact decide_eq_true rfl
theorem isC_no {u : XS} {a ci cj : Nat} {fs : List Value} (h : u.1 a = some (aeO ci fs)) (hne : ci ≠ cj) : ¬ isC u a cj = true := by
  unfold isC; rw [xObj_of h]; simpa using hne
theorem xArr_of {u : XS} {a t n : Nat} {f : Nat → Int32} (h : u.1 a = some (aeI t n f)) : xArr u a t = some (n, f) := by
  unfold xArr; rw [h]; exact if_pos rfl
theorem aI_of {u : XS} {a t n : Nat} {f : Nat → Int32} (h : u.1 a = some (aeI t n f)) {k : Nat} (hk : k < n) (hn : n < 2 ^ 31) : aI u a t (I k) = some (f k) := by
  unfold aI
  rw [xArr_of h]
  show (if inB (I k) n = true then some (f (I k).toNatClampNeg) else none) = _
  rw [if_pos (inB_I hk hn), I_nat (by omega)]
theorem sI_of {u : XS} {a t n : Nat} {f : Nat → Int32} (h : u.1 a = some (aeI t n f)) {k : Nat} (hk : k < n) (hn : n < 2 ^ 31) (x : Int32) : sI u a t (I k) x = some (xset u a (aeI t n (upd f k (nar t x)))) := by
  unfold sI
  rw [xArr_of h]
  show (if inB (I k) n = true then some (xset u a (aeI t n (upd f (I k).toNatClampNeg (nar t x)))) else none) = _
  rw [if_pos (inB_I hk hn), I_nat (by omega)]
theorem aL_of {u : XS} {a n : Nat} {f : Nat → Int64} (h : u.1 a = some (aeL n f)) {k : Nat} (hk : k < n) (hn : n < 2 ^ 31) : aL u a (I k) = some (f k) := by
  unfold aL xArrL
  rw [h]
  show (if inB (I k) n = true then some (f (I k).toNatClampNeg) else none) = _
  rw [if_pos (inB_I hk hn), I_nat (by omega)]
theorem sL_of {u : XS} {a n : Nat} {f : Nat → Int64} (h : u.1 a = some (aeL n f)) {k : Nat} (hk : k < n) (hn : n < 2 ^ 31) (x : Int64) : sL u a (I k) x = some (xset u a (aeL n (vp_updL f k x))) := by
  unfold sL xArrL
  rw [h]
  show (if inB (I k) n = true then some (xset u a (aeL n (vp_updL f (I k).toNatClampNeg x))) else none) = _
  rw [if_pos (inB_I hk hn), I_nat (by omega)]
theorem xArrQ_of {u : XS} {a t n : Nat} {f : Nat → Option Nat} (h : u.1 a = some (aeQ t n f)) : xArrQ u a t = some (n, f) := by
  unfold xArrQ; rw [h]; exact if_pos rfl
theorem aQ_of {u : XS} {a t n : Nat} {f : Nat → Option Nat} (h : u.1 a = some (aeQ t n f)) {k : Nat} (hk : k < n) (hn : n < 2 ^ 31) : aQ u a t (I k) = some (f k) := by
  unfold aQ
  rw [xArrQ_of h]
  show (if inB (I k) n = true then some (f (I k).toNatClampNeg) else none) = _
  rw [if_pos (inB_I hk hn), I_nat (by omega)]
theorem aR_of {u : XS} {a t n b : Nat} {f : Nat → Option Nat} (h : u.1 a = some (aeQ t n f)) {k : Nat} (hk : k < n) (hn : n < 2 ^ 31) (hb : f k = some b) : aR u a t (I k) = some b := by
  unfold aR; rw [aQ_of h hk hn, hb]
theorem sQ_of {u : XS} {a t n : Nat} {f : Nat → Option Nat} (h : u.1 a = some (aeQ t n f)) {k : Nat} (hk : k < n) (hn : n < 2 ^ 31) (x : Option Nat) : sQ u a t (I k) x = some (xset u a (aeQ t n (va_up f k x))) := by
  unfold sQ
  rw [xArrQ_of h]
  show (if inB (I k) n = true then some (xset u a (aeQ t n (va_up f (I k).toNatClampNeg x))) else none) = _
  rw [if_pos (inB_I hk hn), I_nat (by omega)]
theorem gIM_of {u : XS} {a ci k : Nat} {fs : List Value} {v : Int32} (h : u.1 a = some (aeO ci fs)) (h5 : 5 ≤ ci ∧ ci ≤ 11) (hk : fs[k]? = some (.int v)) : gIM u a k = some v := by
  unfold gIM
  rw [xObj_of h]
  simp only [if_pos h5, hk]
theorem mkB_of {u : XS} {a ci : Nat} {fs : List Value} (h : u.1 a = some (aeO ci fs)) (h5 : 5 ≤ ci ∧ ci ≤ 11) : mkB u a = true := by
  unfold mkB
  rw [xObj_of h]
  simp [h5]
theorem nlc_n' {γ : Type} (A : Option γ) (B : Nat → Option γ) : nlc none A B = A := rfl
theorem nlc_s' {γ : Type} (r : Nat) (A : Option γ) (B : Nat → Option γ) : nlc (some r) A B = B r := rfl
/-! a house at a -/
def col (row : Nat → Int32) (w : Nat) : Nat → Int32 := fun k => if k < 8 then row (8 + 6 * k + w) else 0
def tpF (row : Nat → Int32) : Nat → Int32 := fun k => if k < 60 then (row (56 + k)).toInt8.toInt32 else 0
def wtF (row : Nat → Int32) : Nat → Int32 := fun k => if k < 24 then row (116 + k) else 0
def slF (a n : Nat) : Nat → Option Nat := fun k => if k < n then some (a + k) else none
def hoF (row : Nat → Int32) (a : Nat) : List Value := [.int (row 2), .int (row 3), .int (row 0), .int (row 4), .int (row 5), .int (row 1), .int (row 6), .int (row 7), .ref (a + 1), .ref (a + 2), .ref (a + 3), .ref (a + 4), .ref (a + 5), .ref (a + 6), .ref (a + 7), .ref (a + 8)]
def HV (u : XS) (a : Nat) (row : Nat → Int32) (hd tx : Nat → Option Nat) : Prop :=
  u.1 a = some (aeO 1 (hoF row a)) ∧ u.1 (a + 1) = some (aeQ 4 8 (slF (a + 9) 8)) ∧ u.1 (a + 2) = some (aeI 0 8 (col row 2)) ∧ u.1 (a + 3) = some (aeI 0 8 (col row 3)) ∧ u.1 (a + 4) = some (aeI 0 8 (col row 4)) ∧ u.1 (a + 5) = some (aeI 0 8 (col row 5)) ∧
  u.1 (a + 6) = some (aeQ 5 2 tx) ∧ u.1 (a + 7) = some (aeI 1 60 (tpF row)) ∧ u.1 (a + 8) = some (aeI 0 24 (wtF row)) ∧ ∀ k, k < 8 → u.1 (a + 9 + k) = some (aeO 2 [va_rf (hd k)])
theorem col_at {row : Nat → Int32} {w k : Nat} (h : k < 8) : col row w k = row (8 + 6 * k + w) := if_pos h
section HVr
variable {u : XS} {a : Nat} {row : Nat → Int32} {hd tx : Nat → Option Nat}
theorem HV.i0 (h : HV u a row hd tx) : gI u a 1 0 = some (row 2) := gI_of h.1 rfl
theorem HV.i1 (h : HV u a row hd tx) : gI u a 1 1 = some (row 3) := gI_of h.1 rfl
theorem HV.i2 (h : HV u a row hd tx) : gI u a 1 2 = some (row 0) := gI_of h.1 rfl
theorem HV.i3 (h : HV u a row hd tx) : gI u a 1 3 = some (row 4) := gI_of h.1 rfl
theorem HV.i4 (h : HV u a row hd tx) : gI u a 1 4 = some (row 5) := gI_of h.1 rfl
theorem HV.i5 (h : HV u a row hd tx) : gI u a 1 5 = some (row 1) := gI_of h.1 rfl
theorem HV.i6 (h : HV u a row hd tx) : gI u a 1 6 = some (row 6) := gI_of h.1 rfl
theorem HV.i7 (h : HV u a row hd tx) : gI u a 1 7 = some (row 7) := gI_of h.1 rfl
theorem HV.r8 (h : HV u a row hd tx) : gR u a 1 8 = some (a + 1) := gR_of h.1 rfl
theorem HV.r9 (h : HV u a row hd tx) : gR u a 1 9 = some (a + 2) := gR_of h.1 rfl
theorem HV.r10 (h : HV u a row hd tx) : gR u a 1 10 = some (a + 3) := gR_of h.1 rfl
theorem HV.r11 (h : HV u a row hd tx) : gR u a 1 11 = some (a + 4) := gR_of h.1 rfl
theorem HV.r12 (h : HV u a row hd tx) : gR u a 1 12 = some (a + 5) := gR_of h.1 rfl
theorem HV.r13 (h : HV u a row hd tx) : gR u a 1 13 = some (a + 6) := gR_of h.1 rfl
theorem HV.r14 (h : HV u a row hd tx) : gR u a 1 14 = some (a + 7) := gR_of h.1 rfl
theorem HV.r15 (h : HV u a row hd tx) : gR u a 1 15 = some (a + 8) := gR_of h.1 rfl
theorem HV.isH (h : HV u a row hd tx) : isC u a 1 = true := isC_of h.1
theorem HV.from (h : HV u a row hd tx) {k : Nat} (hk : k < 8) : aI u (a + 2) 0 (I k) = some (row (8 + 6 * k + 2)) := by rw [aI_of h.2.2.1 hk (by decide), col_at hk]
theorem HV.to (h : HV u a row hd tx) {k : Nat} (hk : k < 8) : aI u (a + 3) 0 (I k) = some (row (8 + 6 * k + 3)) := by rw [aI_of h.2.2.2.1 hk (by decide), col_at hk]
theorem HV.told (h : HV u a row hd tx) {k : Nat} (hk : k < 8) : aI u (a + 4) 0 (I k) = some (row (8 + 6 * k + 4)) := by rw [aI_of h.2.2.2.2.1 hk (by decide), col_at hk]
theorem HV.on (h : HV u a row hd tx) {k : Nat} (hk : k < 8) : aI u (a + 5) 0 (I k) = some (row (8 + 6 * k + 5)) := by rw [aI_of h.2.2.2.2.2.1 hk (by decide), col_at hk]
theorem HV.slot (h : HV u a row hd tx) {k : Nat} (hk : k < 8) : aR u (a + 1) 4 (I k) = some (a + 9 + k) := aR_of h.2.1 hk (by decide) (if_pos hk)
theorem HV.held (h : HV u a row hd tx) {k : Nat} (hk : k < 8) : gQ u (a + 9 + k) 2 0 = some (hd k) := gQ_of (h.2.2.2.2.2.2.2.2.2 k hk) rfl
/-! which are on, how many touch -/
theorem used_loop (h : HV u a row hd tx) {N : Nat} (hN : row 2 = I N) (hN8 : N ≤ 8) : ∀ (j i : Nat), i + j = N → ∀ f, j < f → lX1_used_4 f a (usP row i) (I i) u = some (usP row N, u) := by
  intro j
  induction j with
  | zero =>
    intro i hi f hf
    obtain ⟨f, rfl⟩ : ∃ g, f = g + 1 := ⟨f - 1, by omega⟩
    have e : i = N := by omega
    subst e
    show bX1_used_4 (lX1_used_4 f) _ _ _ _ = _
    unfold bX1_used_4
    rw [h.i0, bn1_s, if_pos (by rw [hN, I_le (by omega) (by omega)]; omega)]
  | succ j ih =>
    intro i hi f hf
    obtain ⟨f, rfl⟩ : ∃ g, f = g + 1 := ⟨f - 1, by omega⟩
    show bX1_used_4 (lX1_used_4 f) _ _ _ _ = _
    unfold bX1_used_4
    rw [h.i0, bn1_s, if_neg (by rw [hN, I_le (by omega) (by omega)]; omega), h.r12, bn1_s, h.on (by omega), bn1_s, nm_s, nm_s, I_succ]
    exact ih (i + 1) (by omega) f (by omega)
theorem used_x (h : HV u a row hd tx) (hI : INV row) : fX1_used a u = some (onP row, u) :=
  used_loop h hI.1.1 hI.1.2 (nM row) 0 (by omega) FU (by have := hI.1.2; show nM row < 1000; omega)
theorem touch_loop (h : HV u a row hd tx) {N k : Nat} (hN : row 2 = I N) (hN8 : N ≤ 8) (hk : k < 8) : ∀ (j i : Nat), i + j = N → ∀ f, j < f → lX1_marks_4 f a (I k) (tchP row k i) (I i) u = some (tchP row k N, u) := by
  intro j
  induction j with
  | zero =>
    intro i hi f hf
    obtain ⟨f, rfl⟩ : ∃ g, f = g + 1 := ⟨f - 1, by omega⟩
    have e : i = N := by omega
    subst e
    show bX1_marks_4 (lX1_marks_4 f) _ _ _ _ _ = _
    unfold bX1_marks_4
    rw [h.i0, bn1_s, if_pos (by rw [hN, I_le (by omega) (by omega)]; omega)]
  | succ j ih =>
    intro i hi f hf
    obtain ⟨f, rfl⟩ : ∃ g, f = g + 1 := ⟨f - 1, by omega⟩
    have h9 := ih (i + 1) (by omega) f (by omega)
    show bX1_marks_4 (lX1_marks_4 f) _ _ _ _ _ = _
    unfold bX1_marks_4 bX1_marks_53 bX1_marks_57 bX1_marks_58
    rw [h.i0, bn1_s, if_neg (by rw [hN, I_le (by omega) (by omega)]; omega)]
    simp only [h.r12, h.r10, h.r9, bn1_s, h.on (show i < 8 by omega), h.to (show i < 8 by omega), h.to hk, h.from (show i < 8 by omega), nm_s, I_succ]
    simp only [tchP] at h9
    by_cases h1 : row (8 + 6 * i + 2) = row (8 + 6 * k + 3) <;> by_cases h2 : row (8 + 6 * i + 3) = row (8 + 6 * k + 3) <;> by_cases h3 : row (8 + 6 * i + 5) = 1 <;> simp [h1, h2, h3] at h9 ⊢ <;> exact h9
theorem touch_x (h : HV u a row hd tx) (hI : INV row) {k : Nat} (hk : k < 8) : fX1_marks a (I k) u = some (tcP row k, u) :=
  touch_loop h hI.1.1 hI.1.2 hk (nM row) 0 (by omega) FU (by have := hI.1.2; show nM row < 1000; omega)
end HVr
