/-! a block that is held: its determinant is positive -/
def crs (T t : Nat) (f : Option Nat) : Bool := match f with
  | none => T.testBit t
  | some f => T.testBit t != T.testBit f
set_option maxRecDepth 40000 in
theorem cut_G : ∀ x, x < 16 → ∀ T, T < 16 → ∀ t, t < 4 → x &&& T = 0 → crs T t none = false → tieN t none x &&& T = 0 := by decide
set_option maxRecDepth 40000 in
theorem cut_P (t : Nat) (ht : t < 4) (f : Nat) (hf : f < 4) : ∀ x, x < 16 → ∀ T, T < 16 → x &&& T = 0 → crs T t (some f) = false → tieN t (some f) x &&& T = 0 := by
  have h1 : t = 0 ∨ t = 1 ∨ t = 2 ∨ t = 3 := by omega
  have h2 : f = 0 ∨ f = 1 ∨ f = 2 ∨ f = 3 := by omega
  rcases h1 with rfl | rfl | rfl | rfl <;> rcases h2 with rfl | rfl | rfl | rfl <;> decide
theorem cut_all : ∀ n, n ≤ 4 → ∀ T, T < 2 ^ n → (2 ^ n - 1) &&& T = 0 → T = 0 := by decide
theorem allP_I : ∀ n, n ≤ 4 → ((1 : Int32) <<< (I n &&& 31)) - 1 = I (2 ^ n - 1) := by decide
theorem cut {row : Nat → Int32} (hI : INV row) {set : Int32} (hh : tdP row set = allP row) {T : Nat} (hT : T < 2 ^ nP row) (hT0 : T ≠ 0) : ∃ k, k < nM row ∧ ((set >>> (I k &&& 31)) &&& 1) = 1 ∧ crs T (toN row k) (frN row k) = true := by
  have hP4 := hI.2.1.2.2
  have hT16 : T < 16 := by
    have : 2 ^ nP row ≤ 2 ^ 4 := Nat.pow_le_pow_right (by decide) hP4
    omega
  refine Classical.byContradiction (fun hno => ?_)
  have hno : ∀ k, k < nM row → ((set >>> (I k &&& 31)) &&& 1) = 1 → crs T (toN row k) (frN row k) = false := by
    intro k hk hs
    cases h : crs T (toN row k) (frN row k)
    · rfl
    · exact absurd ⟨k, hk, hs, h⟩ hno
  have stR : ∀ is x, x < 16 → is = I x → x &&& T = 0 → ∀ k, k ≤ nM row → ∃ y, y < 16 ∧ tieR row set is k = I y ∧ y &&& T = 0 := by
    intro is x hx e hxT k
    induction k with
    | zero => intro _; exact ⟨x, hx, e, hxT⟩
    | succ k ih =>
      intro hk
      obtain ⟨y, h1, h2, h3⟩ := ih (by omega)
      have e1 : tieR row set is (k + 1) = tie1 set (row (8 + 6 * k + 3)) (row (8 + 6 * k + 2)) (tieR row set is k) k := rfl
      rw [e1, tie1_M, h2]
      by_cases c : ((set >>> (I k &&& 31)) &&& 1) = 1
      · rw [if_pos c]
        obtain ⟨-, d2, d3⟩ := tie_dec hI (show k < nM row by omega) h1
        refine ⟨_, d3, d2, ?_⟩
        have hc := hno k (by omega) c
        have ht4 := (to_cases hI (show k < nM row by omega)).2.2
        rcases fr_cases hI (show k < nM row by omega) with ⟨-, f2⟩ | ⟨f, -, f0, -, f2⟩
        · rw [f2] at hc ⊢
          exact cut_G y h1 T hT16 _ ht4 h3 hc
        · rw [f2] at hc ⊢
          exact cut_P _ ht4 f f0 y h1 T hT16 h3 hc
      · rw [if_neg c]
        exact ⟨y, h1, rfl, h3⟩
  have stP : ∀ q, ∃ y, y < 16 ∧ tieP row set q = I y ∧ y &&& T = 0 := by
    intro q
    induction q with
    | zero => exact ⟨0, by decide, rfl, Nat.zero_and _⟩
    | succ q ih =>
      obtain ⟨y, h1, h2, h3⟩ := ih
      exact stR _ y h1 h2 h3 (nM row) (Nat.le_refl _)
  obtain ⟨y, h1, h2, h3⟩ := stP 4
  have e : I y = I (2 ^ nP row - 1) := by
    rw [← h2, ← allP_I _ hP4]
    have := hh
    unfold tdP allP at this
    rw [this, hI.2.1.1]
  have p16 : 2 ^ nP row ≤ 2 ^ 4 := Nat.pow_le_pow_right (by decide) hP4
  have e2 := (I_inj (by omega) (by omega)).mp e
  rw [e2] at h3
  exact hT0 (cut_all _ hP4 T hT h3)
/-! sums over a set of pictures -/
def ind (T i : Nat) : Int := if T.testBit i = true then 1 else 0
def sv (row : Nat → Int32) (T k : Nat) : Int := ind T 0 * vI row k 0 + ind T 1 * vI row k 1 + ind T 2 * vI row k 2 + ind T 3 * vI row k 3
def qr (a : Nat → Nat → Int) (T i : Nat) : Int := ind T 0 * a i 0 + ind T 1 * a i 1 + ind T 2 * a i 2 + ind T 3 * a i 3
def qf (a : Nat → Nat → Int) (T : Nat) : Int := ind T 0 * qr a T 0 + ind T 1 * qr a T 1 + ind T 2 * qr a T 2 + ind T 3 * qr a T 3
theorem qf_step (row : Nat → Int32) (T k : Nat) : qf (nrm row (k + 1)) T = qf (nrm row k) T + (if row (8 + 6 * k + 5) = 1 then (wP row k).toInt * (sv row T k * sv row T k) else 0) := by
  unfold qf qr sv
  simp only [nrm]
  by_cases c : row (8 + 6 * k + 5) = 1
  · simp only [if_pos c]
    grind
  · simp only [if_neg c]
    grind
theorem sq_nn (x : Int) : 0 ≤ x * x := by
  rcases Int.le_total 0 x with h | h
  · exact Int.mul_nonneg h h
  · exact Int.mul_nonneg_of_nonpos_of_nonpos h h
theorem qf_nn (row : Nat → Int32) (T : Nat) : ∀ k, 0 ≤ qf (nrm row k) T := by
  intro k
  induction k with
  | zero => simp [qf, qr, nrm]
  | succ k ih =>
    rw [qf_step]
    have h1 := wP_b row k
    have h2 := Int.mul_nonneg (show 0 ≤ (wP row k).toInt by omega) (sq_nn (sv row T k))
    split
    · omega
    · omega
theorem qf_pos (row : Nat → Int32) (T : Nat) {j : Nat} (hon : row (8 + 6 * j + 5) = 1) (hsv : sv row T j ≠ 0) : ∀ k, j < k → 0 < qf (nrm row k) T := by
  intro k
  induction k with
  | zero => intro h; omega
  | succ k ih =>
    intro h
    rw [qf_step]
    have h1 := wP_b row k
    have h2 := Int.mul_nonneg (show 0 ≤ (wP row k).toInt by omega) (sq_nn (sv row T k))
    by_cases c : j = k
    · subst c
      rw [if_pos hon]
      have h3 := qf_nn row T j
      have h4 : 0 < sv row T j * sv row T j := by
        have := sq_nn (sv row T j)
        have h5 : sv row T j * sv row T j ≠ 0 := Int.mul_ne_zero hsv hsv
        omega
      have h6 := Int.mul_pos (show 0 < (wP row j).toInt by omega) h4
      omega
    · have h3 := ih (by omega)
      split
      · omega
      · omega
theorem sv_crs {row : Nat → Int32} (hI : INV row) {T k : Nat} (hk : k < nM row) (hc : crs T (toN row k) (frN row k) = true) : sv row T k ≠ 0 := by
  obtain ⟨t1, -, t3⟩ := to_cases hI hk
  have hv : ∀ i, i < 4 → vI row k i = (if i = toN row k then 1 else 0) - (match frN row k with
    | none => 0
    | some f => if i = f then 1 else 0) := by
    intro i hi
    rcases fr_cases hI hk with ⟨f1, f2⟩ | ⟨f, -, f0, f1, f2⟩
    · rw [f2, vI_g t1 t3 f1 hi]; simp
    · rw [f2, vI_p t1 t3 f1 f0 hi]
  unfold sv
  rw [hv 0 (by decide), hv 1 (by decide), hv 2 (by decide), hv 3 (by decide)]
  generalize toN row k = t at hc t3
  have ht : t = 0 ∨ t = 1 ∨ t = 2 ∨ t = 3 := by omega
  rcases fr_cases hI hk with ⟨-, f2⟩ | ⟨f, -, f0, -, f2⟩
  · rw [f2] at hc ⊢
    unfold crs at hc
    unfold ind
    rcases ht with rfl | rfl | rfl | rfl <;> simp at hc ⊢ <;> simp [hc]
  · rw [f2] at hc ⊢
    unfold crs at hc
    unfold ind
    have hf : f = 0 ∨ f = 1 ∨ f = 2 ∨ f = 3 := by omega
    rcases ht with rfl | rfl | rfl | rfl <;> rcases hf with rfl | rfl | rfl | rfl <;> cases h0 : T.testBit 0 <;> cases h1 : T.testBit 1 <;> cases h2 : T.testBit 2 <;> cases h3 : T.testBit 3 <;> simp [h0, h1, h2, h3] at hc ⊢
theorem cut_pos {row : Nat → Int32} (hI : INV row) (hh : heldQ row) {T : Nat} (hT : T < 2 ^ nP row) (hT0 : T ≠ 0) : 0 < qf (nwI row) T := by
  obtain ⟨k, hk, hs, hc⟩ := cut hI hh hT hT0
  exact qf_pos row T ((on_bit hI hk).mp hs) (sv_crs hI hk hc) (nM row) hk
theorem nrm_sym (row : Nat → Int32) (i j : Nat) : ∀ k, nrm row k i j = nrm row k j i := by
  intro k
  induction k with
  | zero => rfl
  | succ k ih =>
    unfold nrm
    rw [ih, Int.mul_comm (vI row k i)]
theorem vv_gen {p q r s : Prop} [Decidable p] [Decidable q] [Decidable r] [Decidable s] (n1 : ¬ (p ∧ q)) (n2 : ¬ (r ∧ s)) : ((if p then (1 : Int) else 0) - (if r then 1 else 0)) * ((if q then 1 else 0) - (if s then 1 else 0)) ≤ 0 := by
  by_cases a : p <;> by_cases b : q <;> by_cases c : r <;> by_cases d : s <;> simp only [a, b, c, d, if_true, if_false] <;> first | decide | exact (n1 ⟨by assumption, by assumption⟩).elim | exact (n2 ⟨by assumption, by assumption⟩).elim
theorem vv_np (row : Nat → Int32) (k : Nat) {i j : Nat} (hi : i < 2 ^ 31) (hj : j < 2 ^ 31) (hij : i ≠ j) : vI row k i * vI row k j ≤ 0 :=
  vv_gen (fun h => hij ((I_inj hi hj).mp (h.1.symm.trans h.2))) (fun h => hij ((I_inj hi hj).mp (h.1.symm.trans h.2)))
theorem nrm_np (row : Nat → Int32) {i j : Nat} (hi : i < 2 ^ 31) (hj : j < 2 ^ 31) (hij : i ≠ j) : ∀ k, nrm row k i j ≤ 0 := by
  intro k
  induction k with
  | zero => exact Int.le_refl _
  | succ k ih =>
    unfold nrm
    have h1 := wP_b row k
    have h2 := vv_np row k hi hj hij
    have h3 := Int.mul_nonpos_of_nonneg_of_nonpos (show 0 ≤ (wP row k).toInt by omega) h2
    split
    · omega
    · omega
theorem row_nn {row : Nat → Int32} (hI : INV row) {i : Nat} (hi : i < 4) : ∀ k, k ≤ nM row → 0 ≤ nrm row k i 0 + nrm row k i 1 + nrm row k i 2 + nrm row k i 3 := by
  intro k
  induction k with
  | zero => intro _; exact Int.le_refl _
  | succ k ih =>
    intro hk
    have h0 := ih (by omega)
    simp only [nrm]
    have h1 := wP_b row k
    obtain ⟨t1, -, t3⟩ := to_cases hI (show k < nM row by omega)
    have hs : 0 ≤ vI row k i * (vI row k 0 + vI row k 1 + vI row k 2 + vI row k 3) := by
      rcases fr_cases hI (show k < nM row by omega) with ⟨f1, f2⟩ | ⟨f, -, f0, f1, f2⟩
      · have e : vI row k 0 + vI row k 1 + vI row k 2 + vI row k 3 = 1 := by
          rw [vI_g t1 t3 f1 (by decide), vI_g t1 t3 f1 (by decide), vI_g t1 t3 f1 (by decide), vI_g t1 t3 f1 (by decide)]
          generalize toN row k = t at t3
          have ht : t = 0 ∨ t = 1 ∨ t = 2 ∨ t = 3 := by omega
          rcases ht with rfl | rfl | rfl | rfl <;> decide
        rw [e, Int.mul_one, vI_g t1 t3 f1 hi]
        split <;> decide
      · have e : vI row k 0 + vI row k 1 + vI row k 2 + vI row k 3 = 0 := by
          rw [vI_p t1 t3 f1 f0 (by decide), vI_p t1 t3 f1 f0 (by decide), vI_p t1 t3 f1 f0 (by decide), vI_p t1 t3 f1 f0 (by decide)]
          generalize toN row k = t at t3
          have ht : t = 0 ∨ t = 1 ∨ t = 2 ∨ t = 3 := by omega
          have hf : f = 0 ∨ f = 1 ∨ f = 2 ∨ f = 3 := by omega
          rcases ht with rfl | rfl | rfl | rfl <;> rcases hf with rfl | rfl | rfl | rfl <;> decide
        rw [e, Int.mul_zero]
        exact Int.le_refl _
    have h3 := Int.mul_nonneg (show 0 ≤ (wP row k).toInt by omega) hs
    by_cases c : row (8 + 6 * k + 5) = 1
    · simp only [if_pos c]
      have e : (wP row k).toInt * (vI row k i * (vI row k 0 + vI row k 1 + vI row k 2 + vI row k 3)) = (wP row k).toInt * (vI row k i * vI row k 0) + (wP row k).toInt * (vI row k i * vI row k 1) + (wP row k).toInt * (vI row k i * vI row k 2) + (wP row k).toInt * (vI row k i * vI row k 3) := by grind
      omega
    · simp only [if_neg c]
      omega
