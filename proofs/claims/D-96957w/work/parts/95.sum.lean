/-! all misses together -/
def Xv (row : Nat → Int32) (i : Nat) : Int := if i < nP row then XP row i else 0
def S4 (f : Nat → Int) : Int := f 0 + f 1 + f 2 + f 3
def Bk (row : Nat → Int32) : Nat → Int
  | 0 => 0
  | k + 1 => Bk row k + (if row (8 + 6 * k + 5) = 1 then (wP row k).toInt * (sP row k).toInt * (sP row k).toInt else 0)
def Ak (row : Nat → Int32) : Nat → Int
  | 0 => 0
  | k + 1 => Ak row k + (if row (8 + 6 * k + 5) = 1 then (wP row k).toInt * msI row k * msI row k else 0)
def vX (row : Nat → Int32) (k : Nat) : Int := S4 (fun i => vI row k i * Xv row i)
theorem msI_v {row : Nat → Int32} (hI : INV row) {k : Nat} (hk : k < nM row) : msI row k = (sP row k).toInt * DP row - vX row k := by
  have hP4 := hI.2.1.2.2
  obtain ⟨t1, t2, t3⟩ := to_cases hI hk
  have ev : vX row k = vI row k 0 * Xv row 0 + vI row k 1 * Xv row 1 + vI row k 2 * Xv row 2 + vI row k 3 * Xv row 3 := rfl
  unfold msI
  rw [ev]
  rcases fr_cases hI hk with ⟨f1, f2⟩ | ⟨f, fP, f0, f1, f2⟩
  · rw [vI_g t1 t3 f1 (show 0 < 4 by decide), vI_g t1 t3 f1 (show 1 < 4 by decide), vI_g t1 t3 f1 (show 2 < 4 by decide), vI_g t1 t3 f1 (show 3 < 4 by decide), f1, if_neg (by decide), t1, I_nat (by omega)]
    have e : XP row (toN row k) = Xv row (toN row k) := by unfold Xv; rw [if_pos t2]
    rw [e]
    generalize toN row k = t at t3
    have ht : t = 0 ∨ t = 1 ∨ t = 2 ∨ t = 3 := by omega
    rcases ht with rfl | rfl | rfl | rfl <;> simp
  · rw [vI_p t1 t3 f1 f0 (show 0 < 4 by decide), vI_p t1 t3 f1 f0 (show 1 < 4 by decide), vI_p t1 t3 f1 f0 (show 2 < 4 by decide), vI_p t1 t3 f1 f0 (show 3 < 4 by decide), f1, if_pos (I_ge0 (by omega)), t1, I_nat (by omega), I_nat (by omega)]
    have e : XP row (toN row k) = Xv row (toN row k) := by unfold Xv; rw [if_pos t2]
    have e2 : XP row f = Xv row f := by unfold Xv; rw [if_pos fP]
    rw [e, e2]
    generalize toN row k = t at t3
    generalize (sP row k).toInt * DP row = A
    have ht : t = 0 ∨ t = 1 ∨ t = 2 ∨ t = 3 := by omega
    have hf : f = 0 ∨ f = 1 ∨ f = 2 ∨ f = 3 := by omega
    rcases ht with rfl | rfl | rfl | rfl <;> rcases hf with rfl | rfl | rfl | rfl <;> simp <;> omega
def rX (row : Nat → Int32) (k : Nat) : Int := S4 (fun i => rgt row k i * Xv row i)
def xNx (row : Nat → Int32) (k : Nat) : Int := S4 (fun i => Xv row i * S4 (fun j => nrm row k i j * Xv row j))
theorem rX_s (row : Nat → Int32) (k : Nat) : rX row (k + 1) = rX row k + (if row (8 + 6 * k + 5) = 1 then (wP row k).toInt * (sP row k).toInt * vX row k else 0) := by
  unfold rX vX S4
  simp only [rgt]
  by_cases c : row (8 + 6 * k + 5) = 1
  · simp only [if_pos c]; grind
  · simp only [if_neg c]; grind
theorem xNx_s (row : Nat → Int32) (k : Nat) : xNx row (k + 1) = xNx row k + (if row (8 + 6 * k + 5) = 1 then (wP row k).toInt * (vX row k * vX row k) else 0) := by
  unfold xNx vX S4
  simp only [nrm]
  by_cases c : row (8 + 6 * k + 5) = 1
  · simp only [if_pos c]; grind
  · simp only [if_neg c]; grind
theorem A_k {row : Nat → Int32} (hI : INV row) : ∀ k, k ≤ nM row → Ak row k = DP row * DP row * Bk row k - 2 * DP row * rX row k + xNx row k := by
  intro k
  induction k with
  | zero => intro _; simp [Ak, Bk, rX, xNx, S4, rgt, nrm]
  | succ k ih =>
    intro hk
    have h := ih (by omega)
    have e1 : Ak row (k + 1) = Ak row k + (if row (8 + 6 * k + 5) = 1 then (wP row k).toInt * msI row k * msI row k else 0) := rfl
    have e2 : Bk row (k + 1) = Bk row k + (if row (8 + 6 * k + 5) = 1 then (wP row k).toInt * (sP row k).toInt * (sP row k).toInt else 0) := rfl
    rw [e1, e2, rX_s, xNx_s, h, msI_v hI (show k < nM row by omega)]
    generalize (wP row k).toInt = w
    generalize (sP row k).toInt = s
    generalize vX row k = v
    generalize DP row = D
    generalize Bk row k = B
    generalize rX row k = R
    generalize xNx row k = X
    by_cases c : row (8 + 6 * k + 5) = 1
    · simp only [if_pos c]; grind
    · simp only [if_neg c]; grind
theorem xNx_r {row : Nat → Int32} (hI : INV row) : xNx row (nM row) = DP row * rX row (nM row) := by
  have hP1 := hI.2.1.2.1
  have hP4 := hI.2.1.2.2
  have cr : ∀ i, i < nP row → sm (nP row) (fun j => nwI row i j * XP row j) = DP row * rtI row i := fun i hi => cramer hP4 hi (nwI row) (rtI row)
  have key : ∀ i, Xv row i * S4 (fun j => nwI row i j * Xv row j) = DP row * (rtI row i * Xv row i) := by
    intro i
    by_cases c : i < nP row
    · have h := cr i c
      have e : S4 (fun j => nwI row i j * Xv row j) = sm (nP row) (fun j => nwI row i j * XP row j) := by
        unfold S4 Xv
        have hc : nP row = 1 ∨ nP row = 2 ∨ nP row = 3 ∨ nP row = 4 := by omega
        rcases hc with e | e | e | e <;> rw [e] <;> simp [sm]
      rw [e, h]
      grind
    · have e : Xv row i = 0 := if_neg c
      rw [e]; simp
  show S4 (fun i => Xv row i * S4 (fun j => nwI row i j * Xv row j)) = DP row * S4 (fun i => rtI row i * Xv row i)
  have k0 := key 0
  have k1 := key 1
  have k2 := key 2
  have k3 := key 3
  show Xv row 0 * S4 (fun j => nwI row 0 j * Xv row j) + Xv row 1 * S4 (fun j => nwI row 1 j * Xv row j) + Xv row 2 * S4 (fun j => nwI row 2 j * Xv row j) + Xv row 3 * S4 (fun j => nwI row 3 j * Xv row j) = DP row * (rtI row 0 * Xv row 0 + rtI row 1 * Xv row 1 + rtI row 2 * Xv row 2 + rtI row 3 * Xv row 3)
  rw [k0, k1, k2, k3]
  grind
/-- all misses over the common number -/
def smI' (row : Nat → Int32) : Int := DP row * Bk row (nM row) - rX row (nM row)
theorem A_sum {row : Nat → Int32} (hI : INV row) : Ak row (nM row) = DP row * smI' row := by
  rw [A_k hI _ (Nat.le_refl _), xNx_r hI]
  unfold smI'
  grind
theorem Ak_nn (row : Nat → Int32) : ∀ k, 0 ≤ Ak row k := by
  intro k
  induction k with
  | zero => exact Int.le_refl _
  | succ k ih =>
    have e1 : Ak row (k + 1) = Ak row k + (if row (8 + 6 * k + 5) = 1 then (wP row k).toInt * msI row k * msI row k else 0) := rfl
    have h1 := wP_b row k
    have h2 := Int.mul_nonneg (show 0 ≤ (wP row k).toInt by omega) (sq_nn (msI row k))
    have e2 : (wP row k).toInt * msI row k * msI row k = (wP row k).toInt * (msI row k * msI row k) := by grind
    rw [e1, e2]
    split
    · omega
    · omega
theorem xNx_nn (row : Nat → Int32) : ∀ k, 0 ≤ xNx row k := by
  intro k
  induction k with
  | zero => simp [xNx, S4, nrm]
  | succ k ih =>
    rw [xNx_s]
    have h1 := wP_b row k
    have h2 := Int.mul_nonneg (show 0 ≤ (wP row k).toInt by omega) (sq_nn (vX row k))
    split
    · omega
    · omega
theorem Bk_b (row : Nat → Int32) : ∀ k, 0 ≤ Bk row k ∧ Bk row k ≤ 3600 * k := by
  intro k
  induction k with
  | zero => exact ⟨Int.le_refl _, Int.le_refl _⟩
  | succ k ih =>
    have e1 : Bk row (k + 1) = Bk row k + (if row (8 + 6 * k + 5) = 1 then (wP row k).toInt * (sP row k).toInt * (sP row k).toInt else 0) := rfl
    have h1 := wP_b row k
    have h0 := sP_b row k
    have h2 := Int.mul_nonneg (show 0 ≤ (wP row k).toInt by omega) (sq_nn (sP row k).toInt)
    have e2 : (wP row k).toInt * (sP row k).toInt * (sP row k).toInt = (wP row k).toInt * ((sP row k).toInt * (sP row k).toInt) := by grind
    have h3 := ab_mul (show (wP row k).toInt.natAbs ≤ 4 by omega) (ab_mul (show (sP row k).toInt.natAbs ≤ 30 by omega) (show (sP row k).toInt.natAbs ≤ 30 by omega))
    rw [e1, e2]
    generalize (wP row k).toInt * ((sP row k).toInt * (sP row k).toInt) = z at *
    split
    · omega
    · omega
theorem sm_b {row : Nat → Int32} (hI : INV row) (hh : heldQ row) : 0 ≤ smI' row ∧ smI' row ≤ 30198988800 := by
  have h8 := hI.1.2
  obtain ⟨d1, d2⟩ := D_pos hI hh
  have a1 := Ak_nn row (nM row)
  have a2 := xNx_nn row (nM row)
  obtain ⟨b1, b2⟩ := Bk_b row (nM row)
  rw [A_sum hI] at a1
  rw [xNx_r hI] at a2
  have s1 : 0 ≤ smI' row := by
    refine Classical.byContradiction (fun h => ?_)
    have := Int.mul_neg_of_pos_of_neg d1 (show smI' row < 0 by omega)
    omega
  have s2 : 0 ≤ rX row (nM row) := by
    refine Classical.byContradiction (fun h => ?_)
    have := Int.mul_neg_of_pos_of_neg d1 (show rX row (nM row) < 0 by omega)
    omega
  refine ⟨s1, ?_⟩
  have h3 : DP row * Bk row (nM row) ≤ 1048576 * 28800 := Int.mul_le_mul d2 (by omega) b1 (by omega)
  unfold smI'
  omega
