/-! THE SQUARE, DETERMINANTS (the model) -/
def vI (row : Nat → Int32) (k i : Nat) : Int := (if row (8 + 6 * k + 3) = I i then 1 else 0) - (if row (8 + 6 * k + 2) = I i then 1 else 0)
def nrm (row : Nat → Int32) : Nat → Nat → Nat → Int
  | 0, _, _ => 0
  | k + 1, i, j => nrm row k i j + (if row (8 + 6 * k + 5) = 1 then (wP row k).toInt * (vI row k i * vI row k j) else 0)
def rgt (row : Nat → Int32) : Nat → Nat → Int
  | 0, _ => 0
  | k + 1, i => rgt row k i + (if row (8 + 6 * k + 5) = 1 then (wP row k).toInt * (sP row k).toInt * vI row k i else 0)
def nwI (row : Nat → Int32) (i j : Nat) : Int := nrm row (nM row) i j
def rtI (row : Nat → Int32) (i : Nat) : Int := rgt row (nM row) i
/-! det -/
def sgL (us : Nat) : Nat → Int
  | 0 => 1
  | c + 1 => if us.testBit c = true then sgL us c else - sgL us c
def smL (g v : Nat → Int64) (us : Nat) : Nat → Int64
  | 0 => 0
  | c + 1 => if us.testBit c = true then smL g v us c else smL g v us c + Int64.ofInt (sgL us c) * v c * g c
def smI (g v : Nat → Int) (us : Nat) : Nat → Int
  | 0 => 0
  | c + 1 => if us.testBit c = true then smI g v us c else smI g v us c + sgL us c * v c * g c
def dtR (n : Nat) (a : Nat → Nat → Int64) : Nat → Nat → Nat → Int64
  | 0, _, _ => 0
  | d + 1, fr, us => if fr = n then 1 else smL (fun c => dtR n a d (fr + 1) (us ||| 1 <<< c)) (a fr) us n
def dtI (n : Nat) (a : Nat → Nat → Int) : Nat → Nat → Nat → Int
  | 0, _, _ => 0
  | d + 1, fr, us => if fr = n then 1 else smI (fun c => dtI n a d (fr + 1) (us ||| 1 <<< c)) (a fr) us n
theorem bt_dec : ∀ us, us < 16 → ∀ c, c < 4 → ((((I us) >>> (I c &&& 31)) &&& 1) = 0 ↔ ¬ us.testBit c = true) ∧ (I us ||| ((1 : Int32) <<< (I c &&& 31))) = I (us ||| 1 <<< c) ∧ (us ||| 1 <<< c) < 16 := by decide
theorem cmp0 (v : Int64) : (lg_cmp v 0 = 0) ↔ v = 0 := by
  unfold lg_cmp
  by_cases h : v > 0
  · rw [if_pos h]
    refine ⟨fun q => absurd q (by decide), fun q => ?_⟩
    subst q
    exact absurd h (by decide)
  · rw [if_neg h]
    by_cases h2 : v = 0
    · rw [if_pos h2]; exact ⟨fun _ => h2, fun _ => rfl⟩
    · rw [if_neg h2]; exact ⟨fun q => absurd q (by decide), fun q => absurd q h2⟩
theorem ix4 (a c : Nat) : ((4 : Int32) * I a) + I c = I (4 * a + c) := by
  have e : (4 : Int32) = I 4 := rfl
  rw [e, I_mul, I_add]
theorem det_in {S : MS} {n fr us : Nat} {col : Int32} {a : Nat → Nat → Int64} (hn : n ≤ 4) (hfr : fr < n) (hus : us < 16) (hR : ∀ c, c < n → (if I c = col then mLA S 9 fr else mLA S 8 (4 * fr + c)) = a fr c) (rc : Int32 → Int32 → Int32 → MS → Option (Int64 × MS)) (g : Nat → Int64) (hrc : ∀ c, c < n → rc (I (fr + 1)) (I (us ||| 1 <<< c)) col S = some (g c, S)) :
    ∀ (j c : Nat), c + j = n → ∀ f, j < f → lX4_det_25 rc f (I fr) (I us) col (I n) (smL g (a fr) us c) (Int64.ofInt (sgL us c)) (I c) S = some (smL g (a fr) us n, S) := by
  intro j
  induction j with
  | zero =>
    intro c hc f hf
    obtain ⟨f, rfl⟩ : ∃ g, f = g + 1 := ⟨f - 1, by omega⟩
    have e : c = n := by omega
    subst e
    show bX4_det_25 rc (lX4_det_25 rc f) _ _ _ _ _ _ _ _ = _
    unfold bX4_det_25
    rw [if_pos ((I_le (by omega) (by omega)).mpr (Nat.le_refl _))]
  | succ j ih =>
    intro c hc f hf
    obtain ⟨f, rfl⟩ : ∃ g, f = g + 1 := ⟨f - 1, by omega⟩
    have h := ih (c + 1) (by omega) f (by omega)
    obtain ⟨b1, b2, b3⟩ := bt_dec us hus c (by omega)
    have hr := hR c (by omega)
    show bX4_det_25 rc (lX4_det_25 rc f) _ _ _ _ _ _ _ _ = _
    unfold bX4_det_25
    rw [if_neg (by rw [I_le (by omega) (by omega)]; omega)]
    have es : smL g (a fr) us (c + 1) = if us.testBit c = true then smL g (a fr) us c else smL g (a fr) us c + Int64.ofInt (sgL us c) * a fr c * g c := rfl
    have eg : sgL us (c + 1) = if us.testBit c = true then sgL us c else - sgL us c := rfl
    rw [es, eg] at h
    by_cases hb : us.testBit c = true
    · rw [if_neg (fun q => (b1.mp q) hb)]
      simp only [if_pos hb] at h
      unfold bX4_det_110
      rw [nm_s, I_succ]
      exact h
    · rw [if_pos (b1.mpr hb)]
      simp only [if_neg hb, Int64.ofInt_neg] at h
      have key : ∀ v, v = a fr c → bX4_det_67 rc (lX4_det_25 rc f) (I fr) (I us) col (I n) (smL g (a fr) us c) (Int64.ofInt (sgL us c)) (I c) v S = some (smL g (a fr) us n, S) := by
        intro v hv
        unfold bX4_det_67 bX4_det_102 bX4_det_110
        by_cases hz : v = 0
        · rw [if_pos ((cmp0 v).mpr hz), nm_s, nm_s, nm_s, I_succ]
          rw [← hv, hz] at h
          have e0 : Int64.ofInt (sgL us c) * 0 * g c = 0 := by rw [Int64.mul_zero, Int64.zero_mul]
          rw [e0] at h
          exact h
        · rw [if_neg (fun q => hz ((cmp0 v).mp q)), I_succ, b2, hrc c (by omega), bnd_s, nm_s, nm_s, nm_s, I_succ, hv]
          exact h
      by_cases hcol : I c = col
      · rw [if_pos hcol, chk_t (inB_I (by omega) (by decide)), I_nat (by omega)]
        rw [if_pos hcol] at hr
        exact key _ hr
      · rw [if_neg hcol, ix4, chk_t (inB_I (by omega) (by decide)), I_nat (by omega)]
        rw [if_neg hcol] at hr
        exact key _ hr
theorem det_m {S : MS} {n : Nat} {col : Int32} {a : Nat → Nat → Int64} (hn3 : mIA S 0 3 = I n) (hn : n ≤ 4) (hR : ∀ fr, fr < n → ∀ c, c < n → (if I c = col then mLA S 9 fr else mLA S 8 (4 * fr + c)) = a fr c) : ∀ (d fr us : Nat), n < fr + d → fr ≤ n → us < 16 → fX4_det d (I fr) (I us) col S = some (dtR n a d fr us, S) := by
  intro d
  induction d with
  | zero => intro fr us h1 h2; omega
  | succ d ih =>
    intro fr us h1 h2 h3
    show gX4_det (fX4_det d) _ _ _ _ = _
    unfold gX4_det dtR
    have e3 : ((3 : Int32)).toNatClampNeg = 3 := rfl
    rw [e3, hn3, nm_s]
    by_cases he : fr = n
    · rw [if_pos (by rw [he]), if_pos he]
    · rw [if_neg (by rw [I_inj (by omega) (by omega)]; exact he), if_neg he]
      exact det_in hn (by omega) h3 (fun c hc => hR fr (by omega) c hc) (fX4_det d) (fun c => dtR n a d (fr + 1) (us ||| 1 <<< c)) (fun c hc => ih (fr + 1) (us ||| 1 <<< c) (by omega) (by omega) (bt_dec us h3 c (by omega)).2.2) n 0 (by omega) FU (by show n < 1000; omega)
theorem smL_I {g v : Nat → Int64} {g' v' : Nat → Int} {us n : Nat} (hg : ∀ c, c < n → g c = Int64.ofInt (g' c)) (hv : ∀ c, c < n → v c = Int64.ofInt (v' c)) : ∀ c, c ≤ n → smL g v us c = Int64.ofInt (smI g' v' us c) := by
  intro c
  induction c with
  | zero => intro _; rfl
  | succ c ih =>
    intro h
    unfold smL smI
    rw [ih (by omega)]
    split
    · rfl
    · rw [hg c (by omega), hv c (by omega), Int64.ofInt_add, Int64.ofInt_mul, Int64.ofInt_mul]
theorem dtR_I {n : Nat} {a : Nat → Nat → Int64} {A : Nat → Nat → Int} (h : ∀ r c, r < n → c < n → a r c = Int64.ofInt (A r c)) : ∀ d fr us, fr ≤ n → dtR n a d fr us = Int64.ofInt (dtI n A d fr us) := by
  intro d
  induction d with
  | zero => intro fr us _; rfl
  | succ d ih =>
    intro fr us hf
    unfold dtR dtI
    by_cases he : fr = n
    · rw [if_pos he, if_pos he]; rfl
    · rw [if_neg he, if_neg he]
      exact smL_I (fun c hc => ih (fr + 1) _ (by omega)) (fun c hc => h fr c (by omega) hc) n (Nat.le_refl _)
theorem dtI_dt {n : Nat} (hn : 1 ≤ n) (hn4 : n ≤ 3) (A : Nat → Nat → Int) : dtI n A 8 0 0 = dtn n A := by
  have hc : n = 1 ∨ n = 2 ∨ n = 3 := by omega
  rcases hc with rfl | rfl | rfl
  · simp [dtI, smI, sgL, dtn, mkn]
  · simp [dtI, smI, sgL, dtn, mkn]
    grind
  · simp [dtI, smI, sgL, dtn, mkn, D3]
    grind
