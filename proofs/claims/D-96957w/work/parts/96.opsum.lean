/-! sum -/
theorem wss {row : Nat → Int32} (k : Nat) : ((wP row k * sP row k) * sP row k).toInt64 = Int64.ofInt ((wP row k).toInt * (sP row k).toInt * (sP row k).toInt) := by
  have h1 := wP_b row k
  have h2 := sP_b row k
  generalize wP row k = w at *
  generalize sP row k = s at *
  have hb := ab_mul (show w.toInt.natAbs ≤ 4 by omega) (show s.toInt.natAbs ≤ 30 by omega)
  have hb2 := ab_mul hb (show s.toInt.natAbs ≤ 30 by omega)
  have e : (w * s).toInt = w.toInt * s.toInt := by
    rw [Int32.toInt_mul]
    exact Int.bmod_eq_of_le (by omega) (by omega)
  have e2 : (w * s * s).toInt = w.toInt * s.toInt * s.toInt := by
    rw [Int32.toInt_mul, e]
    exact Int.bmod_eq_of_le (by omega) (by omega)
  rw [← Int64.ofInt_int32ToInt, e2]
def rXn (row : Nat → Int32) : Nat → Int
  | 0 => 0
  | p + 1 => rXn row p + XP row p * rtI row p
theorem rXn_r {row : Nat → Int32} (hI : INV row) : rXn row (nP row) = rX row (nM row) := by
  have hP1 := hI.2.1.2.1
  have hP4 := hI.2.1.2.2
  have e0 : rX row (nM row) = rtI row 0 * Xv row 0 + rtI row 1 * Xv row 1 + rtI row 2 * Xv row 2 + rtI row 3 * Xv row 3 := rfl
  rw [e0]
  unfold Xv
  have hc : nP row = 1 ∨ nP row = 2 ∨ nP row = 3 ∨ nP row = 4 := by omega
  rcases hc with e | e | e | e <;> rw [e] <;> simp [rXn] <;> grind
section SUM
variable {b : Nat} {u : XS} {S : MS} {row : Nat → Int32} {hd tx : Nat → Option Nat} {im : Int32}
theorem so_69 (hI : INV row) (hD : xDone2 u b row hd tx im) : ∀ (j p : Nat), p + j = nP row → ∀ f, j < f → lX0_sumOf_69 f b (Int64.ofInt (DP row * Bk row (nM row) - rXn row p)) (I p) u = some (Int64.ofInt (smI' row), u) := by
  have hP4 := hI.2.1.2.2
  obtain ⟨N, R, A, wt, sd, hX, hA, hws, hR⟩ := hD
  intro j
  induction j with
  | zero =>
    intro p hp f hf
    obtain ⟨f, rfl⟩ : ∃ g, f = g + 1 := ⟨f - 1, by omega⟩
    have e : p = nP row := by omega
    subst e
    show bX0_sumOf_69 (lX0_sumOf_69 f) _ _ _ _ = _
    unfold bX0_sumOf_69
    rw [hX.pb.r2, bn1_s, hX.hv.i1, bn1_s, if_pos (by rw [hI.2.1.1, I_le (by omega) (by omega)]; omega), rXn_r hI]
    rfl
  | succ j ih =>
    intro p hp f hf
    obtain ⟨f, rfl⟩ : ∃ g, f = g + 1 := ⟨f - 1, by omega⟩
    show bX0_sumOf_69 (lX0_sumOf_69 f) _ _ _ _ = _
    unfold bX0_sumOf_69
    rw [hX.pb.r2, bn1_s, hX.hv.i1, bn1_s, if_neg (by rw [hI.2.1.1, I_le (by omega) (by omega)]; omega), hX.pb.r11, bn1_s, hX.getA (by omega), bn1_s, hX.pb.r10, bn1_s, hX.getR (by omega), bn1_s, nm_s, nm_s, I_succ, hA p (by omega), hR p (by omega)]
    have e : Int64.ofInt (DP row * Bk row (nM row) - rXn row p) - Int64.ofInt (XP row p) * Int64.ofInt (rtI row p) = Int64.ofInt (DP row * Bk row (nM row) - rXn row (p + 1)) := by
      rw [← Int64.ofInt_mul, ← Int64.ofInt_sub]
      congr 1
      show _ = DP row * Bk row (nM row) - (rXn row p + XP row p * rtI row p)
      omega
    rw [e]
    exact ih (p + 1) (by omega) f (by omega)
theorem so_4 (hI : INV row) (hD : xDone2 u b row hd tx im) : ∀ (j k : Nat), k + j = nM row → ∀ f, j < f → lX0_sumOf_4 f b (Int64.ofInt (DP row * Bk row k)) (I k) u = some (Int64.ofInt (smI' row), u) := by
  have h8 := hI.1.2
  have hD' := hD
  obtain ⟨N, R, A, wt, sd, hX, hA, hws, hR⟩ := hD'
  intro j
  induction j with
  | zero =>
    intro k hk f hf
    obtain ⟨f, rfl⟩ : ∃ g, f = g + 1 := ⟨f - 1, by omega⟩
    have e : k = nM row := by omega
    subst e
    show bX0_sumOf_4 (lX0_sumOf_4 f) _ _ _ _ = _
    unfold bX0_sumOf_4
    rw [hX.pb.r2, bn1_s, hX.hv.i0, bn1_s, if_pos (by rw [hI.1.1, I_le (by omega) (by omega)]; omega)]
    have h := so_69 hI hD (nP row) 0 (by omega) FU (by have := hI.2.1.2.2; show nP row < 1000; omega)
    have e : DP row * Bk row (nM row) - rXn row 0 = DP row * Bk row (nM row) := by show _ - 0 = _; omega
    rw [e] at h
    exact h
  | succ j ih =>
    intro k hk f hf
    obtain ⟨f, rfl⟩ : ∃ g, f = g + 1 := ⟨f - 1, by omega⟩
    have h := ih (k + 1) (by omega) f (by omega)
    have e1 : Bk row (k + 1) = Bk row k + (if row (8 + 6 * k + 5) = 1 then (wP row k).toInt * (sP row k).toInt * (sP row k).toInt else 0) := rfl
    show bX0_sumOf_4 (lX0_sumOf_4 f) _ _ _ _ = _
    unfold bX0_sumOf_4 bX0_sumOf_59
    rw [hX.pb.r2, bn1_s, hX.hv.i0, bn1_s, if_neg (by rw [hI.1.1, I_le (by omega) (by omega)]; omega), bn1_s, hX.hv.r12, bn1_s, hX.hv.on (by omega), bn1_s]
    by_cases c : row (8 + 6 * k + 5) = 1
    · rw [if_pos c, hX.pb.r12, bn1_s, hX.getW (by omega), bn1_s, hX.pb.r13, bn1_s, hX.getS (by omega), bn1_s, bn1_s, hX.getS (by omega), bn1_s, hX.getB, bn1_s, nm_s, nm_s, I_succ, (hws k (by omega)).1, (hws k (by omega)).2, wss]
      have e : Int64.ofInt (DP row * Bk row k) + Int64.ofInt ((wP row k).toInt * (sP row k).toInt * (sP row k).toInt) * Int64.ofInt (DP row) = Int64.ofInt (DP row * Bk row (k + 1)) := by
        rw [← Int64.ofInt_mul, ← Int64.ofInt_add, e1, if_pos c]
        congr 1
        grind
      rw [e]
      exact h
    · rw [if_neg c, nm_s, nm_s, I_succ]
      have e : Int64.ofInt (DP row * Bk row k) + 0 = Int64.ofInt (DP row * Bk row (k + 1)) := by
        rw [e1, if_neg c, Int64.add_zero, Int.add_zero]
      rw [e]
      exact h
theorem sum_x (hI : INV row) (hD : xDone2 u b row hd tx im) : fX0_sumOf b u = some (Int64.ofInt (smI' row), u) := by
  have h := so_4 hI hD (nM row) 0 (by omega) FU (by have := hI.1.2; show nM row < 1000; omega)
  have e : DP row * Bk row 0 = 0 := by show DP row * 0 = 0; exact Int.mul_zero _
  rw [e] at h
  exact h
theorem am_m {S : MS} (hI : INV row) : ∀ (j k : Nat), k + j = nM row → ∀ f, j < f → ∀ S : MS, mIA S 0 = row → slv row S → ∃ T, lX4_allMiss_4 f (Int64.ofInt (Ak row k)) (I k) S = some (Int64.ofInt (Ak row (nM row)), T) ∧ mEq S T := by
  have h8 := hI.1.2
  intro j
  induction j with
  | zero =>
    intro k hk f hf S hr hs
    obtain ⟨f, rfl⟩ : ∃ g, f = g + 1 := ⟨f - 1, by omega⟩
    have e : k = nM row := by omega
    subst e
    refine ⟨S, ?_, mEq.rfl'⟩
    show bX4_allMiss_4 (lX4_allMiss_4 f) _ _ _ = _
    unfold bX4_allMiss_4
    rw [if_pos (by show mIA S 0 2 ≤ _; rw [hr, hI.1.1, I_le (by omega) (by omega)]; omega)]
  | succ j ih =>
    intro k hk f hf S hr hs
    obtain ⟨f, rfl⟩ : ∃ g, f = g + 1 := ⟨f - 1, by omega⟩
    have e1 : Ak row (k + 1) = Ak row k + (if row (8 + 6 * k + 5) = 1 then (wP row k).toInt * msI row k * msI row k else 0) := rfl
    show ∃ T, bX4_allMiss_4 (lX4_allMiss_4 f) _ _ _ = _ ∧ _
    unfold bX4_allMiss_4 bX4_allMiss_47
    rw [if_neg (by show ¬ mIA S 0 2 ≤ _; rw [hr, hI.1.1, I_le (by omega) (by omega)]; omega), of_5 (by omega), bnd_s, hr]
    by_cases c : row (8 + 6 * k + 5) = 1
    · obtain ⟨T1, a1, q1⟩ := w_m (S := S) (k := k) (by rw [hr]; exact hI) (by rw [hr]; omega)
      have r1 := q1.row.trans hr
      obtain ⟨T2, a2, q2⟩ := ms_m (S := T1) (k := k) (by rw [r1]; exact hI) (by rw [r1]; exact hs.eq q1) (by rw [r1]; omega)
      have r2 := q2.row.trans r1
      obtain ⟨T3, a3, q3⟩ := ms_m (S := T2) (k := k) (by rw [r2]; exact hI) (by rw [r2]; exact (hs.eq q1).eq q2) (by rw [r2]; omega)
      obtain ⟨T, t1, t2⟩ := ih (k + 1) (by omega) f (by omega) T3 (q3.row.trans r2) (((hs.eq q1).eq q2).eq q3)
      refine ⟨T, ?_, ((q1.trans q2).trans q3).trans t2⟩
      rw [if_pos c, a1, bnd_s, a2, bnd_s, a3, bnd_s, nm_s, nm_s, I_succ, hr, r1, r2, ms_I, ← Int64.ofInt_int32ToInt, ← Int64.ofInt_mul, ← Int64.ofInt_mul, ← Int64.ofInt_add]
      rw [e1, if_pos c] at t1
      exact t1
    · obtain ⟨T, t1, t2⟩ := ih (k + 1) (by omega) f (by omega) S hr hs
      refine ⟨T, ?_, t2⟩
      rw [if_neg c, nm_s, nm_s, I_succ, Int64.add_zero]
      rw [e1, if_neg c, Int.add_zero] at t1
      exact t1
theorem all_m {S : MS} (hI : INV (mIA S 0)) (hs : slv (mIA S 0) S) : ∃ T, fX4_allMiss S = some (Int64.ofInt (DP (mIA S 0) * smI' (mIA S 0)), T) ∧ mEq S T := by
  obtain ⟨T, t1, t2⟩ := am_m (S := S) hI (nM (mIA S 0)) 0 (by omega) FU (by have := hI.1.2; show nM _ < 1000; omega) S rfl hs
  rw [A_sum hI] at t1
  exact ⟨T, t1, t2⟩
theorem pt_scale {s d : Nat} (hd : 1 ≤ d) (hs : d * s < 2 ^ 63) (hdd : d * d < 2 ^ 63) (p : Int32) : ptP (J (d * s)) (d * s) (d * d) p = ptP (J s) s d p := by
  obtain ⟨g1, g2⟩ := gcd_b (a := s) hd
  have hs' : s ≤ d * s := Nat.le_mul_of_pos_left _ (by omega)
  have hd' : d ≤ d * d := Nat.le_mul_of_pos_left _ (by omega)
  have eg : Nat.gcd (d * s) (d * d) = d * Nat.gcd s d := Nat.gcd_mul_left d s d
  have hg : d * Nat.gcd s d ≤ d * d := Nat.mul_le_mul_left _ g2
  unfold ptP
  rw [eg, J_div (by omega) (by omega), J_div (by omega) (by omega), J_div (by omega) (by omega), J_div (by omega) (by omega), Nat.mul_div_mul_left _ _ (by omega), Nat.mul_div_mul_left _ _ (by omega)]
theorem op_sum {S : MS} (h : RL b u S) (x : Int32) : OpR b (fX0_sum b x u) (fX4_sum x S) := by
  have hI := h.inv
  unfold fX0_sum fX4_sum bX0_sum_44 bX4_sum_49
  rw [in_x, bnd_s, prt_m, bnd_s]
  by_cases d : inP x 0 1 = 0
  · rw [if_pos d, if_pos d]; exact err1L h _ _ rfl rfl
  · rw [if_neg d, if_neg d, chk_t h.pb.isP]
    rcases sol_both2 h with ⟨e1, e2, -⟩ | ⟨q, hd, tx, u', S', e1, e2, e3, e4, e5, e6, e7⟩
    · rw [e1, bnd_s, e2, bnd_s, if_pos rfl, if_pos rfl]
      obtain ⟨u', S', g1, g2, g3⟩ := err3 h
      exact ⟨_, u', S', by rw [chk_t h.pb.isP, g1, bnd_s], by rw [g2, bnd_s], g3⟩
    · rw [e1, bnd_s, e2, bnd_s, if_neg (by decide), if_neg (by decide)]
      obtain ⟨d1, d2⟩ := D_pos hI q
      obtain ⟨s1, s2⟩ := sm_b hI q
      have hI' : INV (mIA S' 0) := by rw [e6.row]; exact hI
      obtain ⟨T, t1, t2⟩ := all_m (S := S') hI' (by rw [e6.row]; exact e7)
      rw [e6.row] at t1
      have hb : gL u' b 0 14 = some (Int64.ofInt (DP (mIA S 0))) := by obtain ⟨N, R, A, wt, sd, hXX, -⟩ := e4; exact hXX.getB
      have R' : RL b u' T := RL.row' e3.ro (Fr.rfl' (P := scr b)) (fun q => scr_oth) t2.keep (t2.row.trans e6.row) (by rw [e6.2.2 3]; exact e4.d.q) hI
      obtain ⟨dn, edn⟩ : ∃ dn : Nat, DP (mIA S 0) = dn := ⟨(DP (mIA S 0)).toNat, by omega⟩
      obtain ⟨sn, esn⟩ : ∃ sn : Nat, smI' (mIA S 0) = sn := ⟨(smI' (mIA S 0)).toNat, by omega⟩
      have b1 : dn * sn ≤ 1048576 * 30198988800 := Nat.mul_le_mul (by omega) (by omega)
      have b2 : dn * dn ≤ 1048576 * 1048576 := Nat.mul_le_mul (by omega) (by omega)
      have eD : Int64.ofInt (DP (mIA S 0)) = J dn := ofI_J edn (by omega)
      have eS : Int64.ofInt (smI' (mIA S 0)) = J sn := ofI_J esn (by omega)
      have eDS : Int64.ofInt (DP (mIA S 0) * smI' (mIA S 0)) = J (dn * sn) := ofI_J (by rw [edn, esn]; exact (Int.natCast_mul dn sn).symm) (by omega)
      have nnJ : ∀ n, n < 2 ^ 63 → absL (J n) = J n := by
        intro n hn
        unfold absL
        rw [if_pos (by rw [Int64.le_iff_toInt_le, J_int hn]; have z0 : (0 : Int64).toInt = 0 := rfl; omega)]
      refine ⟨ptP (J sn) sn dn x, u', T, ?_, ?_, R'⟩
      · rw [chk_t e3.pb.isP, sum_x hI e4, bnd_s, hb, bn1_s, eD, eS, part_x u' (nnJ sn (by omega)) (by omega) (by omega) (by omega), bnd_s]
      · rw [t1, bnd_s, t2.2.2.2, e7.1, eD, eDS, J_mul, part_m T (nnJ (dn * sn) (by omega)) (by omega) (Nat.mul_pos (by omega) (by omega)) (by omega), bnd_s, pt_scale (by omega) (by omega) (by omega)]
end SUM
