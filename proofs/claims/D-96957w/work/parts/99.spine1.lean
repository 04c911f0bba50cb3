/-! spine: what a set of marks weighs -/
def wsP (row : Nat → Int32) (set : Int32) : Nat → Int32
  | 0 => 0
  | k + 1 => wsP row set k + (if ((set >>> (I k &&& 31)) &&& 1) = 1 then wP row k else 0)
theorem ws_ml {row : Nat → Int32} (hI : INV row) (set : Int32) : ∀ (j k : Nat), k + j = nM row → ∀ f, j < f → ∀ S : MS, mIA S 0 = row → ∃ T, lX4_weightOf_4 f set (wsP row set k) (I k) S = some (wsP row set (nM row), T) ∧ mEq S T := by
  have h8 := hI.1.2
  intro j
  induction j with
  | zero =>
    intro k hk f hf S hr
    obtain ⟨f, rfl⟩ : ∃ g, f = g + 1 := ⟨f - 1, by omega⟩
    have e : k = nM row := by omega
    subst e
    refine ⟨S, ?_, mEq.rfl'⟩
    show bX4_weightOf_4 (lX4_weightOf_4 f) _ _ _ _ = _
    unfold bX4_weightOf_4
    rw [if_pos (by show mIA S 0 2 ≤ _; rw [hr, hI.1.1, I_le (by omega) (by omega)]; omega)]
  | succ j ih =>
    intro k hk f hf S hr
    obtain ⟨f, rfl⟩ : ∃ g, f = g + 1 := ⟨f - 1, by omega⟩
    have e1 : wsP row set (k + 1) = wsP row set k + (if ((set >>> (I k &&& 31)) &&& 1) = 1 then wP row k else 0) := rfl
    show ∃ T, bX4_weightOf_4 (lX4_weightOf_4 f) _ _ _ _ = _ ∧ _
    unfold bX4_weightOf_4 bX4_weightOf_33
    rw [if_neg (by show ¬ mIA S 0 2 ≤ _; rw [hr, hI.1.1, I_le (by omega) (by omega)]; omega)]
    by_cases c : ((set >>> (I k &&& 31)) &&& 1) = 1
    · obtain ⟨T1, a1, q1⟩ := w_m (S := S) (k := k) (by rw [hr]; exact hI) (by rw [hr]; omega)
      obtain ⟨T, t1, t2⟩ := ih (k + 1) (by omega) f (by omega) T1 (q1.row.trans hr)
      rw [e1, if_pos c] at t1
      rw [if_pos c, a1, bnd_s, nm_s, nm_s, I_succ, hr]
      exact ⟨T, t1, q1.trans t2⟩
    · obtain ⟨T, t1, t2⟩ := ih (k + 1) (by omega) f (by omega) S hr
      rw [e1, if_neg c] at t1
      rw [if_neg c, nm_s, nm_s, I_succ]
      exact ⟨T, t1, t2⟩
theorem ws_m {S : MS} (hI : INV (mIA S 0)) (set : Int32) : ∃ T, fX4_weightOf set S = some (wsP (mIA S 0) set (nM (mIA S 0)), T) ∧ mEq S T :=
  ws_ml hI set (nM (mIA S 0)) 0 (by omega) FU (by have := hI.1.2; show nM _ < 1000; omega) S rfl
theorem ws_x {b : Nat} {row : Nat → Int32} {hd tx : Nat → Option Nat} {im : Int32} (hI : INV row) (set best most : Int32) (k19 : Nat → Int32 → Int32 → Int32 → XS → Option (Int32 × XS)) : ∀ (j k : Nat), k + j = nM row → ∀ f, j < f → ∀ u : XS, XQ u b row hd tx im → ∃ u', lX0_spine_90 k19 f b best most set (wsP row set k) (I k) u = k19 b (if wsP row set (nM row) ≤ most then best else set) (if most < wsP row set (nM row) then wsP row set (nM row) else most) (set + 1) u' ∧ XQ u' b row hd tx im ∧ Fr (sc2 b) u u' := by
  have h8 := hI.1.2
  intro j
  induction j with
  | zero =>
    intro k hk f hf u hX
    obtain ⟨f, rfl⟩ : ∃ g, f = g + 1 := ⟨f - 1, by omega⟩
    have e : k = nM row := by omega
    subst e
    refine ⟨u, ?_, hX, Fr.rfl'⟩
    show bX0_spine_90 k19 (lX0_spine_90 k19 f) _ _ _ _ _ _ _ = _
    unfold bX0_spine_90 bX0_spine_144 bX0_spine_152
    have le : row 2 ≤ I (nM row) := by rw [hI.1.1, I_le (by omega) (by omega)]; omega
    rw [hX.pb.r2, bn1_s, hX.hv.i0, bn1_s, if_pos le, nm_s, nm_s]
    by_cases c : wsP row set (nM row) ≤ most
    · rw [if_pos c, if_pos c]
    · rw [if_neg c, if_neg c, nm_s, nm_s]
  | succ j ih =>
    intro k hk f hf u hX
    obtain ⟨f, rfl⟩ : ∃ g, f = g + 1 := ⟨f - 1, by omega⟩
    have e1 : wsP row set (k + 1) = wsP row set k + (if ((set >>> (I k &&& 31)) &&& 1) = 1 then wP row k else 0) := rfl
    have le : ¬ row 2 ≤ I k := by rw [hI.1.1, I_le (by omega) (by omega)]; omega
    show ∃ u', bX0_spine_90 k19 (lX0_spine_90 k19 f) _ _ _ _ _ _ _ = _ ∧ _
    unfold bX0_spine_90 bX0_spine_124
    rw [hX.pb.r2, bn1_s, hX.hv.i0, bn1_s, if_neg le]
    by_cases c : ((set >>> (I k &&& 31)) &&& 1) = 1
    · obtain ⟨u1, a1, a2, a3⟩ := w_x hX.xv hI (show k < nM row by omega)
      obtain ⟨u', t1, t2, t3⟩ := ih (k + 1) (by omega) f (by omega) u1 (hX.sc2 a2 a3)
      rw [e1, if_pos c] at t1
      rw [if_pos c, chk_t hX.pb.isP, a1, bnd_s, nm_s, nm_s, I_succ]
      exact ⟨u', t1, t2, a3.trans t3⟩
    · obtain ⟨u', t1, t2, t3⟩ := ih (k + 1) (by omega) f (by omega) u hX
      rw [e1, if_neg c] at t1
      rw [if_neg c, nm_s, nm_s, I_succ]
      exact ⟨u', t1, t2, t3⟩
