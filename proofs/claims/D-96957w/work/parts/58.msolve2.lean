/-! isSolved, what is missed, the most doubted, a round (the model) -/
def heldQ (row : Nat → Int32) : Prop := tdP row (onP row) = allP row
def DP (row : Nat → Int32) : Int := dtn (nP row) (nwI row)
def XP (row : Nat → Int32) (p : Nat) : Int := dtn (nP row) (rpl (nwI row) p (rtI row))
/-- the places are told -/
def slv (row : Nat → Int32) (T : MS) : Prop := mLF T = Int64.ofInt (DP row) ∧ ∀ p, p < nP row → mLA T 10 p = Int64.ofInt (XP row p)
theorem div4 : ∀ i, i < 16 → I i / 4 = I (i / 4) := by decide
theorem slv89 {n : Nat} (hn1 : 1 ≤ n) (hn : n ≤ 4) {N : Nat → Nat → Int} {R : Nat → Int} : ∀ (j q : Nat), q + j = n → ∀ f, j < f → ∀ S : MS, mIA S 0 3 = I n → (∀ i j, i < 4 → j < 4 → mLA S 8 (4 * i + j) = Int64.ofInt (N i j)) → (∀ i, i < 4 → mLA S 9 i = Int64.ofInt (R i)) → (∀ p, p < q → mLA S 10 p = Int64.ofInt (dtn n (rpl N p R))) →
    ∃ T, lX4_isSolved_89 f (I q) S = some (1, T) ∧ mEqS S T ∧ mLF T = mLF S ∧ ∀ p, p < n → mLA T 10 p = Int64.ofInt (dtn n (rpl N p R)) := by
  intro j
  induction j with
  | zero =>
    intro q hq f hf S h3 h8 h9 h10
    obtain ⟨f, rfl⟩ : ∃ g, f = g + 1 := ⟨f - 1, by omega⟩
    have e : q = n := by omega
    subst e
    refine ⟨S, ?_, mEqS.rfl', rfl, h10⟩
    show bX4_isSolved_89 (lX4_isSolved_89 f) _ _ = _
    unfold bX4_isSolved_89
    rw [if_pos (by show mIA S 0 3 ≤ _; rw [h3, I_le (by omega) (by omega)]; omega)]
  | succ j ih =>
    intro q hq f hf S h3 h8 h9 h10
    obtain ⟨f, rfl⟩ : ∃ g, f = g + 1 := ⟨f - 1, by omega⟩
    show ∃ T, bX4_isSolved_89 (lX4_isSolved_89 f) _ _ = _ ∧ _
    unfold bX4_isSolved_89
    rw [if_neg (by show ¬ mIA S 0 3 ≤ _; rw [h3, I_le (by omega) (by omega)]; omega)]
    have hd := det_m (S := S) (col := I q) (a := fun r c => Int64.ofInt (rpl N q R r c)) h3 hn (fun fr hfr c hc => by
      unfold rpl
      by_cases e : c = q
      · rw [if_pos (by rw [e]), if_pos e]; exact h9 fr (by omega)
      · rw [if_neg (by rw [I_inj (by omega) (by omega)]; exact e), if_neg e]; exact h8 fr c (by omega) (by omega)) 8 0 0 (by omega) (by omega) (by decide)
    rw [dtR_dt hn1 hn (A := rpl N q R) (fun _ _ _ _ => rfl)] at hd
    have hd : fX4_det DEP 0 0 (I q) S = some (Int64.ofInt (dtn n (rpl N q R)), S) := hd
    rw [hd, bnd_s, chk_t (inB_I (by omega) (by decide)), I_nat (by omega), nm_s, nm_s, I_succ]
    obtain ⟨T, t1, t2, t3, t4⟩ := ih (q + 1) (by omega) f (by omega) (sLA S 10 (vp_updL (mLA S 10) q (Int64.ofInt (dtn n (rpl N q R))))) h3 h8 h9 (fun p hp => by
      rw [mLA_LA, if_pos rfl]
      by_cases e : p = q
      · rw [e, updL_at]
      · rw [updL_ne _ _ e]; exact h10 p (by omega))
    exact ⟨T, t1, (mEqS.la 10 _ (Or.inr (Or.inr rfl))).trans t2, t3, t4⟩
theorem slv45 {row : Nat → Int32} (hI : INV row) : ∀ (j k : Nat), k + j = nM row → ∀ f, j < f → ∀ S : MS, mIA S 0 = row → mSq S row k → ∃ T, lX4_isSolved_45 f (I k) S = some (1, T) ∧ mEqS S T ∧ slv row T := by
  intro j
  induction j with
  | zero =>
    intro k hk f hf S hr hq
    obtain ⟨f, rfl⟩ : ∃ g, f = g + 1 := ⟨f - 1, by omega⟩
    have e : k = nM row := by omega
    subst e
    have h8 := hI.1.2
    have hn := hI.2.1
    show ∃ T, bX4_isSolved_45 (lX4_isSolved_45 f) _ _ = _ ∧ _
    unfold bX4_isSolved_45
    rw [if_pos (by show mIA S 0 2 ≤ _; rw [hr, hI.1.1, I_le (by omega) (by omega)]; exact Nat.le_refl _)]
    have h3 : mIA S 0 3 = I (nP row) := by rw [hr]; exact hn.1
    have hd := det_m (S := S) (col := -1) (a := fun r c => Int64.ofInt (nwI row r c)) h3 hn.2.2 (fun fr hfr c hc => by
      rw [if_neg (fun q => I_m1 (i := c) (by omega) q.symm)]; exact hq.1 fr c (by omega) (by omega)) 8 0 0 (by omega) (by omega) (by decide)
    rw [dtR_dt hn.2.1 hn.2.2 (A := nwI row) (fun _ _ _ _ => rfl)] at hd
    have hd : fX4_det DEP 0 0 (-1) S = some (Int64.ofInt (DP row), S) := hd
    rw [hd, bnd_s]
    obtain ⟨T, t1, t2, t3, t4⟩ := slv89 hn.2.1 hn.2.2 (N := nwI row) (R := rtI row) (nP row) 0 (by omega) FU (by show nP row < 1000; omega) (sLF S (Int64.ofInt (DP row))) h3 hq.1 hq.2 (fun p hp => by omega)
    exact ⟨T, t1, (mEqS.lf _).trans t2, t3, t4⟩
  | succ j ih =>
    intro k hk f hf S hr hq
    obtain ⟨f, rfl⟩ : ∃ g, f = g + 1 := ⟨f - 1, by omega⟩
    have h8 := hI.1.2
    show ∃ T, bX4_isSolved_45 (lX4_isSolved_45 f) _ _ = _ ∧ _
    unfold bX4_isSolved_45 bX4_isSolved_70
    rw [if_neg (by show ¬ mIA S 0 2 ≤ _; rw [hr, hI.1.1, I_le (by omega) (by omega)]; omega), of_5 (by omega), bnd_s]
    by_cases hon : mIA S 0 (8 + 6 * k + 5) = 1
    · rw [if_pos hon]
      obtain ⟨S', a1, a2, a3⟩ := adds_m (S := S) (k := k) (by rw [hr]; exact hI) (by rw [hr]; omega) hon (by rw [hr]; exact hq)
      rw [a1, bn1_s, nm_s, I_succ]
      obtain ⟨T, t1, t2, t3⟩ := ih (k + 1) (by omega) f (by omega) S' (a2.row.trans hr) (by rw [hr] at a3; exact a3)
      exact ⟨T, t1, a2.trans t2, t3⟩
    · rw [if_neg hon, nm_s, I_succ]
      have hon' : ¬ row (8 + 6 * k + 5) = 1 := by rw [← hr]; exact hon
      refine ih (k + 1) (by omega) f (by omega) S hr ⟨fun i j hi hj => ?_, fun i hi => ?_⟩
      · show _ = Int64.ofInt (nrm row k i j + (if row (8 + 6 * k + 5) = 1 then _ else 0))
        rw [if_neg hon', Int.add_zero]; exact hq.1 i j hi hj
      · show _ = Int64.ofInt (rgt row k i + (if row (8 + 6 * k + 5) = 1 then _ else 0))
        rw [if_neg hon', Int.add_zero]; exact hq.2 i hi
theorem slv15 {row : Nat → Int32} (hI : INV row) : ∀ (j i : Nat), i + j = 16 → ∀ f, j < f → ∀ S : MS, mIA S 0 = row → (∀ x, x < i → mLA S 8 x = 0) → (∀ x, 4 * x < i → mLA S 9 x = 0) → ∃ T, lX4_isSolved_15 f (I i) S = some (1, T) ∧ mEqS S T ∧ slv row T := by
  intro j
  induction j with
  | zero =>
    intro i hi f hf S hr h8 h9
    obtain ⟨f, rfl⟩ : ∃ g, f = g + 1 := ⟨f - 1, by omega⟩
    have e : i = 16 := by omega
    subst e
    show ∃ T, bX4_isSolved_15 (lX4_isSolved_15 f) _ _ = _ ∧ _
    unfold bX4_isSolved_15
    rw [if_pos (by decide)]
    exact slv45 hI (nM row) 0 (by omega) FU (by have := hI.1.2; show nM row < 1000; omega) S hr ⟨fun i j hi hj => h8 _ (by omega), fun i hi => h9 i (by omega)⟩
  | succ j ih =>
    intro i hi f hf S hr h8 h9
    obtain ⟨f, rfl⟩ : ∃ g, f = g + 1 := ⟨f - 1, by omega⟩
    show ∃ T, bX4_isSolved_15 (lX4_isSolved_15 f) _ _ = _ ∧ _
    unfold bX4_isSolved_15
    have e16 : (16 : Int32) = I 16 := rfl
    rw [e16, if_neg (by rw [I_le (by omega) (by omega)]; omega), chk_t (inB_I (by omega) (by decide)), nm_s, div4 i (by omega), chk_t (inB_I (by omega) (by decide)), nm_s, nm_s, I_succ, I_nat (by omega), I_nat (by omega)]
    obtain ⟨T, t1, t2, t3⟩ := ih (i + 1) (by omega) f (by omega) (sLA (sLA S 8 (vp_updL (mLA S 8) i 0)) 9 (vp_updL (mLA (sLA S 8 (vp_updL (mLA S 8) i 0)) 9) (i / 4) 0)) hr (fun x hx => by
        rw [mLA_LA, if_neg (by decide), mLA_LA, if_pos rfl]
        by_cases e : x = i
        · rw [e, updL_at]
        · rw [updL_ne _ _ e]; exact h8 x (by omega)) (fun x hx => by
        rw [mLA_LA, if_pos rfl]
        by_cases e : x = i / 4
        · rw [e, updL_at]
        · rw [updL_ne _ _ e, mLA_LA, if_neg (by decide)]; exact h9 x (by omega))
    exact ⟨T, t1, ((mEqS.la 8 _ (Or.inl rfl)).trans (mEqS.la 9 _ (Or.inr (Or.inl rfl)))).trans t2, t3⟩
theorem slv_no {S : MS} (hI : INV (mIA S 0)) (h : ¬ heldQ (mIA S 0)) : fX4_isSolved S = some (0, S) := by
  unfold fX4_isSolved
  rw [on_m hI, bnd_s, hold_m hI, bnd_s]
  unfold heldQ at h
  rw [if_neg h, if_pos rfl]
theorem slv_yes {S : MS} (hI : INV (mIA S 0)) (h : heldQ (mIA S 0)) : ∃ T, fX4_isSolved S = some (1, T) ∧ mEqS S T ∧ slv (mIA S 0) T := by
  unfold fX4_isSolved
  rw [on_m hI, bnd_s, hold_m hI, bnd_s]
  unfold heldQ at h
  rw [if_pos h, if_neg (by decide)]
  exact slv15 hI 16 0 (by omega) FU (by decide) S rfl (fun x hx => by omega) (fun x hx => by omega)
/-! what is missed -/
def msP (row : Nat → Int32) (k : Nat) : Int64 := ((sP row k).toInt64 * Int64.ofInt (DP row) - Int64.ofInt (XP row (row (8 + 6 * k + 3)).toNatClampNeg)) + (if 0 ≤ row (8 + 6 * k + 2) then Int64.ofInt (XP row (row (8 + 6 * k + 2)).toNatClampNeg) else 0)
theorem ms_m {S : MS} {k : Nat} (hI : INV (mIA S 0)) (hs : slv (mIA S 0) S) (hk : k < nM (mIA S 0)) : ∃ T, fX4_missOf (I k) S = some (msP (mIA S 0) k, T) ∧ mEq S T := by
  have hk8 : k < 8 := by have := hI.1.2; omega
  have hP4 := hI.2.1.2.2
  obtain ⟨-, -, hf, ⟨t, htP, ht⟩, -, -⟩ := hI.2.2.1 k hk
  obtain ⟨T, e1, q1⟩ := s_m hI hk
  have hb : ∀ x : Int64, bX4_missOf_24 (I k) x S = some (((sP (mIA S 0) k).toInt64 * Int64.ofInt (DP (mIA S 0)) - Int64.ofInt (XP (mIA S 0) t)) + x, T) := by
    intro x
    unfold bX4_missOf_24
    rw [e1, bnd_s, of_3 hk8, bnd_s, q1.row, ht, chk_t (inB_I (by omega) (by decide)), I_nat (by omega), q1.2.2.2, q1.2.1 10, hs.1, hs.2 t htP]
  refine ⟨T, ?_, q1⟩
  unfold fX4_missOf msP
  rw [of_2 hk8, bnd_s]
  rcases hf with hf | ⟨a, haP, hf⟩
  · rw [hf, if_neg (by decide), if_neg (by decide), hb, ht, I_nat (by omega)]
  · rw [hf, if_pos (I_ge0 (by omega)), if_pos (I_ge0 (by omega)), of_2 hk8, bnd_s, hf, chk_t (inB_I (by omega) (by decide)), I_nat (by omega), hs.2 a haP, hb, ht, I_nat (by omega)]
theorem slv.eq {row : Nat → Int32} {S T : MS} (h : slv row S) (q : mEq S T) : slv row T := ⟨q.2.2.2.trans h.1, fun p hp => by rw [q.2.1 10]; exact h.2 p hp⟩
def absL (v : Int64) : Int64 := if 0 ≤ v then v else -v
def dbP (row : Nat → Int32) (k : Nat) : Int64 := (wP row k).toInt64 * absL (msP row k)
theorem db_m {S : MS} {k : Nat} (hI : INV (mIA S 0)) (hs : slv (mIA S 0) S) (hk : k < nM (mIA S 0)) : ∃ T, fX4_doubt (I k) S = some (dbP (mIA S 0) k, T) ∧ mEq S T := by
  obtain ⟨T1, e1, q1⟩ := ms_m hI hs hk
  obtain ⟨T2, e2, q2⟩ := w_m (S := T1) (k := k) (by rw [q1.row]; exact hI) (by rw [q1.row]; exact hk)
  refine ⟨T2, ?_, q1.trans q2⟩
  unfold fX4_doubt bX4_doubt_24 dbP absL
  rw [e1, bnd_s, e2, bnd_s, q1.row]
  by_cases h : 0 ≤ msP (mIA S 0) k
  · rw [if_pos ((lg_cmp_ge _ _).mpr h), if_pos h]
  · rw [if_neg (fun q => h ((lg_cmp_ge _ _).mp q)), if_neg h]
/-- the most doubted of the first k: -1 while none is on -/
def mdP (row : Nat → Int32) : Nat → Int32
  | 0 => -1
  | k + 1 => if row (8 + 6 * k + 5) = 1 ∧ (mdP row k < 0 ∨ ¬ lg_cmp (dbP row k) (dbP row (mdP row k).toNatClampNeg) ≤ 0) then I k else mdP row k
theorem mdP_or (row : Nat → Int32) : ∀ k, k ≤ 8 → mdP row k = -1 ∨ ∃ a, a < k ∧ mdP row k = I a := by
  intro k
  induction k with
  | zero => intro _; exact Or.inl rfl
  | succ k ih =>
    intro h
    unfold mdP
    split
    · exact Or.inr ⟨k, by omega, rfl⟩
    · rcases ih (by omega) with e | ⟨a, ha, e⟩
      · exact Or.inl e
      · exact Or.inr ⟨a, by omega, e⟩
theorem md_loop {row : Nat → Int32} (hI : INV row) : ∀ (j k : Nat), k + j = nM row → ∀ f, j < f → ∀ S : MS, mIA S 0 = row → slv row S → ∃ T, lX4_mostDoubted_4 f (mdP row k) (I k) S = some (mdP row (nM row), T) ∧ mEq S T := by
  intro j
  induction j with
  | zero =>
    intro k hk f hf S hr hs
    obtain ⟨f, rfl⟩ : ∃ g, f = g + 1 := ⟨f - 1, by omega⟩
    have e : k = nM row := by omega
    subst e
    have h8 := hI.1.2
    refine ⟨S, ?_, mEq.rfl'⟩
    show bX4_mostDoubted_4 (lX4_mostDoubted_4 f) _ _ _ = _
    unfold bX4_mostDoubted_4
    rw [if_pos (by show mIA S 0 2 ≤ _; rw [hr, hI.1.1, I_le (by omega) (by omega)]; exact Nat.le_refl _)]
  | succ j ih =>
    intro k hk f hf S hr hs
    obtain ⟨f, rfl⟩ : ∃ g, f = g + 1 := ⟨f - 1, by omega⟩
    have h8 := hI.1.2
    show ∃ T, bX4_mostDoubted_4 (lX4_mostDoubted_4 f) _ _ _ = _ ∧ _
    unfold bX4_mostDoubted_4 bX4_mostDoubted_46 bX4_mostDoubted_42 bX4_mostDoubted_47
    rw [if_neg (by show ¬ mIA S 0 2 ≤ _; rw [hr, hI.1.1, I_le (by omega) (by omega)]; omega), of_5 (by omega), bnd_s, hr]
    have step : mdP row (k + 1) = if row (8 + 6 * k + 5) = 1 ∧ (mdP row k < 0 ∨ ¬ lg_cmp (dbP row k) (dbP row (mdP row k).toNatClampNeg) ≤ 0) then I k else mdP row k := rfl
    by_cases hon : row (8 + 6 * k + 5) = 1
    · rw [if_pos hon]
      by_cases hneg : mdP row k < 0
      · rw [if_pos hneg, nm_s, I_succ]
        have h := ih (k + 1) (by omega) f (by omega) S hr hs
        rw [step, if_pos ⟨hon, Or.inl hneg⟩] at h
        exact h
      · rw [if_neg hneg]
        obtain ⟨b, hb, eb⟩ := (mdP_or row k (by omega)).resolve_left (fun e => hneg (by rw [e]; decide))
        obtain ⟨T1, e1, q1⟩ := db_m (S := S) (k := k) (by rw [hr]; exact hI) (by rw [hr]; exact hs) (by rw [hr]; omega)
        have r1 := q1.row.trans hr
        obtain ⟨T2, e2, q2⟩ := db_m (S := T1) (k := b) (by rw [r1]; exact hI) (by rw [r1]; exact hs.eq q1) (by rw [r1]; omega)
        rw [e1, bnd_s, eb, e2, bnd_s, hr, r1]
        rw [eb, I_nat (by omega)] at step
        by_cases hc : lg_cmp (dbP row k) (dbP row b) ≤ 0
        · rw [if_pos hc, nm_s, I_succ]
          obtain ⟨T, t1, t2⟩ := ih (k + 1) (by omega) f (by omega) T2 (q2.row.trans r1) ((hs.eq q1).eq q2)
          rw [step, if_neg (fun q => q.2.elim (I_nn (by omega)) (fun z => z hc))] at t1
          exact ⟨T, t1, (q1.trans q2).trans t2⟩
        · rw [if_neg hc, nm_s, I_succ]
          obtain ⟨T, t1, t2⟩ := ih (k + 1) (by omega) f (by omega) T2 (q2.row.trans r1) ((hs.eq q1).eq q2)
          rw [step, if_pos ⟨hon, Or.inr hc⟩] at t1
          exact ⟨T, t1, (q1.trans q2).trans t2⟩
    · rw [if_neg hon, nm_s, I_succ]
      have h := ih (k + 1) (by omega) f (by omega) S hr hs
      rw [step, if_neg (fun q => hon q.1)] at h
      exact h
theorem md_m {S : MS} (hI : INV (mIA S 0)) (hs : slv (mIA S 0) S) : ∃ T, fX4_mostDoubted S = some (mdP (mIA S 0) (nM (mIA S 0)), T) ∧ mEq S T :=
  md_loop hI (nM (mIA S 0)) 0 (by omega) FU (by have := hI.1.2; show nM (mIA S 0) < 1000; omega) S rfl hs
