/-! a round (the model); what is kept by it -/
theorem wfR_ext {row row' : Nat → Int32} {a : Nat} (h : ∀ i, a ≤ i → row' i = row i) : ∀ k, wfR row' a k = wfR row a k := by
  intro k
  induction k with
  | zero => rfl
  | succ k ih =>
    unfold wfR
    rw [ih, h (a + 1 + k) (by omega), h (a + 61 + k) (by omega)]
theorem txOK_ext {row row' : Nat → Int32} {a : Nat} (h : ∀ i, a ≤ i → row' i = row i) (q : txOK row a) : txOK row' a := by
  obtain ⟨L, hL, hr, hw⟩ := q
  exact ⟨L, hL, by rw [h a (Nat.le_refl _)]; exact hr, by rw [wfR_ext h]; exact hw⟩
/-- what may be written at i -/
def okU (i : Nat) (v : Int32) : Prop :=
  i = 0 ∨ i = 1 ∨ i = 4 ∨ (i = 5 ∧ ∃ d, d ≤ 9999 ∧ v = I d) ∨ (i = 6 ∧ ∃ t, t ≤ 60 ∧ v = I t) ∨ (i = 7 ∧ ∃ w, w ≤ 24 ∧ v = I w) ∨ (∃ k, k < 8 ∧ i = 8 + 6 * k ∧ ∃ a, a ≤ 6 ∧ v = I a) ∨ (∃ k, k < 8 ∧ i = 8 + 6 * k + 1 ∧ ∃ a, a ≤ 9 ∧ v = I a) ∨
  (∃ k, k < 8 ∧ i = 8 + 6 * k + 4) ∨ (∃ k, k < 8 ∧ i = 8 + 6 * k + 5 ∧ (v = 0 ∨ v = 1)) ∨ (56 ≤ i ∧ i < 116 ∧ ∃ c, c ≤ 255 ∧ v = I c) ∨ (116 ≤ i ∧ i < 140)
theorem INV.upd {row : Nat → Int32} (h : INV row) {i : Nat} {v : Int32} (hu : okU i v) : INV (upd row i v) := by
  obtain ⟨⟨h1, h2⟩, ⟨h3, h4, h5⟩, h6, h7, h8, h9, h10, h11, h12⟩ := h
  have hi : i < 140 := by
    rcases hu with h | h | h | h | h | h | ⟨k, _, h, _⟩ | ⟨k, _, h, _⟩ | ⟨k, _, h⟩ | ⟨k, _, h, _⟩ | h | h <;> omega
  have n2 : (2 : Nat) ≠ i := by
    rcases hu with h | h | h | h | h | h | ⟨k, _, h, _⟩ | ⟨k, _, h, _⟩ | ⟨k, _, h⟩ | ⟨k, _, h, _⟩ | h | h <;> omega
  have n3 : (3 : Nat) ≠ i := by
    rcases hu with h | h | h | h | h | h | ⟨k, _, h, _⟩ | ⟨k, _, h, _⟩ | ⟨k, _, h⟩ | ⟨k, _, h, _⟩ | h | h <;> omega
  have e2 : nM (Jvm.Pilot.@@N@@.upd row i v) = nM row := by unfold nM; rw [upd_ne _ _ n2]
  have e3 : nP (Jvm.Pilot.@@N@@.upd row i v) = nP row := by unfold nP; rw [upd_ne _ _ n3]
  refine ⟨⟨by rw [e2, upd_ne _ _ n2]; exact h1, by rw [e2]; exact h2⟩, ⟨by rw [e3, upd_ne _ _ n3]; exact h3, by rw [e3]; exact h4, by rw [e3]; exact h5⟩, ?_, ?_, ?_, ?_, ?_, ?_, ?_⟩
  · intro k hk
    rw [e2] at hk
    obtain ⟨m1, m2, m3, m4, m5, m6⟩ := h6 k hk
    have f2 : 8 + 6 * k + 2 ≠ i := by
      rcases hu with h | h | h | h | h | h | ⟨k, _, h, _⟩ | ⟨k, _, h, _⟩ | ⟨k, _, h⟩ | ⟨k, _, h, _⟩ | h | h <;> omega
    have f3 : 8 + 6 * k + 3 ≠ i := by
      rcases hu with h | h | h | h | h | h | ⟨k, _, h, _⟩ | ⟨k, _, h, _⟩ | ⟨k, _, h⟩ | ⟨k, _, h, _⟩ | h | h <;> omega
    refine ⟨?_, ?_, by rw [upd_ne _ _ f2, e3]; exact m3, by rw [upd_ne _ _ f3, e3]; exact m4, by rw [upd_ne _ _ f2, upd_ne _ _ f3]; exact m5, ?_⟩
    · by_cases e : 8 + 6 * k = i
      · rw [e, upd_at]
        rcases hu with h | h | h | h | h | h | ⟨k', _, h, q⟩ | ⟨k', _, h, _⟩ | ⟨k', _, h⟩ | ⟨k', _, h, _⟩ | h | h <;> first | exact q | omega
      · rw [upd_ne _ _ e]; exact m1
    · by_cases e : 8 + 6 * k + 1 = i
      · rw [e, upd_at]
        rcases hu with h | h | h | h | h | h | ⟨k', _, h, _⟩ | ⟨k', _, h, q⟩ | ⟨k', _, h⟩ | ⟨k', _, h, _⟩ | h | h <;> first | exact q | omega
      · rw [upd_ne _ _ e]; exact m2
    · by_cases e : 8 + 6 * k + 5 = i
      · rw [e, upd_at]
        rcases hu with h | h | h | h | h | h | ⟨k', _, h, _⟩ | ⟨k', _, h, _⟩ | ⟨k', _, h⟩ | ⟨k', _, h, q⟩ | h | h <;> first | exact q | omega
      · rw [upd_ne _ _ e]; exact m6
  · by_cases e : 5 = i
    · rw [e, upd_at]
      rcases hu with h | h | h | ⟨h, q⟩ | h | h | ⟨k', _, h, _⟩ | ⟨k', _, h, _⟩ | ⟨k', _, h⟩ | ⟨k', _, h, _⟩ | h | h <;> first | exact q | omega
    · rw [upd_ne _ _ e]; exact h7
  · by_cases e : 6 = i
    · rw [e, upd_at]
      rcases hu with h | h | h | h | ⟨h, q⟩ | h | ⟨k', _, h, _⟩ | ⟨k', _, h, _⟩ | ⟨k', _, h⟩ | ⟨k', _, h, _⟩ | h | h <;> first | exact q | omega
    · rw [upd_ne _ _ e]; exact h8
  · by_cases e : 7 = i
    · rw [e, upd_at]
      rcases hu with h | h | h | h | h | ⟨h, q⟩ | ⟨k', _, h, _⟩ | ⟨k', _, h, _⟩ | ⟨k', _, h⟩ | ⟨k', _, h, _⟩ | h | h <;> first | exact q | omega
    · rw [upd_ne _ _ e]; exact h9
  · exact txOK_ext (fun j hj => upd_ne _ _ (by omega)) h10
  · exact txOK_ext (fun j hj => upd_ne _ _ (by omega)) h11
  · intro k hk
    by_cases e : 56 + k = i
    · rw [e, upd_at]
      rcases hu with h | h | h | h | h | h | ⟨k', _, h, _⟩ | ⟨k', _, h, _⟩ | ⟨k', _, h⟩ | ⟨k', _, h, _⟩ | ⟨_, _, q⟩ | h <;> first | exact q | omega
    · rw [upd_ne _ _ e]; exact h12 k hk
def incP (row : Nat → Int32) : Nat → Int32 := upd row 0 (row 0 + 1)
def dropP (row : Nat → Int32) (w : Nat) : Nat → Int32 := upd (upd row (8 + 6 * w + 5) 0) 5 (heldP (row 5 + 1) 0 9999)
def wrP (row : Nat → Int32) : Nat := (mdP row (nM row)).toNatClampNeg
/-- one round -/
def goP (row : Nat → Int32) : Nat → Int32 :=
  if tdP row (onP row) = allP row then (if lg_cmp (dbP row (wrP row)) ((row 4).toInt64 * Int64.ofInt (DP row)) ≤ 0 then incP row else incP (dropP row (wrP row))) else incP row
theorem md_none {row : Nat → Int32} : ∀ {k : Nat}, k ≤ 8 → mdP row k = -1 → ∀ i, i < k → ¬ row (8 + 6 * i + 5) = 1 := by
  intro k
  induction k with
  | zero => intro _ _ i hi; omega
  | succ k ih =>
    intro h8 h i hi
    unfold mdP at h
    split at h
    · exact absurd h.symm (I_m1 (by omega))
    · next hc =>
      by_cases e : i = k
      · subst e
        intro hon
        exact hc ⟨hon, Or.inl (by rw [h]; decide)⟩
      · exact ih (by omega) h i (by omega)
theorem us_zero {row : Nat → Int32} : ∀ {k : Nat}, (∀ i, i < k → row (8 + 6 * i + 5) = 0) → usP row k = 0 := by
  intro k
  induction k with
  | zero => intro _; rfl
  | succ k ih =>
    intro h
    unfold usP
    rw [ih (fun i hi => h i (by omega)), h k (by omega), Int32.zero_shiftLeft]
    rfl
theorem td_zero (row : Nat → Int32) : tdP row 0 = 0 := by
  have h1 : ∀ is k, tieR row 0 is k = is := by
    intro is k
    induction k with
    | zero => rfl
    | succ k ih =>
      unfold tieR tie1
      rw [ih, if_neg (fun q => by rw [Int32.zero_shiftRight] at q; exact absurd q.1 (by decide))]
  unfold tdP
  simp only [tieP, h1]
theorem all_dec : ∀ n, n ≤ 4 → 1 ≤ n → ¬ (0 : Int32) = ((1 : Int32) <<< (I n &&& 31)) - 1 := by decide
theorem wr_ok {row : Nat → Int32} (hI : INV row) (h : heldQ row) : mdP row (nM row) = I (wrP row) ∧ wrP row < nM row := by
  have h8 := hI.1.2
  rcases mdP_or row (nM row) h8 with e | ⟨a, ha, e⟩
  · exfalso
    have hn := md_none h8 e
    have hz : onP row = 0 := us_zero (fun i hi => ((hI.2.2.1 i hi).2.2.2.2.2).resolve_right (hn i hi))
    unfold heldQ allP at h
    rw [hz, td_zero, hI.2.1.1] at h
    exact all_dec _ hI.2.1.2.2 hI.2.1.2.1 h
  · unfold wrP
    rw [e, I_nat (by omega)]
    exact ⟨rfl, ha⟩
theorem held9 {d : Nat} (h : d ≤ 9999) : ∃ e, e ≤ 9999 ∧ heldP (I d + 1) 0 9999 = I e := by
  rw [I_succ]
  unfold heldP
  rw [if_pos (I_ge0 (by omega))]
  have e9 : (9999 : Int32) = I 9999 := rfl
  rw [e9]
  split
  · next q => rw [I_le (by omega) (by omega)] at q; exact ⟨d + 1, q, rfl⟩
  · exact ⟨9999, Nat.le_refl _, rfl⟩
theorem INV.inc {row : Nat → Int32} (h : INV row) : INV (incP row) := h.upd (Or.inl rfl)
theorem INV.drop {row : Nat → Int32} (h : INV row) {w : Nat} (hw : w < 8) : INV (dropP row w) := by
  obtain ⟨d, hd, e⟩ := h.2.2.2.1
  obtain ⟨x, hx, ex⟩ := held9 hd
  unfold dropP
  rw [e, ex]
  exact (h.upd (i := 8 + 6 * w + 5) (v := 0) (by unfold okU; exact Or.inr (Or.inr (Or.inr (Or.inr (Or.inr (Or.inr (Or.inr (Or.inr (Or.inr (Or.inl ⟨w, hw, rfl, Or.inl rfl⟩))))))))))).upd (Or.inr (Or.inr (Or.inr (Or.inl ⟨rfl, x, hx, rfl⟩))))
theorem INV.go {row : Nat → Int32} (h : INV row) : INV (goP row) := by
  unfold goP
  split
  · next hh =>
    split
    · exact h.inc
    · have h8 := h.1.2
      have := (wr_ok h hh).2
      exact (h.drop (by omega)).inc
  · exact h.inc
/-- alike but for the row and what is only thought with -/
def mEqG (S T : MS) : Prop := (∀ k, k ≠ 0 → k ≠ 14 → k ≠ 15 → mIA T k = mIA S k) ∧ (∀ k, k ≠ 8 → k ≠ 9 → k ≠ 10 → mLA T k = mLA S k) ∧ (∀ k, mIF T k = mIF S k)
theorem mEqG.rfl' {S : MS} : mEqG S S := ⟨fun _ _ _ _ => rfl, fun _ _ _ _ => rfl, fun _ => rfl⟩
theorem mEqG.trans {S T U : MS} (h : mEqG S T) (k : mEqG T U) : mEqG S U := ⟨fun i a b c => (k.1 i a b c).trans (h.1 i a b c), fun i a b c => (k.2.1 i a b c).trans (h.2.1 i a b c), fun i => (k.2.2 i).trans (h.2.2 i)⟩
theorem mEqS.toG {S T : MS} (h : mEqS S T) : mEqG S T := ⟨fun k _ b c => h.1 k b c, h.2.1, h.2.2⟩
theorem mEqG.r {S : MS} (f : Nat → Int32) : mEqG S (sIA S 0 f) := ⟨fun k a _ _ => by rw [mIA_IA, if_neg a], fun _ _ _ _ => rfl, fun _ => rfl⟩
theorem go61 (S : MS) : bX4_goes_61 S = some (sIA S 0 (incP (mIA S 0))) := rfl
theorem go_m {S : MS} (hI : INV (mIA S 0)) : ∃ T, fX4_goes S = some T ∧ mIA T 0 = goP (mIA S 0) ∧ mEqG S T := by
  unfold fX4_goes goP
  by_cases hh : tdP (mIA S 0) (onP (mIA S 0)) = allP (mIA S 0)
  · obtain ⟨S3, e1, q1, s1⟩ := slv_yes hI hh
    rw [e1, bnd_s, if_neg (by decide), if_pos hh]
    have r1 := q1.row
    obtain ⟨S7, e2, q2⟩ := md_m (S := S3) (by rw [r1]; exact hI) (by rw [r1]; exact s1)
    have r2 := q2.row.trans r1
    obtain ⟨w1, w2⟩ := wr_ok hI hh
    have s2 := s1.eq q2
    obtain ⟨S10, e3, q3⟩ := db_m (S := S7) (k := wrP (mIA S 0)) (by rw [r2]; exact hI) (by rw [r2]; exact s2) (by rw [r2]; exact w2)
    have r3 := q3.row.trans r2
    have s3 := s2.eq q3
    have e4 : ((4 : Int32)).toNatClampNeg = 4 := rfl
    have h8 := hI.1.2
    rw [e2, bnd_s, r1, w1, e3, bnd_s, r2, e4, r3, s3.1]
    have m10 : mEqG S S10 := ((q1.trans q2.toS).trans q3.toS).toG
    by_cases hc : lg_cmp (dbP (mIA S 0) (wrP (mIA S 0))) ((mIA S 0 4).toInt64 * Int64.ofInt (DP (mIA S 0))) ≤ 0
    · rw [if_pos hc, if_pos hc, go61, r3]
      exact ⟨_, rfl, by rw [mIA_IA, if_pos rfl], m10.trans (mEqG.r _)⟩
    · rw [if_neg hc, if_neg hc]
      unfold fX4_puts
      have e5 : (5 : Int32) = I 5 := rfl
      have e5' : (I 5).toNatClampNeg = 5 := rfl
      rw [e5, ix6, chk_t (inB_I (by omega) (by decide)), I_nat (by omega), nm_s, bn1_s, e5', r3]
      rw [mIA_IA, if_pos rfl, upd_ne _ _ (by omega), held_m, bnd_s, nm_s, mIA_IA, if_pos rfl, go61]
      refine ⟨_, rfl, ?_, ((m10.trans (mEqG.r _)).trans (mEqG.r _)).trans (mEqG.r _)⟩
      rw [mIA_IA, if_pos rfl, mIA_IA, if_pos rfl]
      rfl
  · rw [slv_no hI hh, bnd_s, if_pos rfl, if_neg hh, go61]
    exact ⟨_, rfl, by rw [mIA_IA, if_pos rfl], mEqG.r _⟩
