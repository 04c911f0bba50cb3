/-! isSolved (PictureBlock): the loops -/
theorem held_xx {u : XS} {b : Nat} {row : Nat → Int32} {hd tx : Nat → Option Nat} (h : XV u b row hd tx) (hI : INV row) : fX0_isHeld b u = some (if tdP row (onP row) = allP row then 1 else 0, u) := by
  have hH := h.2.2.2.1
  unfold fX0_isHeld bX0_isHeld_32 fX0_all
  rw [h.1.r2, bn1_s, bn1_s, chk_t hH.isH, used_x hH hI, bnd_s, chk_t hH.isH, tied_x hH hI, bnd_s, h.1.r2, bn1_s, hH.i1, bn1_s, bnd_s]
  by_cases c : tdP row (onP row) = allP row
  · rw [if_pos c]
    unfold allP at c
    rw [if_pos c]; rfl
  · rw [if_neg c]
    unfold allP at c
    rw [if_neg c]; rfl
section XSL
variable {b : Nat} {row : Nat → Int32} {hd tx : Nat → Option Nat} {im : Int32}
/-- what is so behind isSolved -/
def xDone (u : XS) (b : Nat) (row : Nat → Int32) (hd tx : Nat → Option Nat) (im : Int32) : Prop := ∃ N R A wt sd, XSS u b row hd tx (Int64.ofInt (DP row)) im N R A wt sd ∧ (∀ p, p < nP row → A p = Int64.ofInt (XP row p)) ∧ ∀ k, k < nM row → wt k = wP row k ∧ sd k = sP row k
/-- the same, and what stands right -/
def xDone2 (u : XS) (b : Nat) (row : Nat → Int32) (hd tx : Nat → Option Nat) (im : Int32) : Prop := ∃ N R A wt sd, XSS u b row hd tx (Int64.ofInt (DP row)) im N R A wt sd ∧ (∀ p, p < nP row → A p = Int64.ofInt (XP row p)) ∧ (∀ k, k < nM row → wt k = wP row k ∧ sd k = sP row k) ∧ ∀ i, i < nP row → R i = Int64.ofInt (rtI row i)
theorem xDone2.d {u : XS} (h : xDone2 u b row hd tx im) : xDone u b row hd tx im := by
  obtain ⟨N, R, A, wt, sd, h1, h2, h3, -⟩ := h
  exact ⟨N, R, A, wt, sd, h1, h2, h3⟩
/-- the square is copied, column cl from the right -/
def cpd (n : Nat) (N : Nat → Nat → Int64) (R : Nat → Int64) (cl : Int32) (w : Nat → Nat → Int64) (r c : Nat) : Prop := ∀ r' c', r' < n → c' < n → (r' < r ∨ (r' = r ∧ c' < c)) → w r' c' = if I c' = cl then R r' else N r' c'
theorem sl_283 {n : Nat} (hn : n ≤ 4) {cl : Int32} {bel : Int64} {N : Nat → Nat → Int64} {R A : Nat → Int64} {wt sd : Nat → Int32} {r : Nat} (hr : r < n) (k268 : Nat → Int32 → Int32 → XS → Option (Int32 × XS)) (k275 : Nat → Int32 → Int32 → Int32 → XS → Option (Int32 × XS)) : ∀ (j c : Nat), c + j = n → ∀ f, j < f → ∀ (u : XS) (sg : Nat → Nat) (w : Nat → Nat → Int64), XSS u b row hd tx bel im N R A wt sd → WVs u b sg w → cpd n N R cl w r c →
    ∃ u' w', lX0_isSolved_283 k268 k275 f b (I n) cl (I r) (I c) u = k275 b (I n) cl (I (r + 1)) u' ∧ XSS u' b row hd tx bel im N R A wt sd ∧ WVs u' b sg w' ∧ cpd n N R cl w' (r + 1) 0 ∧ Fr (scr b) u u' := by
  intro j
  induction j with
  | zero =>
    intro c hc f hf u sg w hX hW hp
    obtain ⟨f, rfl⟩ : ∃ g, f = g + 1 := ⟨f - 1, by omega⟩
    have e : c = n := by omega
    subst e
    refine ⟨u, w, ?_, hX, hW, fun r' c' h1 h2 h3 => hp r' c' h1 h2 (by omega), Fr.rfl'⟩
    show bX0_isSolved_283 k268 k275 (lX0_isSolved_283 k268 k275 f) _ _ _ _ _ _ = _
    unfold bX0_isSolved_283
    rw [if_pos (by rw [I_le (by omega) (by omega)]; omega), nm_s, I_succ]
  | succ j ih =>
    intro c hc f hf u sg w hX hW hp
    obtain ⟨f, rfl⟩ : ∃ g, f = g + 1 := ⟨f - 1, by omega⟩
    obtain ⟨u1, s1, W1, F1⟩ := hW.set (i := r) (c := c) (by omega) (by omega) (if I c = cl then R r else N r c)
    have X1 := hX.work F1 ⟨_, _, W1⟩
    obtain ⟨u', w', h1, h2, h3, h4, h5⟩ := ih (c + 1) (by omega) f (by omega) u1 sg _ X1 W1 (fun r' c' q1 q2 q3 => by
      rw [setM_app]
      by_cases e : r' = r ∧ c' = c
      · rw [if_pos e, e.1, e.2]
      · rw [if_neg e]; exact hp r' c' q1 q2 (by omega))
    refine ⟨u', w', ?_, h2, h3, h4, (F1.mono (fun q hq => Or.inr (Or.inr (Or.inr ⟨by have := hq.1; omega, by have := hq.2; omega⟩)))).trans h5⟩
    show bX0_isSolved_283 k268 k275 (lX0_isSolved_283 k268 k275 f) _ _ _ _ _ _ = _
    unfold bX0_isSolved_283
    rw [if_neg (by rw [I_le (by omega) (by omega)]; omega), hX.pb.r9, bn1_s, hW.row (by omega), bn1_s]
    by_cases e : I c = cl
    · rw [if_pos e] at s1 ⊢
      rw [hX.pb.r10, bn1_s, hX.getR (by omega), bn1_s]
      unfold bX0_isSolved_321
      rw [s1, bn1_s, nm_s, I_succ, h1]
    · rw [if_neg e] at s1 ⊢
      rw [hX.pb.r8, bn1_s, hX.rowN (by omega), bn1_s, hX.getN (by omega) (by omega), bn1_s]
      unfold bX0_isSolved_321
      rw [s1, bn1_s, nm_s, I_succ, h1]
theorem sl_275 {n : Nat} (hn : n ≤ 4) {cl : Int32} {bel : Int64} {N : Nat → Nat → Int64} {R A : Nat → Int64} {wt sd : Nat → Int32} (k268 : Nat → Int32 → Int32 → XS → Option (Int32 × XS)) : ∀ (j r : Nat), r + j = n → ∀ f, j < f → ∀ (u : XS) (sg : Nat → Nat) (w : Nat → Nat → Int64), XSS u b row hd tx bel im N R A wt sd → WVs u b sg w → cpd n N R cl w r 0 →
    ∃ g u' w', lX0_isSolved_275 k268 f b (I n) cl (I r) u = bX0_isSolved_275 k268 (lX0_isSolved_275 k268 g) b (I n) cl (I n) u' ∧ XSS u' b row hd tx bel im N R A wt sd ∧ WVs u' b sg w' ∧ cpd n N R cl w' n 0 ∧ Fr (scr b) u u' := by
  intro j
  induction j with
  | zero =>
    intro r hr f hf u sg w hX hW hp
    obtain ⟨f, rfl⟩ : ∃ g, f = g + 1 := ⟨f - 1, by omega⟩
    have e : r = n := by omega
    subst e
    exact ⟨f, u, w, rfl, hX, hW, hp, Fr.rfl'⟩
  | succ j ih =>
    intro r hr f hf u sg w hX hW hp
    obtain ⟨f, rfl⟩ : ∃ g, f = g + 1 := ⟨f - 1, by omega⟩
    obtain ⟨u1, w1, h1, X1, W1, p1, F1⟩ := sl_283 (cl := cl) hn (show r < n by omega) k268 (lX0_isSolved_275 k268 f) n 0 (by omega) FU (by show n < 1000; omega) u sg w hX hW hp
    obtain ⟨g, u', w', h2, X2, W2, p2, F2⟩ := ih (r + 1) (by omega) f (by omega) u1 sg w1 X1 W1 p1
    refine ⟨g, u', w', ?_, X2, W2, p2, F1.trans F2⟩
    show bX0_isSolved_275 k268 (lX0_isSolved_275 k268 f) _ _ _ _ _ = _
    unfold bX0_isSolved_275
    rw [if_neg (by rw [I_le (by omega) (by omega)]; omega)]
    have h1 : lX0_isSolved_283 k268 (lX0_isSolved_275 k268 f) FU b (I n) cl (I r) 0 u = _ := h1
    rw [h1, h2]
    rfl
/-- the square and what is right of it, of the first k marks -/
def xSq (row : Nat → Int32) (N : Nat → Nat → Int64) (R : Nat → Int64) (k : Nat) : Prop := (∀ i j, i < nP row → j < nP row → N i j = Int64.ofInt (nrm row k i j)) ∧ ∀ i, i < nP row → R i = Int64.ofInt (rgt row k i)
theorem i64_nr {x : Int} (h : x.natAbs ≤ 960) : (Int64.ofInt x).toInt = x := i64_to (by omega)
theorem sl_268 (hI : INV row) {N : Nat → Nat → Int64} {R : Nat → Int64} {wt sd : Nat → Int32} (hq : xSq row N R (nM row)) (hws : ∀ k, k < nM row → wt k = wP row k ∧ sd k = sP row k) : ∀ (j q : Nat), q + j = nP row → ∀ f, j < f → ∀ (u : XS) (A : Nat → Int64), XSS u b row hd tx (Int64.ofInt (DP row)) im N R A wt sd → (∀ p, p < q → A p = Int64.ofInt (XP row p)) →
    ∃ u', lX0_isSolved_268 f b (I (nP row)) (I q) u = some (1, u') ∧ xDone2 u' b row hd tx im ∧ Fr (scr b) u u' := by
  have hP4 := hI.2.1.2.2
  have h8 := hI.1.2
  intro j
  induction j with
  | zero =>
    intro q hj f hf u A hX hA
    obtain ⟨f, rfl⟩ : ∃ g, f = g + 1 := ⟨f - 1, by omega⟩
    have e : q = nP row := by omega
    refine ⟨u, ?_, ⟨N, R, A, wt, sd, hX, fun p hp => hA p (by omega), hws, hq.2⟩, Fr.rfl'⟩
    show bX0_isSolved_268 (lX0_isSolved_268 f) _ _ _ _ = _
    unfold bX0_isSolved_268
    rw [if_pos (by rw [I_le (by omega) (by omega)]; omega)]
  | succ j ih =>
    intro q hj f hf u A hX hA
    obtain ⟨f, rfl⟩ : ∃ g, f = g + 1 := ⟨f - 1, by omega⟩
    obtain ⟨sg, w, hW⟩ := hX.wv
    obtain ⟨g, u1, w1, h1, X1, W1, p1, F1⟩ := sl_275 (cl := I q) hP4 (lX0_isSolved_268 f) (nP row) 0 (by omega) FU (by show nP row < 1000; omega) u sg w hX hW (fun _ _ _ _ h => by omega)
    obtain ⟨u2, sg2, w2, h2, W2, F2⟩ := comes_x hP4 X1.pb W1 (bdd_r h8 q) (fun r c hr hc => by
      rw [p1 r c hr hc (Or.inl hr)]
      unfold rpl
      by_cases e : c = q
      · rw [if_pos e, if_pos (by rw [e]), hq.2 r hr]
        exact i64_nr (by have := rgt_b row r (nM row); show (rgt row (nM row) r).natAbs ≤ 960; omega)
      · rw [if_neg e, if_neg (by rw [I_inj (by omega) (by omega)]; exact e), hq.1 r c hr hc]
        exact i64_nr (by have := nrm_b row r c (nM row); show (nrm row (nM row) r c).natAbs ≤ 960; omega))
    have X2 := X1.work F2 ⟨_, _, W2⟩
    obtain ⟨u3, h3, X3, F3⟩ := X2.setA (j := q) (by omega) (Int64.ofInt (dtn (nP row) (rpl (nwI row) q (rtI row))))
    obtain ⟨u', h4, h5, h6⟩ := ih (q + 1) (by omega) f (by omega) u3 _ X3 (fun p hp => by
      by_cases e : p = q
      · rw [e, updL_at]; rfl
      · rw [updL_ne _ _ e]; exact hA p (by omega))
    refine ⟨u', ?_, h5, F1.trans ((F2.mono (fun z hz => Or.inr (Or.inr (Or.inr ⟨by have := hz.1; omega, by have := hz.2; omega⟩)))).trans (F3.trans h6))⟩
    show bX0_isSolved_268 (lX0_isSolved_268 f) _ _ _ _ = _
    unfold bX0_isSolved_268
    rw [if_neg (by rw [I_le (by omega) (by omega)]; omega)]
    have h1 : lX0_isSolved_275 (lX0_isSolved_268 f) FU b (I (nP row)) (I q) 0 u = _ := h1
    rw [h1]
    unfold bX0_isSolved_275 bX0_isSolved_359
    rw [if_pos (by rw [I_le (by omega) (by omega)]; omega), chk_t X1.pb.isP, h2, bnd_s, if_pos (I_ge0 (by omega)), X2.pb.r11, bn1_s, h3, bn1_s, nm_s, I_succ, h4]
theorem sl_m1 (hI : INV row) {bel : Int64} {N : Nat → Nat → Int64} {R A : Nat → Int64} {wt sd : Nat → Int32} (hq : xSq row N R (nM row)) (hws : ∀ k, k < nM row → wt k = wP row k ∧ sd k = sP row k) {u : XS} (hX : XSS u b row hd tx bel im N R A wt sd) :
    ∃ u', lX0_isSolved_268 FU b (I (nP row)) (-1) u = some (1, u') ∧ xDone2 u' b row hd tx im ∧ Fr (scr b) u u' := by
  have hP4 := hI.2.1.2.2
  have h8 := hI.1.2
  obtain ⟨sg, w, hW⟩ := hX.wv
  obtain ⟨g, u1, w1, h1, X1, W1, p1, F1⟩ := sl_275 (cl := -1) hP4 (lX0_isSolved_268 999) (nP row) 0 (by omega) FU (by show nP row < 1000; omega) u sg w hX hW (fun _ _ _ _ h => by omega)
  obtain ⟨u2, sg2, w2, h2, W2, F2⟩ := comes_x hP4 X1.pb W1 (bdd_n h8) (fun r c hr hc => by
    rw [p1 r c hr hc (Or.inl hr), if_neg (fun e => I_m1 (show c < 2 ^ 31 by omega) e.symm), hq.1 r c hr hc]
    exact i64_nr (by have := nrm_b row r c (nM row); show (nrm row (nM row) r c).natAbs ≤ 960; omega))
  have X2 := X1.work F2 ⟨_, _, W2⟩
  obtain ⟨u3, h3, X3, F3⟩ := X2.setB (Int64.ofInt (dtn (nP row) (nwI row)))
  obtain ⟨u', h4, h5, h6⟩ := sl_268 (b := b) (hd := hd) (tx := tx) (im := im) hI hq hws (nP row) 0 (by omega) 999 (by omega) u3 A X3 (fun p hp => by omega)
  refine ⟨u', ?_, h5, F1.trans ((F2.mono (fun z hz => Or.inr (Or.inr (Or.inr ⟨by have := hz.1; omega, by have := hz.2; omega⟩)))).trans (F3.trans h6))⟩
  show bX0_isSolved_268 (lX0_isSolved_268 999) _ _ _ _ = _
  unfold bX0_isSolved_268
  have m1 : ¬ I (nP row) ≤ -1 := by
    rw [Int32.le_iff_toInt_le, I_int (by omega)]
    have e : (-1 : Int32).toInt = -1 := rfl
    omega
  rw [if_neg m1]
  have h1 : lX0_isSolved_275 (lX0_isSolved_268 999) FU b (I (nP row)) (-1) 0 u = _ := h1
  rw [h1]
  unfold bX0_isSolved_275 bX0_isSolved_359
  rw [if_pos (by rw [I_le (by omega) (by omega)]; omega), chk_t X1.pb.isP, h2, bnd_s, if_neg (by decide), h3, bn1_s, nm_s]
  exact h4
end XSL
