/-! isSolved (PictureBlock): the marks are added -/
section XSM
variable {b : Nat} {row : Nat → Int32} {hd tx : Nat → Option Nat} {im : Int32}
theorem xSq_off {N : Nat → Nat → Int64} {R : Nat → Int64} {k : Nat} (h : row (8 + 6 * k + 5) = 0) (hq : xSq row N R k) : xSq row N R (k + 1) := by
  refine ⟨fun i j hi hj => ?_, fun i hi => ?_⟩
  · rw [hq.1 i j hi hj]
    unfold nrm
    rw [if_neg (by rw [h]; decide), Int.add_zero]
    cases k <;> rfl
  · rw [hq.2 i hi]
    unfold rgt
    rw [if_neg (by rw [h]; decide), Int.add_zero]
    cases k <;> rfl
theorem sl_61 (hI : INV row) : ∀ (j k : Nat), k + j = nM row → ∀ f, j < f → ∀ (u : XS) (bel : Int64) (N : Nat → Nat → Int64) (R A : Nat → Int64) (wt sd : Nat → Int32), XSS u b row hd tx bel im N R A wt sd → xSq row N R k → (∀ i, i < k → wt i = wP row i ∧ sd i = sP row i) →
    ∃ u', lX0_isSolved_61 f b (I (nP row)) (I k) u = some (1, u') ∧ xDone2 u' b row hd tx im ∧ Fr (scr b) u u' := by
  have hP4 := hI.2.1.2.2
  have h8 := hI.1.2
  have eW : ∀ x : Int32, x.toInt64 = Int64.ofInt x.toInt := fun x => (Int64.ofInt_int32ToInt x).symm
  have s2 : ∀ {u v : XS}, Fr (sc2 b) u v → Fr (scr b) u v := fun h => h.mono (fun q hq => by rcases hq with h | h <;> simp [scr, h])
  intro j
  induction j with
  | zero =>
    intro k hk f hf u bel N R A wt sd hX hq hws
    obtain ⟨f, rfl⟩ : ∃ g, f = g + 1 := ⟨f - 1, by omega⟩
    have e : k = nM row := by omega
    subst e
    obtain ⟨u', h1, h2, h3⟩ := sl_m1 hI hq hws hX
    refine ⟨u', ?_, h2, h3⟩
    show bX0_isSolved_61 (lX0_isSolved_61 f) _ _ _ _ = _
    unfold bX0_isSolved_61
    rw [hX.pb.r2, bn1_s, hX.hv.i0, bn1_s, if_pos (by rw [hI.1.1, I_le (by omega) (by omega)]; omega), h1]
  | succ j ih =>
    intro k hk f hf u bel N R A wt sd hX hq hws
    obtain ⟨f, rfl⟩ : ∃ g, f = g + 1 := ⟨f - 1, by omega⟩
    obtain ⟨u1, w1, w2, w3⟩ := w_x hX.xv hI (show k < nM row by omega)
    have X1 := hX.sc2 w2 w3
    obtain ⟨u2, a1, X2, F2⟩ := X1.setW (j := k) (by omega) (wP row k)
    obtain ⟨u3, b1, b2, b3⟩ := s_x X2.xv hI (show k < nM row by omega)
    have X3 := X2.sc2 b2 b3
    obtain ⟨u4, c1, X4, F4⟩ := X3.setS (j := k) (by omega) (sP row k)
    have F : Fr (scr b) u u4 := (s2 w3).trans (F2.trans ((s2 b3).trans F4))
    have hws4 : ∀ i, i < k + 1 → upd wt k (wP row k) i = wP row i ∧ upd sd k (sP row k) i = sP row i := by
      intro i hi
      by_cases e : i = k
      · rw [e, upd_at, upd_at]; exact ⟨rfl, rfl⟩
      · rw [upd_ne _ _ e, upd_ne _ _ e]; exact hws i (by omega)
    obtain ⟨-, -, hfr, ⟨t, htP, ht⟩, hne, hon⟩ := hI.2.2.1 k (by omega)
    have ht4 : t < 4 := by omega
    have gW : aI u4 (b + 74) 0 (I k) = some (wP row k) := by rw [X4.getW (by omega), upd_at]
    have gS : aI u4 (b + 75) 0 (I k) = some (sP row k) := by rw [X4.getS (by omega), upd_at]
    show ∃ u', bX0_isSolved_61 (lX0_isSolved_61 f) _ _ _ _ = _ ∧ _
    unfold bX0_isSolved_61
    rw [hX.pb.r2, bn1_s, hX.hv.i0, bn1_s, if_neg (by rw [hI.1.1, I_le (by omega) (by omega)]; omega), hX.pb.r12, bn1_s, chk_t hX.pb.isP, w1, bnd_s, a1, bn1_s, X2.pb.r13, bn1_s, chk_t X2.pb.isP, b1, bnd_s, c1, bn1_s, X4.pb.r2, bn1_s, X4.hv.r12, bn1_s, X4.hv.on (by omega), bn1_s]
    rcases hon with hon | hon
    · rw [if_pos hon]
      obtain ⟨u', h1, h2, h3⟩ := ih (k + 1) (by omega) f (by omega) u4 bel N R A _ _ X4 (xSq_off hon hq) hws4
      refine ⟨u', ?_, h2, F.trans h3⟩
      unfold bX0_isSolved_260
      rw [nm_s, I_succ, h1]
    · rw [if_neg (by rw [hon]; decide), bn1_s, X4.hv.r9, bn1_s, X4.hv.from (by omega), bn1_s, bn1_s, X4.hv.r10, bn1_s, X4.hv.to (by omega), bn1_s, X4.pb.r8, bn1_s, ht, X4.rowN ht4, bn1_s, X4.getN ht4 ht4, bn1_s, X4.pb.r12, bn1_s, gW, bn1_s]
      obtain ⟨u5, d1, X5, F5⟩ := X4.setN (i := t) (j := t) ht4 ht4 (N t t + (wP row k).toInt64)
      have gW5 : aI u5 (b + 74) 0 (I k) = some (wP row k) := by rw [X5.getW (by omega), upd_at]
      have gS5 : aI u5 (b + 75) 0 (I k) = some (sP row k) := by rw [X5.getS (by omega), upd_at]
      obtain ⟨u6, e1, X6, F6⟩ := X5.setR (j := t) ht4 (R t + (wP row k * sP row k).toInt64)
      rw [d1, bn1_s, X5.pb.r10, bn1_s, X5.getR ht4, bn1_s, X5.pb.r12, bn1_s, gW5, bn1_s, X5.pb.r13, bn1_s, gS5, bn1_s, e1, bn1_s]
      rcases hfr with hfr | ⟨a, haP, hfr⟩
      · rw [hfr, if_neg (by decide)]
        obtain ⟨u', h1, h2, h3⟩ := ih (k + 1) (by omega) f (by omega) u6 bel _ _ A _ _ X6 ⟨fun i j hi hj => by
            rw [setM_app, nrm_on hon, vI_g ht ht4 hfr (by omega), vI_g ht ht4 hfr (by omega), Int64.ofInt_add, ← hq.1 i j hi hj]
            by_cases hit : i = t <;> by_cases hjt : j = t
            · rw [if_pos ⟨hit, hjt⟩, if_pos hit, if_pos hjt, hit, hjt, eW, Int.mul_one, Int.mul_one]
            · rw [if_neg (fun q => hjt q.2), if_neg hjt, Int.mul_zero, Int.mul_zero]; simp
            · rw [if_neg (fun q => hit q.1), if_neg hit, Int.zero_mul, Int.mul_zero]; simp
            · rw [if_neg (fun q => hit q.1), if_neg hit, Int.zero_mul, Int.mul_zero]; simp,
          fun i hi => by
            rw [rgt_on hon, vI_g ht ht4 hfr (by omega), Int64.ofInt_add, ← hq.2 i hi]
            by_cases hit : i = t
            · rw [hit, updL_at, if_pos rfl, ws_prod, Int.mul_one]
            · rw [updL_ne _ _ hit, if_neg hit, Int.mul_zero]; simp⟩ hws4
        refine ⟨u', ?_, h2, F.trans (F5.trans (F6.trans h3))⟩
        unfold bX0_isSolved_260
        rw [nm_s, I_succ, h1]
      · have ha4 : a < 4 := by omega
        have hta : t ≠ a := fun e => hne (by rw [hfr, ht, e])
        obtain ⟨u7, f1, X7, F7⟩ := X6.setN (i := a) (j := a) ha4 ha4 (N a a + (wP row k).toInt64)
        obtain ⟨u8, g1, X8, F8⟩ := X7.setN (i := a) (j := t) ha4 ht4 (N a t - (wP row k).toInt64)
        obtain ⟨u9, i1, X9, F9⟩ := X8.setN (i := t) (j := a) ht4 ha4 (N t a - (wP row k).toInt64)
        obtain ⟨u10, k1, X10, F10⟩ := X9.setR (j := a) ha4 (R a - (wP row k * sP row k).toInt64)
        have gW6 : aI u6 (b + 74) 0 (I k) = some (wP row k) := by rw [X6.getW (by omega), upd_at]
        have gW7 : aI u7 (b + 74) 0 (I k) = some (wP row k) := by rw [X7.getW (by omega), upd_at]
        have gW8 : aI u8 (b + 74) 0 (I k) = some (wP row k) := by rw [X8.getW (by omega), upd_at]
        have gW9 : aI u9 (b + 74) 0 (I k) = some (wP row k) := by rw [X9.getW (by omega), upd_at]
        have gS9 : aI u9 (b + 75) 0 (I k) = some (sP row k) := by rw [X9.getS (by omega), upd_at]
        have r1 : aL u6 (b + 63 + a) (I a) = some (N a a) := by rw [X6.getN ha4 ha4, setM_app, if_neg (by omega)]
        have r2 : aL u7 (b + 63 + a) (I t) = some (N a t) := by rw [X7.getN ha4 ht4, setM_app, if_neg (by omega), setM_app, if_neg (by omega)]
        have r3 : aL u8 (b + 63 + t) (I a) = some (N t a) := by rw [X8.getN ht4 ha4, setM_app, if_neg (by omega), setM_app, if_neg (by omega), setM_app, if_neg (by omega)]
        have r4 : aL u9 (b + 72) (I a) = some (R a) := by rw [X9.getR ha4, updL_ne _ _ (Ne.symm hta)]
        rw [hfr, if_pos (I_ge0 (by omega)), X6.pb.r8, bn1_s, X6.rowN ha4, bn1_s, r1, bn1_s, X6.pb.r12, bn1_s, gW6, bn1_s, f1, bn1_s, X7.pb.r8, bn1_s, X7.rowN ha4, bn1_s, r2, bn1_s, X7.pb.r12, bn1_s, gW7, bn1_s, g1, bn1_s, X8.pb.r8, bn1_s, X8.rowN ht4, bn1_s, r3, bn1_s, X8.pb.r12, bn1_s, gW8, bn1_s, i1, bn1_s, X9.pb.r10, bn1_s, r4, bn1_s, X9.pb.r12, bn1_s, gW9, bn1_s, X9.pb.r13, bn1_s, gS9, bn1_s, k1, bn1_s]
        obtain ⟨u', h1, h2, h3⟩ := ih (k + 1) (by omega) f (by omega) u10 bel _ _ A _ _ X10 ⟨fun i j hi hj => by
            rw [setM_app, setM_app, setM_app, setM_app, nrm_on hon, vI_p ht ht4 hfr ha4 (by omega), vI_p ht ht4 hfr ha4 (by omega), Int64.ofInt_add, ← hq.1 i j hi hj]
            by_cases hit : i = t
            · by_cases hjt : j = t
              · rw [if_neg (by omega), if_neg (by omega), if_neg (by omega), if_pos ⟨hit, hjt⟩, if_pos hit, if_neg (by omega), if_pos hjt, if_neg (by omega), hit, hjt, eW]
                simp
              · by_cases hja : j = a
                · rw [if_pos ⟨hit, hja⟩, if_pos hit, if_neg (by omega), if_neg hjt, if_pos hja, hit, hja, eW]
                  simp
                  grind
                · rw [if_neg (by omega), if_neg (by omega), if_neg (by omega), if_neg (by omega), if_neg hjt, if_neg hja]
                  simp
            · by_cases hia : i = a
              · by_cases hjt : j = t
                · rw [if_neg (by omega), if_pos ⟨hia, hjt⟩, if_neg hit, if_pos hia, if_pos hjt, if_neg (by omega), hia, hjt, eW]
                  simp
                  grind
                · by_cases hja : j = a
                  · rw [if_neg (by omega), if_neg (by omega), if_pos ⟨hia, hja⟩, if_neg hit, if_pos hia, if_neg hjt, if_pos hja, hia, hja, eW]
                    simp
                  · rw [if_neg (by omega), if_neg (by omega), if_neg (by omega), if_neg (by omega), if_neg hjt, if_neg hja]
                    simp
              · rw [if_neg (by omega), if_neg (by omega), if_neg (by omega), if_neg (by omega), if_neg hit, if_neg hia]
                simp,
          fun i hi => by
            rw [rgt_on hon, vI_p ht ht4 hfr ha4 (by omega), Int64.ofInt_add, ← hq.2 i hi, ws_prod]
            unfold vp_updL
            by_cases hit : i = t
            · rw [if_neg (by omega), if_pos hit, if_pos hit, if_neg (by omega), hit]
              simp
            · by_cases hia : i = a
              · rw [if_pos hia, if_neg hit, if_pos hia, hia]
                simp
                grind
              · rw [if_neg hia, if_neg hit, if_neg hit, if_neg hia]
                simp⟩ hws4
        refine ⟨u', ?_, h2, F.trans (F5.trans (F6.trans (F7.trans (F8.trans (F9.trans (F10.trans h3))))))⟩
        unfold bX0_isSolved_260
        rw [nm_s, I_succ, h1]
theorem sl_33 {n : Nat} (hn : n ≤ 4) {bel : Int64} {R A : Nat → Int64} {wt sd : Nat → Int32} {r : Nat} (hr : r < n) (k19 : Nat → Int32 → Int32 → XS → Option (Int32 × XS)) : ∀ (j c : Nat), c + j = n → ∀ f, j < f → ∀ (u : XS) (N : Nat → Nat → Int64), XSS u b row hd tx bel im N R A wt sd → (∀ r' c', r' < n → c' < n → (r' < r ∨ (r' = r ∧ c' < c)) → N r' c' = 0) →
    ∃ u' N', lX0_isSolved_33 k19 f b (I n) (I r) (I c) u = k19 b (I n) (I (r + 1)) u' ∧ XSS u' b row hd tx bel im N' R A wt sd ∧ (∀ r' c', r' < n → c' < n → r' < r + 1 → N' r' c' = 0) ∧ Fr (scr b) u u' := by
  intro j
  induction j with
  | zero =>
    intro c hc f hf u N hX hp
    obtain ⟨f, rfl⟩ : ∃ g, f = g + 1 := ⟨f - 1, by omega⟩
    have e : c = n := by omega
    subst e
    refine ⟨u, N, ?_, hX, fun r' c' h1 h2 h3 => hp r' c' h1 h2 (by omega), Fr.rfl'⟩
    show bX0_isSolved_33 k19 (lX0_isSolved_33 k19 f) _ _ _ _ _ = _
    unfold bX0_isSolved_33
    rw [if_pos (by rw [I_le (by omega) (by omega)]; omega), nm_s, I_succ]
  | succ j ih =>
    intro c hc f hf u N hX hp
    obtain ⟨f, rfl⟩ : ∃ g, f = g + 1 := ⟨f - 1, by omega⟩
    obtain ⟨u1, s1, X1, F1⟩ := hX.setN (i := r) (j := c) (by omega) (by omega) 0
    obtain ⟨u', N', h1, h2, h3, h4⟩ := ih (c + 1) (by omega) f (by omega) u1 _ X1 (fun r' c' q1 q2 q3 => by
      rw [setM_app]
      by_cases e : r' = r ∧ c' = c
      · rw [if_pos e]
      · rw [if_neg e]; exact hp r' c' q1 q2 (by omega))
    refine ⟨u', N', ?_, h2, h3, F1.trans h4⟩
    show bX0_isSolved_33 k19 (lX0_isSolved_33 k19 f) _ _ _ _ _ = _
    unfold bX0_isSolved_33
    rw [if_neg (by rw [I_le (by omega) (by omega)]; omega), hX.pb.r8, bn1_s, hX.rowN (by omega), bn1_s, s1, bn1_s, nm_s, I_succ, h1]
theorem sl_19 (hI : INV row) : ∀ (j r : Nat), r + j = nP row → ∀ f, j < f → ∀ (u : XS) (bel : Int64) (N : Nat → Nat → Int64) (R A : Nat → Int64) (wt sd : Nat → Int32), XSS u b row hd tx bel im N R A wt sd → (∀ r' c', r' < nP row → c' < nP row → r' < r → N r' c' = 0) → (∀ i, i < r → R i = 0) →
    ∃ u', lX0_isSolved_19 f b (I (nP row)) (I r) u = some (1, u') ∧ xDone2 u' b row hd tx im ∧ Fr (scr b) u u' := by
  have hP4 := hI.2.1.2.2
  have h8 := hI.1.2
  intro j
  induction j with
  | zero =>
    intro r hr f hf u bel N R A wt sd hX hN hR
    obtain ⟨f, rfl⟩ : ∃ g, f = g + 1 := ⟨f - 1, by omega⟩
    obtain ⟨u', h1, h2, h3⟩ := sl_61 hI (nM row) 0 (by omega) FU (by show nM row < 1000; omega) u bel N R A wt sd hX ⟨fun i j hi hj => hN i j hi hj (by omega), fun i hi => hR i (by omega)⟩ (fun i hi => by omega)
    refine ⟨u', ?_, h2, h3⟩
    show bX0_isSolved_19 (lX0_isSolved_19 f) _ _ _ _ = _
    unfold bX0_isSolved_19
    rw [if_pos (by rw [I_le (by omega) (by omega)]; omega)]
    exact h1
  | succ j ih =>
    intro r hr f hf u bel N R A wt sd hX hN hR
    obtain ⟨f, rfl⟩ : ∃ g, f = g + 1 := ⟨f - 1, by omega⟩
    obtain ⟨u1, s1, X1, F1⟩ := hX.setR (j := r) (by omega) 0
    obtain ⟨u2, N2, t1, X2, n2, F2⟩ := sl_33 hP4 (show r < nP row by omega) (lX0_isSolved_19 f) (nP row) 0 (by omega) FU (by show nP row < 1000; omega) u1 N X1 (fun r' c' q1 q2 q3 => hN r' c' q1 q2 (by omega))
    obtain ⟨u', h1, h2, h3⟩ := ih (r + 1) (by omega) f (by omega) u2 bel N2 _ A wt sd X2 n2 (fun i hi => by
      by_cases e : i = r
      · rw [e, updL_at]
      · rw [updL_ne _ _ e]; exact hR i (by omega))
    refine ⟨u', ?_, h2, F1.trans (F2.trans h3)⟩
    show bX0_isSolved_19 (lX0_isSolved_19 f) _ _ _ _ = _
    unfold bX0_isSolved_19
    have t1 : lX0_isSolved_33 (lX0_isSolved_19 f) FU b (I (nP row)) (I r) 0 u1 = _ := t1
    rw [if_neg (by rw [I_le (by omega) (by omega)]; omega), hX.pb.r10, bn1_s, s1, bn1_s, t1, h1]
theorem solve_no {u : XS} (h : XV u b row hd tx) (hI : INV row) (hq : ¬ heldQ row) : fX0_isSolved b u = some (0, u) := by
  unfold fX0_isSolved
  unfold heldQ at hq
  rw [chk_t h.1.isP, held_xx h hI, bnd_s, if_neg hq, if_pos rfl]
theorem solve_yes2 {u : XS} {bel : Int64} {N : Nat → Nat → Int64} {R A : Nat → Int64} {wt sd : Nat → Int32} (h : XSS u b row hd tx bel im N R A wt sd) (hI : INV row) (hq : heldQ row) : ∃ u', fX0_isSolved b u = some (1, u') ∧ xDone2 u' b row hd tx im ∧ Fr (scr b) u u' := by
  have hP4 := hI.2.1.2.2
  obtain ⟨u', h1, h2, h3⟩ := sl_19 hI (nP row) 0 (by omega) FU (by show nP row < 1000; omega) u bel N R A wt sd h (fun _ _ _ _ q => by omega) (fun _ q => by omega)
  refine ⟨u', ?_, h2, h3⟩
  unfold heldQ at hq
  unfold fX0_isSolved
  rw [chk_t h.pb.isP, held_xx h.xv hI, bnd_s, if_pos hq, if_neg (by decide), h.pb.r2, bn1_s, h.hv.i1, bn1_s, hI.2.1.1]
  exact h1
theorem solve_yes {u : XS} {bel : Int64} {N : Nat → Nat → Int64} {R A : Nat → Int64} {wt sd : Nat → Int32} (h : XSS u b row hd tx bel im N R A wt sd) (hI : INV row) (hq : heldQ row) : ∃ u', fX0_isSolved b u = some (1, u') ∧ xDone u' b row hd tx im ∧ Fr (scr b) u u' := by
  obtain ⟨u', h1, h2, h3⟩ := solve_yes2 h hI hq
  exact ⟨u', h1, h2.d, h3⟩
end XSM
