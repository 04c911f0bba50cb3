/-! limitFor -/
theorem go_on {row : Nat → Int32} (hI : INV row) : (∀ i, i < nM row → goP row (8 + 6 * i + 5) = row (8 + 6 * i + 5)) ∨ ∃ w, w < nM row ∧ ∀ i, i < nM row → goP row (8 + 6 * i + 5) = if i = w then 0 else row (8 + 6 * i + 5) := by
  unfold goP
  split
  · next hh =>
    split
    · exact Or.inl (fun i hi => by unfold incP; rw [upd_ne _ _ (by omega)])
    · obtain ⟨w1, w2⟩ := wr_ok hI hh
      refine Or.inr ⟨wrP row, w2, fun i hi => ?_⟩
      unfold incP dropP
      rw [upd_ne _ _ (by omega), upd_ne _ _ (by omega)]
      by_cases c : i = wrP row
      · rw [if_pos c, c, upd_at]
      · rw [if_neg c, upd_ne _ _ (by omega)]
  · exact Or.inl (fun i hi => by unfold incP; rw [upd_ne _ _ (by omega)])
theorem on_eq {r r' : Nat → Int32} (h : INV r) (h' : INV r') (hn : nM r' = nM r) : onP r' = onP r ↔ ∀ i, i < nM r → r' (8 + 6 * i + 5) = r (8 + 6 * i + 5) := by
  obtain ⟨n, n1, n2, n3, n4⟩ := on_t h
  obtain ⟨m, m1, m2, m3, m4⟩ := on_t h'
  rw [hn] at m1 m4
  rw [n3, m3, I_inj (by omega) (by omega)]
  constructor
  · intro e i hi
    subst e
    have q := (n4 i hi).symm.trans (m4 i hi)
    rcases (h.2.2.1 i hi).2.2.2.2.2 with a | a <;> rcases (h'.2.2.1 i (by omega)).2.2.2.2.2 with c | c
    · rw [a, c]
    · exact absurd (q.mpr c) (by rw [a]; decide)
    · exact absurd (q.mp a) (by rw [c]; decide)
    · rw [a, c]
  · intro e
    refine Nat.eq_of_testBit_eq (fun i => ?_)
    by_cases hi : i < nM r
    · have q1 := n4 i hi
      have q2 := m4 i hi
      rw [e i hi] at q2
      have q : m.testBit i = true ↔ n.testBit i = true := q2.trans q1.symm
      cases h1 : m.testBit i <;> cases h2 : n.testBit i
      · rfl
      · exact absurd (q.mpr h2) (by rw [h1]; decide)
      · exact absurd (q.mp h1) (by rw [h2]; decide)
      · rfl
    · have p : 2 ^ nM r ≤ 2 ^ i := Nat.pow_le_pow_right (by decide) (by omega)
      rw [Nat.testBit_lt_two_pow (by omega), Nat.testBit_lt_two_pow (by omega)]
set_option maxRecDepth 20000 in
theorem st_same : ∀ n, n < 256 → (I n &&& (I n ^^^ (-1 : Int32))) = 0 := by decide
set_option maxRecDepth 40000 in
theorem st_drop : ∀ w, w < 8 → ∀ n, n < 256 → n.testBit w = true → ¬ (I n &&& (I (n ^^^ 2 ^ w) ^^^ (-1 : Int32))) = 0 := by decide
theorem nM_goN {row : Nat → Int32} : ∀ n, nM (goN n row) = nM row := by
  intro n
  induction n generalizing row with
  | zero => rfl
  | succ n ih => show nM (goN n (goP row)) = _; rw [ih, nM_go]
theorem stay_1 {row : Nat → Int32} (hI : INV row) : ((onP row &&& (onP (goP row) ^^^ (-1 : Int32))) = 0 ↔ onP (goP row) = onP row) := by
  obtain ⟨n, n1, n2, n3, n4⟩ := on_t hI
  obtain ⟨m, m1, m2, m3, m4⟩ := on_t hI.go
  have h8 := hI.1.2
  rw [nM_go] at m1 m4
  rcases go_on hI with h | ⟨w, hw, h⟩
  · have e : onP (goP row) = onP row := (on_eq hI hI.go nM_go).mpr h
    rw [e, n3]
    exact ⟨fun _ => rfl, fun _ => st_same n n2⟩
  · by_cases c : row (8 + 6 * w + 5) = 1
    · have e : m = n ^^^ 2 ^ w := by
        refine Nat.eq_of_testBit_eq (fun i => ?_)
        rw [Nat.testBit_xor, Nat.testBit_two_pow]
        by_cases hi : i < nM row
        · have q1 := n4 i hi
          have q2 := m4 i hi
          rw [h i hi] at q2
          by_cases z : i = w
          · rw [if_pos z] at q2
            subst z
            have t1 : m.testBit i = false := by
              cases t : m.testBit i
              · rfl
              · exact absurd (q2.mp t) (by decide)
            rw [t1, q1.mpr c]
            simp
          · rw [if_neg z] at q2
            have q : m.testBit i = true ↔ n.testBit i = true := q2.trans q1.symm
            have zz : decide (w = i) = false := decide_eq_false (fun q => z q.symm)
            rw [zz, Bool.xor_false]
            cases h1 : m.testBit i <;> cases h2 : n.testBit i
            · rfl
            · exact absurd (q.mpr h2) (by rw [h1]; decide)
            · exact absurd (q.mp h1) (by rw [h2]; decide)
            · rfl
        · have p : 2 ^ nM row ≤ 2 ^ i := Nat.pow_le_pow_right (by decide) (by omega)
          have zz : decide (w = i) = false := decide_eq_false (by omega)
          rw [Nat.testBit_lt_two_pow (by omega), Nat.testBit_lt_two_pow (by omega), zz]
          rfl
      have tb := (n4 w hw).mpr c
      rw [n3, m3, e]
      refine ⟨fun q => absurd q (st_drop w (by omega) n n2 tb), fun q => ?_⟩
      have q := (I_inj (by omega) (by omega)).mp q
      have t2 := congrArg (fun x => x.testBit w) q
      rw [Nat.testBit_xor, Nat.testBit_two_pow, tb] at t2
      simp at t2
    · have e : onP (goP row) = onP row := (on_eq hI hI.go nM_go).mpr (fun i hi => by
        rw [h i hi]
        by_cases z : i = w
        · rw [if_pos z, z]
          rcases (hI.2.2.1 w hw).2.2.2.2.2 with a | a
          · exact a.symm
          · exact absurd a c
        · rw [if_neg z])
      rw [e, n3]
      exact ⟨fun _ => rfl, fun _ => st_same n n2⟩
/-- what is off stays off -/
theorem off_stays {row : Nat → Int32} : ∀ n, INV row → ∀ i, i < nM row → row (8 + 6 * i + 5) = 0 → goN n row (8 + 6 * i + 5) = 0 := by
  intro n
  induction n generalizing row with
  | zero => intro _ i _ h; exact h
  | succ n ih =>
    intro hI i hi h
    refine ih hI.go i (by rw [nM_go]; exact hi) ?_
    rcases go_on hI with g | ⟨w, hw, g⟩
    · rw [g i hi]; exact h
    · rw [g i hi]; split
      · rfl
      · exact h
theorem stay_n {row : Nat → Int32} (hI : INV row) (n : Nat) : onP (goN (n + 1) row) = onP row ↔ (onP (goP row) = onP row ∧ onP (goN n (goP row)) = onP (goP row)) := by
  constructor
  · intro h
    have h1 := (on_eq hI (hI.goN (n + 1)) (nM_goN _)).mp h
    have e : onP (goP row) = onP row := (on_eq hI hI.go nM_go).mpr (fun i hi => by
      rcases go_on hI with g | ⟨w, hw, g⟩
      · exact g i hi
      · have gi := g i hi
        by_cases z : i = w
        · rw [if_pos z] at gi
          have e0 := off_stays n hI.go i (by rw [nM_go]; exact hi) gi
          have e1 := h1 i hi
          have e2 : goN (n + 1) row (8 + 6 * i + 5) = goN n (goP row) (8 + 6 * i + 5) := rfl
          rw [gi, ← e1, e2, e0]
        · rw [if_neg z] at gi; exact gi)
    exact ⟨e, by rw [e]; exact h⟩
  · rintro ⟨h1, h2⟩
    rw [← h1]; exact h2
section OPS11
variable {b : Nat} {u : XS} {S : MS}
theorem RL.sim {T : MS} (h : RL b u S) (mk : mKeep S T) (e0 : ∀ i, i < 382 → mIA T 0 i = mIA S 0 i) : RL b u T := by
  obtain ⟨hd, tx, hX, hI, hO⟩ := h
  exact RL.row' hO (Fr.rfl' (P := rnd b)) (fun q => rnd_oth) mk rfl (hX.house Fr.rfl' (hX.hv.e382 e0) (hX.xv.2.2.2.2.1.e382 hI.1.2 e0) (hX.xv.2.2.2.2.2.e382 e0)) (hI.e382 e0)
theorem AsQ.sim {T : MS} {r : Nat → Int32} {hd tx : Nat → Option Nat} (h : AsQ b u S r hd tx) (e0 : ∀ i, i < 382 → mIA T 2 i = r i) : AsQ b u T r hd tx := ⟨h.1, h.2.1, h.2.2.1, h.2.2.2.1, e0⟩
theorem pb_m (S : MS) : ∃ g, fX4_putsBack S = some (sIA S 0 g) ∧ ∀ i, i < 382 → g i = mIA S 2 i := by
  obtain ⟨g, g1, g2⟩ := cp_20 S
  exact ⟨g, by unfold fX4_putsBack; rw [g1, bn1_s], g2⟩
theorem stay_m {n : Nat} (hn : n ≤ 40) {had : Int32} : ∀ (j k : Nat), k + j = n → ∀ f, j < f → ∀ S : MS, INV (mIA S 0) → onP (mIA S 0) = had → ∃ T, lX4_doStay_10 f (I n) had 1 (I k) S = some (if onP (goN j (mIA S 0)) = had then 1 else 0, T) ∧ mKeep S T ∧ mIA T 2 = mIA S 2 ∧ ∀ i, i < 382 → mIA T 0 i = mIA S 2 i := by
  intro j
  induction j with
  | zero =>
    intro k hk f hf S hI he
    obtain ⟨f, rfl⟩ : ∃ g, f = g + 1 := ⟨f - 1, by omega⟩
    obtain ⟨g, g1, g2⟩ := pb_m S
    have e2 : mIA (sIA S 0 g) 2 = mIA S 2 := by rw [mIA_IA, if_neg (by decide)]
    refine ⟨sIA S 0 g, ?_, mKeep.r _, e2, fun i hi => by rw [m00]; exact g2 i hi⟩
    show bX4_doStay_10 (lX4_doStay_10 f) _ _ _ _ _ = _
    unfold bX4_doStay_10 bX4_doStay_47
    rw [if_pos (by rw [I_le (by omega) (by omega)]; omega), g1, bn1_s]
    have e : goN 0 (mIA S 0) = mIA S 0 := rfl
    rw [e, if_pos he]
    rfl
  | succ j ih =>
    intro k hk f hf S hI he
    obtain ⟨f, rfl⟩ : ∃ g, f = g + 1 := ⟨f - 1, by omega⟩
    obtain ⟨T1, t1, t2, t3⟩ := go_m hI
    have hI1 : INV (mIA T1 0) := by rw [t2]; exact hI.go
    have e2 : mIA T1 2 = mIA S 2 := t3.1 2 (by decide) (by decide) (by decide)
    have sn := stay_n hI j
    have s1 := stay_1 hI
    have eM : lX4_doStay_10 (f + 1) (I n) had 1 (I k) S = bX4_doStay_10 (lX4_doStay_10 f) (I n) had 1 (I k) S := rfl
    rw [eM]
    unfold bX4_doStay_10 bX4_doStay_40
    rw [if_neg (by rw [I_le (by omega) (by omega)]; omega), if_neg (by decide), t1, bn1_s, on_m hI1, bnd_s, t2]
    rw [he] at s1 sn
    by_cases c : onP (goP (mIA S 0)) = had
    · rw [if_pos (s1.mpr c), nm_s, I_succ]
      obtain ⟨T, r1, r2, r3, r4⟩ := ih (k + 1) (by omega) f (by omega) T1 hI1 (by rw [t2]; exact c)
      refine ⟨T, ?_, t3.keep.trans r2, r3.trans e2, fun i hi => by rw [r4 i hi, e2]⟩
      rw [r1, t2]
      by_cases d : onP (goN j (goP (mIA S 0))) = had
      · rw [if_pos d, if_pos (sn.mpr ⟨c, by rw [c]; exact d⟩)]
      · rw [if_neg d, if_neg (fun q => d (by rw [← c]; exact (sn.mp q).2))]
    · rw [if_neg (fun q => c (s1.mp q)), nm_s, I_succ, if_neg (fun q => c (sn.mp q).1)]
      obtain ⟨g, g1, g2⟩ := pb_m T1
      obtain ⟨f, rfl⟩ : ∃ g, f = g + 1 := ⟨f - 1, by omega⟩
      have e2' : mIA (sIA T1 0 g) 2 = mIA T1 2 := by rw [mIA_IA, if_neg (by decide)]
      refine ⟨sIA T1 0 g, ?_, t3.keep.trans (mKeep.r _), e2'.trans e2, fun i hi => by rw [m00, g2 i hi, e2]⟩
      show bX4_doStay_10 (lX4_doStay_10 f) _ _ _ _ _ = _
      unfold bX4_doStay_10 bX4_doStay_47
      rw [g1, bn1_s]
      by_cases z : I n ≤ I (k + 1)
      · rw [if_pos z]; rfl
      · rw [if_neg z, if_pos rfl]; rfl
theorem lim_x {n : Nat} (hn : n ≤ 40) {v : Int32} (k29 : Nat → Int32 → Int32 → XS → Option (Int32 × XS)) {r : Nat → Int32} {hd tx : Nat → Option Nat} : ∀ (j k : Nat), k + j = n → ∀ f, j < f → ∀ (u : XS) (S : MS), RL b u S → AsQ b u S r hd tx → ∃ u' S', lX0_limitFor_45 k29 f b (I n) v (I k) u = (if onP (goN j (mIA S 0)) = onP r then some (v, u') else k29 b (I n) (v + 1) u') ∧ RL b u' S' ∧ AsQ b u' S' r hd tx ∧ (∀ i, i < 382 → mIA S' 0 i = r i) ∧ mKeep S S' := by
  intro j
  induction j with
  | zero =>
    intro k hk f hf u S h hq
    obtain ⟨f, rfl⟩ : ∃ g, f = g + 1 := ⟨f - 1, by omega⟩
    obtain ⟨u2, S2, p1, p2, p3, p4, p5, p6, p7⟩ := h.back hq
    refine ⟨u2, S2, ?_, p3, p4, p5, p7⟩
    have eX : lX0_limitFor_45 k29 (f + 1) b (I n) v (I k) u = bX0_limitFor_45 k29 (lX0_limitFor_45 k29 f) b (I n) v (I k) u := rfl
    have us : fX1_used (b + 37) u = some (onP r, u) := used_x hq.1 hq.2.2.2.1
    have e : goN 0 (mIA S 0) = mIA S 0 := rfl
    rw [eX, e]
    unfold bX0_limitFor_45
    have le : I n ≤ I k := by rw [I_le (by omega) (by omega)]; omega
    rw [if_pos le, h.pb.r2, bn1_s, chk_t h.isH, h.used, bnd_s, h.r4, bn1_s, chk_t h.isA, us, bnd_s]
    by_cases c : onP (mIA S 0) = onP r
    · rw [if_pos c, if_pos c, h.pb.r2, bn1_s, h.r4, bn1_s, chk_t h.isH, p1, bn1_s]
    · rw [if_neg c, if_neg c, h.pb.r2, bn1_s, h.r4, bn1_s, chk_t h.isH, p1, bn1_s, nm_s]
  | succ j ih =>
    intro k hk f hf u S h hq
    obtain ⟨f, rfl⟩ : ∃ g, f = g + 1 := ⟨f - 1, by omega⟩
    obtain ⟨u2, T2, p1, p2, p3, p4, p5, p6⟩ := h.go
    obtain ⟨u', S', g1, g2, g3, g4, g5⟩ := ih (k + 1) (by omega) f (by omega) u2 T2 p3 (hq.go p5 p6)
    refine ⟨u', S', ?_, g2, g3, g4, p6.keep.trans g5⟩
    show bX0_limitFor_45 k29 (lX0_limitFor_45 k29 f) _ _ _ _ _ = _
    unfold bX0_limitFor_45
    rw [if_neg (by rw [I_le (by omega) (by omega)]; omega), chk_t h.pb.isP, p1, bn1_s, nm_s, I_succ, g1, p4]
    rfl
theorem on_ext {r r' : Nat → Int32} (h2 : r' 2 = r 2) (h : ∀ i, r' (8 + 6 * i + 5) = r (8 + 6 * i + 5)) : onP r' = onP r := by
  have e : ∀ k, usP r' k = usP r k := by
    intro k
    induction k with
    | zero => rfl
    | succ k ih => show usP r' k ||| _ = usP r k ||| _; rw [ih, h k]
  unfold onP nM
  rw [h2, e]
end OPS11
