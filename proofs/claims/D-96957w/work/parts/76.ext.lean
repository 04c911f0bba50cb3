/-! more cells: all that was so stays so -/
theorem xnew_at (u : XS) (x : AE) : (xnew u x).1 u.2 = some x := va_up_self _ _ _
theorem xnew_ne (u : XS) {q : Nat} (x : AE) (h : q ≠ u.2) : (xnew u x).1 q = u.1 q := va_up_ne _ _ h
def Ex (u v : XS) : Prop := ∀ q x, u.1 q = some x → v.1 q = some x
theorem Ex.trans {u v w : XS} (h : Ex u v) (k : Ex v w) : Ex u w := fun q x e => k q x (h q x e)
theorem Ex.rfl' {u : XS} : Ex u u := fun _ _ e => e
section EXs
variable {u v : XS} {a b lo : Nat} {row : Nat → Int32} {hd tx : Nat → Option Nat} {S : MS} {im : Int32}
theorem HV.ex (h : HV u a row hd tx) (e : Ex u v) : HV v a row hd tx := by
  obtain ⟨h0, h1, h2, h3, h4, h5, h6, h7, h8, h9⟩ := h
  exact ⟨e _ _ h0, e _ _ h1, e _ _ h2, e _ _ h3, e _ _ h4, e _ _ h5, e _ _ h6, e _ _ h7, e _ _ h8, fun k hk => e _ _ (h9 k hk)⟩
theorem MKv.ex (h : MKv u lo row hd) (e : Ex u v) : MKv v lo row hd := by
  intro k hk
  obtain ⟨m, a1, a2, a3⟩ := h k hk
  exact ⟨m, a1, a2, e _ _ a3⟩
theorem TZ1.ex {ad : Option Nat} (h : TZ1 u lo row a ad) (e : Ex u v) : TZ1 v lo row a ad := by
  rcases h with h | ⟨t, s, w, L, f, g, h1, h2, h3, h4, h5, h6, h7, h8⟩
  · exact Or.inl h
  · exact Or.inr ⟨t, s, w, L, f, g, h1, h2, h3, h4, e _ _ h5, e _ _ h6, e _ _ h7, h8⟩
theorem TXv.ex (h : TXv u lo row tx) (e : Ex u v) : TXv v lo row tx := ⟨h.1.ex e, h.2.ex e⟩
theorem XQ.ex (h : XQ u b row hd tx im) (e : Ex u v) : XQ v b row hd tx im := by
  obtain ⟨bel, N, R, A, wt, sd, ⟨⟨b1, b2, h1⟩, ⟨p, h2⟩, ⟨p2, h3⟩, h4, h5, h6⟩, g1, ⟨g2, g3⟩, ⟨sg, w, w1, w2, ⟨pf, w3, w4⟩, w5⟩, g4, g5, g6, g7⟩ := h
  exact ⟨bel, N, R, A, wt, sd, ⟨⟨b1, b2, e _ _ h1⟩, ⟨p, e _ _ h2⟩, ⟨p2, e _ _ h3⟩, h4.ex e, h5.ex e, h6.ex e⟩, e _ _ g1, ⟨e _ _ g2, fun i hi => e _ _ (g3 i hi)⟩, ⟨sg, w, w1, w2, ⟨pf, e _ _ w3, w4⟩, fun i hi => e _ _ (w5 i hi)⟩, e _ _ g4, e _ _ g5, e _ _ g6, e _ _ g7⟩
theorem SH1.ex {s : Nat} {ad : Option Nat} (h : SH1 u lo S s ad) (e : Ex u v) : SH1 v lo S s ad := by
  rcases h with h | ⟨q, t, n, f, h1, h2, h3, h4⟩
  · exact Or.inl h
  · exact Or.inr ⟨q, t, n, f, h1, h2, e _ _ h3, h4⟩
theorem RO.ex (h : RO b u S) (e : Ex u v) : RO b v S := by
  obtain ⟨⟨krow, kd, kt, k1, k2⟩, ⟨r, hh, t, a1⟩, ⟨f, f1, f2⟩, ⟨t1, ⟨g, t2, t3⟩, t4⟩, ⟨ad, s1, s2, s3⟩⟩ := h
  refine ⟨⟨krow, kd, kt, k1.ex e, fun h0 => ?_⟩, ⟨r, hh, t, a1.ex e⟩, ⟨f, e _ _ f1, f2⟩, ⟨e _ _ t1, ⟨g, e _ _ t2, t3⟩, t4⟩, ⟨ad, e _ _ s1, fun s hs => ⟨e _ _ (s2 s hs).1, (s2 s hs).2.ex e⟩, s3⟩⟩
  obtain ⟨c1, c2, c3, c4⟩ := k2 h0
  exact ⟨c1, c2, c3.ex e, c4.ex e⟩
theorem RL.ex (h : RL b u S) (e : Ex u v) : RL b v S := by
  obtain ⟨hd, tx, hX, hI, hO⟩ := h
  exact ⟨hd, tx, hX.ex e, hI, hO.ex e⟩
theorem Ex.new (h : fin u) (x : AE) : Ex u (xnew u x) := fun q y e => by
  have := h q y e
  rw [xnew_ne u x (by omega)]; exact e
theorem fin.new (h : fin u) (x : AE) : fin (xnew u x) := by
  intro q y e
  show q < u.2 + 1
  by_cases c : q = u.2
  · omega
  · rw [xnew_ne u x c] at e
    have := h q y e
    omega
theorem fin.set (h : fin u) {q : Nat} (hq : q < u.2) (x : AE) : fin (xset u q x) := by
  intro p y e
  show p < u.2
  by_cases c : p = q
  · omega
  · rw [xset_ne u x c] at e
    exact h p y e
/-! the row, where a house tells it -/
theorem HV.rext {row' : Nat → Int32} (h : HV u a row hd tx) (h1 : ∀ i, i < 8 → row' i = row i) (h2 : ∀ k w, k < 8 → 2 ≤ w → w ≤ 5 → row' (8 + 6 * k + w) = row (8 + 6 * k + w)) (h3 : ∀ i, 56 ≤ i → i < 140 → row' i = row i) : HV u a row' hd tx := by
  have eo : hoF row' a = hoF row a := by
    unfold hoF
    rw [h1 0 (by omega), h1 1 (by omega), h1 2 (by omega), h1 3 (by omega), h1 4 (by omega), h1 5 (by omega), h1 6 (by omega), h1 7 (by omega)]
  have ec : ∀ w, 2 ≤ w → w ≤ 5 → col row' w = col row w := by
    intro w a b
    funext k
    unfold col
    split
    · exact h2 k w (by assumption) a b
    · rfl
  have et : tpF row' = tpF row := by
    funext k
    unfold tpF
    split
    · rw [h3 _ (by omega) (by omega)]
    · rfl
  have ew : wtF row' = wtF row := by
    funext k
    unfold wtF
    split
    · rw [h3 _ (by omega) (by omega)]
    · rfl
  unfold HV
  rw [eo, ec 2 (by omega) (by omega), ec 3 (by omega) (by omega), ec 4 (by omega) (by omega), ec 5 (by omega) (by omega), et, ew]
  exact h
end EXs
/-! a new mark -/
theorem pFM_of {u : XS} {a ci k : Nat} {fs : List Value} {v : Value} (h : u.1 a = some (aeO ci fs)) (h5 : 5 ≤ ci ∧ ci ≤ 11) (hk : k < fs.length) : pFM u a k v = some (xset u a (aeO ci (fs.set k v))) := by
  unfold pFM
  rw [xObj_of h]
  simp only [if_pos h5]
  exact pF_of h hk
theorem init5_x {u : XS} {a ci : Nat} (h5 : 5 ≤ ci ∧ ci ≤ 11) {x y p q : Int32} (h : u.1 a = some (aeO ci [.int p, .int q])) : ∃ u', fX5_init a x y u = some u' ∧ u'.1 a = some (aeO ci [.int x, .int y]) ∧ u'.2 = u.2 ∧ ∀ q, q ≠ a → u'.1 q = u.1 q := by
  have h1 := pFM_of (k := 0) (v := .int x) h h5 (by show 0 < 2; decide)
  have e1 : (xset u a (aeO ci [.int x, .int q])).1 a = some (aeO ci [.int x, .int q]) := xset_at _ _ _
  have h2 := pFM_of (k := 1) (v := .int y) e1 h5 (by show 1 < 2; decide)
  refine ⟨xset (xset u a (aeO ci [.int x, .int q])) a (aeO ci [.int x, .int y]), ?_, xset_at _ _ _, rfl, fun z hz => by rw [xset_ne _ _ hz, xset_ne _ _ hz]⟩
  unfold fX5_init
  have h1 : pFM u a 0 (.int x) = some (xset u a (aeO ci [.int x, .int q])) := h1
  have h2 : pFM (xset u a (aeO ci [.int x, .int q])) a 1 (.int y) = some (xset (xset u a (aeO ci [.int x, .int q])) a (aeO ci [.int x, .int y])) := h2
  rw [h1, bn1_s, h2, bn1_s]
theorem made_x {u : XS} {kd : Nat} (hk : kd ≤ 6) (x y : Int32) : ∃ u', fX0_made (I kd) x y u = some (u.2, u') ∧ u'.1 u.2 = some (aeO (5 + kd) [.int x, .int y]) ∧ u'.2 = u.2 + 1 ∧ ∀ q, q ≠ u.2 → u'.1 q = u.1 q := by
  obtain ⟨u', h1, h2, h3, h4⟩ := init5_x (u := xnew u (aeO (5 + kd) [.int 0, .int 0])) (a := u.2) (ci := 5 + kd) (by omega) (x := x) (y := y) (xnew_at _ _)
  refine ⟨u', ?_, h2, h3, fun q hq => (h4 q hq).trans (xnew_ne u _ hq)⟩
  unfold fX0_made
  have hc : kd = 0 ∨ kd = 1 ∨ kd = 2 ∨ kd = 3 ∨ kd = 4 ∨ kd = 5 ∨ kd = 6 := by omega
  rcases hc with rfl | rfl | rfl | rfl | rfl | rfl | rfl
  · rw [if_neg (by decide), if_neg (by decide), if_neg (by decide), if_neg (by decide), if_neg (by decide), if_neg (by decide), nm_s]
    rw [h1, bn1_s]
  · rw [if_pos (by decide), nm_s]
    unfold fX6_init
    rw [h1, bn1_s, bn1_s]
  · rw [if_neg (by decide), if_pos (by decide), nm_s]
    unfold fX7_init
    rw [h1, bn1_s, bn1_s]
  · rw [if_neg (by decide), if_neg (by decide), if_pos (by decide), nm_s]
    unfold fX8_init
    rw [h1, bn1_s, bn1_s]
  · rw [if_neg (by decide), if_neg (by decide), if_neg (by decide), if_pos (by decide), nm_s]
    unfold fX9_init fX6_init
    rw [h1, bn1_s, bn1_s, bn1_s]
  · rw [if_neg (by decide), if_neg (by decide), if_neg (by decide), if_neg (by decide), if_pos (by decide), nm_s]
    unfold fX10_init fX7_init
    rw [h1, bn1_s, bn1_s, bn1_s]
  · rw [if_neg (by decide), if_neg (by decide), if_neg (by decide), if_neg (by decide), if_neg (by decide), if_pos (by decide), nm_s]
    unfold fX11_init
    rw [h1, bn1_s, bn1_s]
