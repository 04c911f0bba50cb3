/-! comesTo: the square as it lies -/
theorem isL_of {u : XS} {a n : Nat} {f : Nat → Int64} (h : u.1 a = some (aeL n f)) : isL u a = true := by unfold isL; rw [h]
def wkS (b : Nat) : Nat → Prop := fun q => b + 67 ≤ q ∧ q ≤ b + 71
def WVs (u : XS) (b : Nat) (sg : Nat → Nat) (M : Nat → Nat → Int64) : Prop :=
  (∀ i, i < 4 → sg i < 4) ∧ (∀ i j, i < 4 → j < 4 → sg i = sg j → i = j) ∧ (∃ pf, u.1 (b + 67) = some (aeQ 6 4 pf) ∧ ∀ i, i < 4 → pf i = some (b + 68 + sg i)) ∧ ∀ i, i < 4 → u.1 (b + 68 + sg i) = some (aeL 4 (M i))
def setM (M : Nat → Nat → Int64) (r c : Nat) (x : Int64) : Nat → Nat → Int64 := fun i => if i = r then vp_updL (M r) c x else M i
section WVr
variable {u : XS} {b : Nat} {sg : Nat → Nat} {M : Nat → Nat → Int64}
theorem WVs.row (h : WVs u b sg M) {i : Nat} (hi : i < 4) : aR u (b + 67) 6 (I i) = some (b + 68 + sg i) := by
  obtain ⟨h1, h2, ⟨pf, h3, h4⟩, h5⟩ := h
  exact aR_of h3 hi (by decide) (h4 i hi)
theorem WVs.get (h : WVs u b sg M) {i c : Nat} (hi : i < 4) (hc : c < 4) : aL u (b + 68 + sg i) (I c) = some (M i c) := aL_of (h.2.2.2 i hi) hc (by decide)
theorem WVs.isl (h : WVs u b sg M) {i : Nat} (hi : i < 4) : isL u (b + 68 + sg i) = true := isL_of (h.2.2.2 i hi)
theorem WVs.set (h : WVs u b sg M) {i c : Nat} (hi : i < 4) (hc : c < 4) (x : Int64) : ∃ u', sL u (b + 68 + sg i) (I c) x = some u' ∧ WVs u' b sg (setM M i c x) ∧ Fr (wkS b) u u' := by
  refine ⟨_, sL_of (h.2.2.2 i hi) hc (by decide) x, ?_, Fr.set _ ⟨by omega, by have := h.1 i hi; omega⟩⟩
  obtain ⟨h1, h2, ⟨pf, h3, h4⟩, h5⟩ := h
  refine ⟨h1, h2, ⟨pf, (xset_ne u _ (by omega)).trans h3, h4⟩, fun j hj => ?_⟩
  unfold setM
  by_cases e : j = i
  · subst e
    rw [if_pos rfl]
    exact xset_at _ _ _
  · rw [if_neg e]
    exact (xset_ne u _ (fun k => e (h2 j i hj hi (by omega)))).trans (h5 j hj)
theorem WVs.swap (h : WVs u b sg M) {i p : Nat} (hi : i < 4) (hp : p < 4) (hip : i < p) : ∃ u1 u2 sg', sQ u (b + 67) 6 (I p) (some (b + 68 + sg i)) = some u1 ∧ sQ u1 (b + 67) 6 (I i) (some (b + 68 + sg p)) = some u2 ∧ isL u1 (b + 68 + sg p) = true ∧ WVs u2 b sg' (swp M i p) ∧ Fr (wkS b) u u1 ∧ Fr (wkS b) u u2 := by
  obtain ⟨h1, h2, ⟨pf, h3, h4⟩, h5⟩ := h
  let u1 := xset u (b + 67) (aeQ 6 4 (va_up pf p (some (b + 68 + sg i))))
  have a1 : u1.1 (b + 67) = some (aeQ 6 4 (va_up pf p (some (b + 68 + sg i)))) := xset_at _ _ _
  have F1 : Fr (wkS b) u u1 := Fr.set _ ⟨by omega, by omega⟩
  have F2 : Fr (wkS b) u1 (xset u1 (b + 67) (aeQ 6 4 (va_up (va_up pf p (some (b + 68 + sg i))) i (some (b + 68 + sg p))))) := Fr.set _ ⟨by omega, by omega⟩
  refine ⟨u1, _, fun k => if k = i then sg p else if k = p then sg i else sg k, sQ_of h3 hp (by decide) _, sQ_of a1 hi (by decide) _, ?_, ⟨fun k hk => ?_, fun k j hk hj e => ?_, ⟨_, xset_at _ _ _, fun k hk => ?_⟩, fun k hk => ?_⟩, F1, F1.trans F2⟩
  · exact isL_of ((xset_ne u _ (by omega)).trans (h5 p hp))
  · have q1 := h1 i hi; have q2 := h1 p hp; have q3 := h1 k hk
    show (if k = i then sg p else if k = p then sg i else sg k) < 4
    split
    · exact q2
    · split
      · exact q1
      · exact q3
  · have e : (if k = i then sg p else if k = p then sg i else sg k) = (if j = i then sg p else if j = p then sg i else sg j) := e
    split at e
    · next c1 =>
      split at e
      · omega
      · next c2 =>
        split at e
        · have := h2 p i hp hi e; omega
        · next c3 => have := h2 p j hp hj e; omega
    · next c1 =>
      split at e
      · next c2 =>
        split at e
        · have := h2 i p hi hp e; omega
        · next c3 =>
          split at e
          · next c4 => omega
          · next c4 => have := h2 i j hi hj e; omega
      · next c2 =>
        split at e
        · next c3 => have := h2 k p hk hp e; omega
        · next c3 =>
          split at e
          · next c4 => have := h2 k i hk hi e; omega
          · next c4 => exact h2 k j hk hj e
  · show va_up (va_up pf p (some (b + 68 + sg i))) i (some (b + 68 + sg p)) k = some (b + 68 + (if k = i then sg p else if k = p then sg i else sg k))
    by_cases c1 : k = i
    · subst c1; rw [va_up_self, if_pos rfl]
    · rw [va_up_ne _ _ c1, if_neg c1]
      by_cases c2 : k = p
      · subst c2; rw [va_up_self, if_pos rfl]
      · rw [va_up_ne _ _ c2, if_neg c2]; exact h4 k hk
  · refine (xset_ne u1 _ (by show b + 68 + _ ≠ _; omega)).trans ((xset_ne u _ (by show b + 68 + _ ≠ _; omega)).trans ?_)
    show u.1 (b + 68 + (if k = i then sg p else if k = p then sg i else sg k)) = some (aeL 4 (swp M i p k))
    unfold swp
    by_cases c1 : k = i
    · rw [if_pos c1, if_pos c1]; exact h5 p hp
    · rw [if_neg c1, if_neg c1]
      by_cases c2 : k = p
      · rw [if_pos c2, if_pos c2]; exact h5 i hi
      · rw [if_neg c2, if_neg c2]; exact h5 k hk
end WVr
/-- the square, worked out as far as row r, column c -/
def elC (n i : Nat) (last : Int64) (w : Nat → Nat → Int64) (r c : Nat) : Nat → Nat → Int64 := fun r' c' => if i < r' ∧ (r' < r ∨ (r' = r ∧ c' < c)) ∧ i < c' ∧ c' < n then (w r' c' * w i i - w r' i * w i c') / last else w r' c'
theorem elC_lo {n i : Nat} {last : Int64} {w : Nat → Nat → Int64} {r c r' c' : Nat} (h : ¬ (i < r' ∧ (r' < r ∨ (r' = r ∧ c' < c)) ∧ i < c' ∧ c' < n)) : elC n i last w r c r' c' = w r' c' := if_neg h
theorem elC_set {n i : Nat} {last : Int64} {w : Nat → Nat → Int64} {r c : Nat} (hr : i < r) (hc : i < c) (hcn : c < n) : setM (elC n i last w r c) r c ((w r c * w i i - w r i * w i c) / last) = elC n i last w r (c + 1) := by
  funext r' c'
  unfold setM
  by_cases e : r' = r
  · subst e
    rw [if_pos rfl]
    by_cases f : c' = c
    · subst f
      rw [updL_at]
      unfold elC
      rw [if_pos ⟨hr, Or.inr ⟨rfl, by omega⟩, hc, hcn⟩]
    · rw [updL_ne _ _ f]
      unfold elC
      by_cases q : i < r' ∧ (r' < r' ∨ (r' = r' ∧ c' < c)) ∧ i < c' ∧ c' < n
      · rw [if_pos q, if_pos (by omega)]
      · rw [if_neg q, if_neg (by omega)]
  · rw [if_neg e]
    unfold elC
    have q : (i < r' ∧ (r' < r ∨ (r' = r ∧ c' < c)) ∧ i < c' ∧ c' < n) ↔ (i < r' ∧ (r' < r ∨ (r' = r ∧ c' < c + 1)) ∧ i < c' ∧ c' < n) := by omega
    simp only [q]
theorem elC_row {n i : Nat} {last : Int64} {w : Nat → Nat → Int64} {r : Nat} : elC n i last w r n = elC n i last w (r + 1) (i + 1) := by
  funext r' c'
  unfold elC
  have q : (i < r' ∧ (r' < r ∨ (r' = r ∧ c' < n)) ∧ i < c' ∧ c' < n) ↔ (i < r' ∧ (r' < r + 1 ∨ (r' = r + 1 ∧ c' < i + 1)) ∧ i < c' ∧ c' < n) := by omega
  simp only [q]
theorem elC_0 {n i : Nat} {last : Int64} {w : Nat → Nat → Int64} : elC n i last w (i + 1) (i + 1) = w := by
  funext r' c'
  unfold elC
  rw [if_neg (by omega)]
theorem elC_n {n i : Nat} {last : Int64} {w : Nat → Nat → Int64} : elC n i last w n (i + 1) = elm n i last w := by
  funext r' c'
  unfold elC elm
  have q : (i < r' ∧ (r' < n ∨ (r' = n ∧ c' < i + 1)) ∧ i < c' ∧ c' < n) ↔ (i < r' ∧ r' < n ∧ i < c' ∧ c' < n) := by omega
  simp only [q]
section CM
variable {b n : Nat} {sg : Nat → Nat} {w : Nat → Nat → Int64}
theorem cm_115 {i r : Nat} {last sgn : Int64} (hn : n ≤ 4) (hir : i < r) (hrn : r < n) (hl : ¬ last = 0) (k8 : Nat → Int32 → Int64 → Int64 → Int32 → XS → Option (Int64 × XS)) (k103 : Nat → Int32 → Int64 → Int64 → Int32 → Int32 → XS → Option (Int64 × XS)) : ∀ (j c : Nat), c + j = n → i < c → ∀ f, j < f → ∀ u, PB u b → WVs u b sg (elC n i last w r c) →
    ∃ u', lX0_comesTo_115 k8 k103 f b (I n) last sgn (I i) (I r) (I c) u = k103 b (I n) last sgn (I i) (I (r + 1)) u' ∧ WVs u' b sg (elC n i last w r n) ∧ Fr (wkS b) u u' := by
  intro j
  induction j with
  | zero =>
    intro c hc hic f hf u hB hW
    obtain ⟨f, rfl⟩ : ∃ g, f = g + 1 := ⟨f - 1, by omega⟩
    have e : c = n := by omega
    subst e
    refine ⟨u, ?_, hW, Fr.rfl'⟩
    show bX0_comesTo_115 k8 k103 (lX0_comesTo_115 k8 k103 f) _ _ _ _ _ _ _ _ = _
    unfold bX0_comesTo_115
    rw [if_pos (by rw [I_le (by omega) (by omega)]; omega), nm_s, I_succ]
  | succ j ih =>
    intro c hc hic f hf u hB hW
    obtain ⟨f, rfl⟩ : ∃ g, f = g + 1 := ⟨f - 1, by omega⟩
    obtain ⟨u1, s1, W1, F1⟩ := hW.set (i := r) (c := c) (by omega) (by omega) ((w r c * w i i - w r i * w i c) / last)
    rw [elC_set hir hic (by omega)] at W1
    obtain ⟨u', h1, h2, h3⟩ := ih (c + 1) (by omega) (by omega) f (by omega) u1 (hB.fr (F1.2 b (fun q => by have := q.1; omega))) W1
    refine ⟨u', ?_, h2, F1.trans h3⟩
    show bX0_comesTo_115 k8 k103 (lX0_comesTo_115 k8 k103 f) _ _ _ _ _ _ _ _ = _
    unfold bX0_comesTo_115
    rw [if_neg (by rw [I_le (by omega) (by omega)]; omega)]
    simp only [hB.r9, bn1_s, hW.row (show r < 4 by omega), hW.row (show i < 4 by omega), hW.get (show r < 4 by omega) (show c < 4 by omega), hW.get (show i < 4 by omega) (show i < 4 by omega), hW.get (show r < 4 by omega) (show i < 4 by omega), hW.get (show i < 4 by omega) (show c < 4 by omega)]
    rw [elC_lo (by omega), elC_lo (by omega), elC_lo (by omega), elC_lo (by omega), chk_t (ne0L_t hl), s1, bn1_s, nm_s, I_succ, h1]
theorem cm_103 {i : Nat} {last sgn : Int64} (hn : n ≤ 4) (hin : i < n) (hl : ¬ last = 0) (k8 : Nat → Int32 → Int64 → Int64 → Int32 → XS → Option (Int64 × XS)) : ∀ (j r : Nat), r + j = n → i < r → ∀ f, j < f → ∀ u, PB u b → WVs u b sg (elC n i last w r (i + 1)) →
    ∃ u', lX0_comesTo_103 k8 f b (I n) last sgn (I i) (I r) u = k8 b (I n) (w i i) sgn (I (i + 1)) u' ∧ WVs u' b sg (elm n i last w) ∧ Fr (wkS b) u u' := by
  intro j
  induction j with
  | zero =>
    intro r hr hir f hf u hB hW
    obtain ⟨f, rfl⟩ : ∃ g, f = g + 1 := ⟨f - 1, by omega⟩
    have e : r = n := by omega
    subst e
    rw [elC_n] at hW
    refine ⟨u, ?_, hW, Fr.rfl'⟩
    show bX0_comesTo_103 k8 (lX0_comesTo_103 k8 f) _ _ _ _ _ _ _ = _
    unfold bX0_comesTo_103
    rw [if_pos (by rw [I_le (by omega) (by omega)]; omega), hB.r9, bn1_s, hW.row (show i < 4 by omega), bn1_s, hW.get (show i < 4 by omega) (show i < 4 by omega), bn1_s, nm_s, I_succ]
    have e2 : elm r i last w i i = w i i := if_neg (by omega)
    rw [e2]
  | succ j ih =>
    intro r hr hir f hf u hB hW
    obtain ⟨f, rfl⟩ : ∃ g, f = g + 1 := ⟨f - 1, by omega⟩
    obtain ⟨u1, h1, W1, F1⟩ := cm_115 (sgn := sgn) hn hir (by omega) hl k8 (lX0_comesTo_103 k8 f) (n - (i + 1)) (i + 1) (by omega) (by omega) FU (by show _ < 1000; omega) u hB hW
    rw [elC_row] at W1
    obtain ⟨u', h2, h3, h4⟩ := ih (r + 1) (by omega) (by omega) f (by omega) u1 (hB.fr (F1.2 b (fun q => by have := q.1; omega))) W1
    refine ⟨u', ?_, h3, F1.trans h4⟩
    show bX0_comesTo_103 k8 (lX0_comesTo_103 k8 f) _ _ _ _ _ _ _ = _
    unfold bX0_comesTo_103
    rw [if_neg (by rw [I_le (by omega) (by omega)]; omega), nm_s, I_succ, h1, h2]
theorem cm_97 {i : Nat} {last sgn : Int64} (hn : n ≤ 4) (hin : i < n) (hl : ¬ last = 0) (k8 : Nat → Int32 → Int64 → Int64 → Int32 → XS → Option (Int64 × XS)) {u : XS} (hB : PB u b) (hW : WVs u b sg w) :
    ∃ u', bX0_comesTo_97 k8 b (I n) last sgn (I i) u = k8 b (I n) (w i i) sgn (I (i + 1)) u' ∧ WVs u' b sg (elm n i last w) ∧ Fr (wkS b) u u' := by
  obtain ⟨u', h1, h2, h3⟩ := cm_103 (b := b) (sg := sg) (w := w) (last := last) (sgn := sgn) hn hin hl k8 (n - (i + 1)) (i + 1) (by omega) (by omega) FU (by show _ < 1000; omega) u hB (by rw [elC_0]; exact hW)
  refine ⟨u', ?_, h2, h3⟩
  unfold bX0_comesTo_97
  rw [nm_s, I_succ, h1]
theorem cm_18 {i : Nat} {last sgn : Int64} (hn : n ≤ 4) (hin : i < n) (k8 : Nat → Int32 → Int64 → Int64 → Int32 → XS → Option (Int64 × XS)) {u : XS} (hB : PB u b) (hW : WVs u b sg w) : ∀ (j p : Nat), p ≤ n → n ≤ p + j → ∀ f, j < f → lX0_comesTo_18 k8 f b (I n) last sgn (I i) (I p) u = bX0_comesTo_45 k8 b (I n) last sgn (I i) (I (brP n w i j p)) u := by
  intro j
  induction j with
  | zero =>
    intro p hp hj f hf
    obtain ⟨f, rfl⟩ : ∃ g, f = g + 1 := ⟨f - 1, by omega⟩
    show bX0_comesTo_18 k8 (lX0_comesTo_18 k8 f) _ _ _ _ _ _ _ = _
    unfold bX0_comesTo_18
    rw [if_pos (by rw [I_le (by omega) (by omega)]; omega)]
    rfl
  | succ j ih =>
    intro p hp hj f hf
    obtain ⟨f, rfl⟩ : ∃ g, f = g + 1 := ⟨f - 1, by omega⟩
    show bX0_comesTo_18 k8 (lX0_comesTo_18 k8 f) _ _ _ _ _ _ _ = _
    unfold bX0_comesTo_18 brP
    by_cases hpn : n ≤ p
    · rw [if_pos (by rw [I_le (by omega) (by omega)]; omega), if_neg (by omega)]
    · rw [if_neg (by rw [I_le (by omega) (by omega)]; omega), hB.r9, bn1_s, hW.row (show p < 4 by omega), bn1_s, hW.get (show p < 4 by omega) (show i < 4 by omega), bn1_s]
      by_cases h0 : w p i = 0
      · rw [if_pos ((cmp0 _).mpr h0), if_pos ⟨by omega, h0⟩, nm_s, I_succ]
        exact ih (p + 1) (by omega) (by omega) f (by omega)
      · rw [if_neg (fun q => h0 ((cmp0 _).mp q)), if_neg (fun q => h0 q.2)]
end CM
theorem cm_8 {b n : Nat} (hn : n ≤ 4) : ∀ (g i : Nat), n < i + g → i ≤ n → ∀ f, g ≤ f → ∀ (last sgn : Int64) (sg : Nat → Nat) (w : Nat → Nat → Int64) (u : XS), ¬ last = 0 → PB u b → WVs u b sg w →
    ∃ u' sg' w', lX0_comesTo_8 f b (I n) last sgn (I i) u = some (brs n g i last sgn w, u') ∧ WVs u' b sg' w' ∧ Fr (wkS b) u u' := by
  intro g
  induction g with
  | zero => intro i h1 h2; omega
  | succ g ih =>
    intro i h1 h2 f hf last sgn sg w u hl hB hW
    obtain ⟨f, rfl⟩ : ∃ g, f = g + 1 := ⟨f - 1, by omega⟩
    unfold brs
    by_cases hi : n ≤ i
    · refine ⟨u, sg, w, ?_, hW, Fr.rfl'⟩
      show bX0_comesTo_8 (lX0_comesTo_8 f) _ _ _ _ _ _ = _
      unfold bX0_comesTo_8
      rw [if_pos (by rw [I_le (by omega) (by omega)]; omega), if_pos hi]
    · have e0 : lX0_comesTo_8 (f + 1) b (I n) last sgn (I i) u = bX0_comesTo_45 (lX0_comesTo_8 f) b (I n) last sgn (I i) (I (brP n w i 5 i)) u := by
        show bX0_comesTo_8 (lX0_comesTo_8 f) _ _ _ _ _ _ = _
        unfold bX0_comesTo_8
        rw [if_neg (by rw [I_le (by omega) (by omega)]; omega)]
        exact cm_18 hn (by omega) _ hB hW 5 i (by omega) (by omega) FU (by decide)
      obtain ⟨s1, s2, s3, s4⟩ := brP_spec n w i 5 i (by omega) (by omega)
      rw [if_neg hi]
      by_cases c1 : brP n w i 5 i = n
      · refine ⟨u, sg, w, ?_, hW, Fr.rfl'⟩
        rw [e0, if_pos c1, c1]
        unfold bX0_comesTo_45
        rw [if_pos rfl]
      · rw [if_neg c1]
        have s4 := s4 (by omega)
        generalize hp : brP n w i 5 i = p at *
        by_cases c2 : i < p
        · obtain ⟨u1, u2, sg', q1, q2, q3, q4, q5, q6⟩ := hW.swap (i := i) (p := p) (by omega) (by omega) c2
          have B1 := hB.fr (q5.2 b (fun q => by have := q.1; omega))
          have B2 := hB.fr (q6.2 b (fun q => by have := q.1; omega))
          obtain ⟨u3, r1, r2, r3⟩ := cm_97 (i := i) (last := last) (sgn := -sgn) hn (by omega) hl (lX0_comesTo_8 f) B2 q4
          have hnz : ¬ swp w i p i i = 0 := by
            have e : swp w i p i = w p := if_pos rfl
            rw [e]; exact s4
          obtain ⟨u', sg2, w', t1, t2, t3⟩ := ih (i + 1) (by omega) (by omega) f (by omega) (swp w i p i i) (-sgn) sg' _ u3 hnz (B2.fr (r3.2 b (fun q => by have := q.1; omega))) r2
          refine ⟨u', sg2, w', ?_, t2, q6.trans (r3.trans t3)⟩
          rw [e0, if_pos c2]
          unfold bX0_comesTo_45
          rw [if_neg (by rw [I_inj (by omega) (by omega)]; omega), if_neg (by rw [I_le (by omega) (by omega)]; omega), hB.r9, bn1_s, hW.row (show p < 4 by omega), bn1_s, bn1_s, bn1_s, hW.row (show i < 4 by omega), bn1_s, chk_t (hW.isl (by omega)), q1, bn1_s, B1.r9, bn1_s, chk_t q3, q2, bn1_s, nm_s, r1, t1]
        · have e : p = i := by omega
          obtain ⟨u3, r1, r2, r3⟩ := cm_97 (i := i) (last := last) (sgn := sgn) hn (by omega) hl (lX0_comesTo_8 f) hB hW
          rw [e] at s4
          obtain ⟨u', sg2, w', t1, t2, t3⟩ := ih (i + 1) (by omega) (by omega) f (by omega) (w i i) sgn sg _ u3 s4 (hB.fr (r3.2 b (fun q => by have := q.1; omega))) r2
          refine ⟨u', sg2, w', ?_, t2, r3.trans t3⟩
          rw [e0, if_neg c2, e]
          unfold bX0_comesTo_45
          rw [if_neg (by rw [I_inj (by omega) (by omega)]; omega), if_pos (by rw [I_le (by omega) (by omega)]; omega), r1, t1]
theorem comes_x {u : XS} {b n q : Nat} {sg : Nat → Nat} {w : Nat → Nat → Int64} {A : Nat → Nat → Int} (hn : n ≤ 4) (hB : PB u b) (hW : WVs u b sg w) (hb : bdd q A) (hw : ∀ r c, r < n → c < n → (w r c).toInt = A r c) : ∃ u' sg' w', fX0_comesTo b (I n) u = some (Int64.ofInt (dtn n A), u') ∧ WVs u' b sg' w' ∧ Fr (wkS b) u u' := by
  obtain ⟨u', sg', w', h1, h2, h3⟩ := cm_8 (b := b) hn 5 0 (by omega) (by omega) FU (by decide) 1 1 sg w u (by decide) hB hW
  refine ⟨u', sg', w', ?_, h2, h3⟩
  rw [brs_dt hn hb hw] at h1
  exact h1
