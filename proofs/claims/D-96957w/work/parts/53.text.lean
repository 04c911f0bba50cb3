/-! TEXTS: steps worked out on a pile -/
def twoP (s x y : Int32) : Int32 :=
  if s = 37 then (if y = 0 then 0 else x - x / y * y) else if s = 38 then (if x = 0 then 0 else if y = 0 then 0 else 1) else if s = 42 then x * y else if s = 43 then x + y else if s = 45 then x - y
  else if s = 47 then (if y = 0 then 0 else x / y) else if s = 60 then (if y ≤ x then 0 else 1) else if s = 61 then (if x = y then 1 else 0) else if s = 62 then (if x ≤ y then 0 else 1) else (if x = 0 then (if y = 0 then 0 else 1) else 1)
theorem ne0_t {y : Int32} (h : ¬ y = 0) : ne0 y = true := by unfold ne0; simp [h]
theorem ne0L_t {y : Int64} (h : ¬ y = 0) : ne0L y = true := by unfold ne0L; simp [h]
theorem two_m (s x y : Int32) (S : MS) : fX4_twoOf s x y S = some (twoP s x y, S) := by
  unfold fX4_twoOf twoP bX4_twoOf_155 bX4_twoOf_201 bX4_twoOf_202 bX4_twoOf_143 bX4_twoOf_166 bX4_twoOf_177 bX4_twoOf_188 bX4_twoOf_203 bX4_twoOf_211 bX4_twoOf_216
  by_cases c37 : s = 37
  · rw [if_pos c37, if_pos c37]
    by_cases hy : y = 0
    · rw [if_pos hy, if_pos hy]
    · rw [if_neg hy, if_neg hy, chk_t (ne0_t hy)]
  rw [if_neg c37, if_neg c37]
  by_cases c38 : s = 38
  · rw [if_pos c38, if_pos c38]
    by_cases hx : x = 0
    · rw [if_pos hx, if_pos hx]
    · rw [if_neg hx, if_neg hx]
      by_cases hy : y = 0
      · rw [if_pos hy, if_pos hy]
      · rw [if_neg hy, if_neg hy]
  rw [if_neg c38, if_neg c38]
  by_cases c42 : s = 42
  · rw [if_pos c42, if_pos c42]
  rw [if_neg c42, if_neg c42]
  by_cases c43 : s = 43
  · rw [if_pos c43, if_pos c43]
  rw [if_neg c43, if_neg c43]
  by_cases c45 : s = 45
  · rw [if_pos c45, if_pos c45]
  rw [if_neg c45, if_neg c45]
  by_cases c47 : s = 47
  · rw [if_pos c47, if_pos c47]
    by_cases hy : y = 0
    · rw [if_pos hy, if_pos hy]
    · rw [if_neg hy, if_neg hy, chk_t (ne0_t hy)]
  rw [if_neg c47, if_neg c47]
  by_cases c60 : s = 60
  · rw [if_pos c60, if_pos c60]
    by_cases hy : y ≤ x
    · rw [if_pos hy, if_pos hy]
    · rw [if_neg hy, if_neg hy]
  rw [if_neg c60, if_neg c60]
  by_cases c61 : s = 61
  · rw [if_pos c61, if_pos c61]
    by_cases hy : x = y
    · rw [if_pos hy, if_pos hy]
    · rw [if_neg hy, if_neg hy]
  rw [if_neg c61, if_neg c61]
  by_cases c62 : s = 62
  · rw [if_pos c62, if_pos c62]
    by_cases hy : x ≤ y
    · rw [if_pos hy, if_pos hy]
    · rw [if_neg hy, if_neg hy]
  rw [if_neg c62, if_neg c62]
  by_cases hx : x = 0
  · rw [if_pos hx, if_pos hx]
    by_cases hy : y = 0
    · rw [if_pos hy, if_pos hy]
    · rw [if_neg hy, if_neg hy]
  · rw [if_neg hx, if_neg hx]
/-- one step -/
def ev1 (fc : Nat → Int32) (a w : Int32) (st : List Int32) : List Int32 :=
  if a = 1 then w :: st else if a = 2 then fc w.toNatClampNeg :: st else if a = 3 then (match st with
    | x :: r => (if x = 0 then 1 else 0) :: r
    | [] => []) else (match st with
    | y :: x :: r => twoP a x y :: r
    | _ => [])
/-- how high the pile is behind it -/
def wf1 (a w : Int32) (n : Nat) : Option Nat :=
  if a = 1 then some (n + 1) else if a = 2 then (if inB w 3 = true then some (n + 1) else none) else if a = 3 then (if 1 ≤ n then some n else none) else (if 2 ≤ n then some (n - 1) else none)
/-- the first k steps of the text at a -/
def evR (row : Nat → Int32) (a : Nat) (fc : Nat → Int32) : Nat → List Int32
  | 0 => []
  | k + 1 => ev1 fc (row (a + 1 + k)) (row (a + 61 + k)) (evR row a fc k)
def wfR (row : Nat → Int32) (a : Nat) : Nat → Option Nat
  | 0 => some 0
  | k + 1 => match wfR row a k with
    | some n => wf1 (row (a + 1 + k)) (row (a + 61 + k)) n
    | none => none
theorem wfR_pre {row : Nat → Int32} {a L n : Nat} (h : wfR row a L = some n) : ∀ k, k ≤ L → ∃ m, wfR row a k = some m := by
  induction L generalizing n with
  | zero => intro k hk; have e : k = 0 := by omega
            subst e; exact ⟨n, h⟩
  | succ L ih =>
    intro k hk
    by_cases e : k = L + 1
    · subst e; exact ⟨n, h⟩
    · unfold wfR at h
      split at h
      · next m hm => exact ih hm k (by omega)
      · cases h
theorem wf1_le {a w : Int32} {n m : Nat} (h : wf1 a w n = some m) : m ≤ n + 1 := by
  unfold wf1 at h
  repeat' split at h
  all_goals first | (cases h; done) | (simp only [Option.some.injEq] at h; omega)
theorem wfR_le {row : Nat → Int32} {a : Nat} : ∀ {k n : Nat}, wfR row a k = some n → n ≤ k := by
  intro k
  induction k with
  | zero => intro n h; cases h; exact Nat.le_refl _
  | succ k ih =>
    intro n h
    unfold wfR at h
    split at h
    · next m hm => have h1 := ih hm; have h2 := wf1_le h; omega
    · cases h
theorem ev1_len {fc : Nat → Int32} {a w : Int32} {st : List Int32} {m : Nat} (h : wf1 a w st.length = some m) : (ev1 fc a w st).length = m := by
  unfold wf1 at h
  unfold ev1
  by_cases h1 : a = 1
  · rw [if_pos h1] at h ⊢; simp only [Option.some.injEq] at h; exact h
  · rw [if_neg h1] at h ⊢
    by_cases h2 : a = 2
    · rw [if_pos h2] at h ⊢
      split at h
      · simp only [Option.some.injEq] at h; exact h
      · cases h
    · rw [if_neg h2] at h ⊢
      by_cases h3 : a = 3
      · rw [if_pos h3] at h ⊢
        split at h
        · simp only [Option.some.injEq] at h
          cases st with
          | nil => simp at *
          | cons x r => exact h
        · cases h
      · rw [if_neg h3] at h ⊢
        split at h
        · next hn =>
          simp only [Option.some.injEq] at h
          match st, hn, h with
          | y :: x :: r, _, h => simp only [List.length_cons] at h ⊢; omega
        · cases h
theorem evR_len {row : Nat → Int32} {a : Nat} {fc : Nat → Int32} : ∀ {k n : Nat}, wfR row a k = some n → (evR row a fc k).length = n := by
  intro k
  induction k with
  | zero => intro n h; cases h; rfl
  | succ k ih =>
    intro n h
    unfold wfR at h
    split at h
    · next m hm =>
      have h1 := ih hm
      unfold evR
      exact ev1_len (by rw [h1]; exact h)
    · cases h
/-- the pile p holds st, the last at its top -/
def PL (p : Nat → Int32) : List Int32 → Prop
  | [] => True
  | x :: r => p r.length = x ∧ PL p r
theorem PL_upd {p : Nat → Int32} {i : Nat} {v : Int32} : ∀ {st : List Int32}, st.length ≤ i → PL p st → PL (upd p i v) st := by
  intro st
  induction st with
  | nil => intro _ _; trivial
  | cons x r ih =>
    intro h hp
    simp only [List.length_cons] at h
    exact ⟨by rw [upd_ne _ _ (by omega)]; exact hp.1, ih (by omega) hp.2⟩
theorem ixt1 (a k : Nat) : (I a + (1 : Int32)) + I k = I (a + 1 + k) := by
  have e1 : (1 : Int32) = I 1 := rfl
  rw [e1, I_add, I_add]
theorem ixt61 (a k : Nat) : (I a + (61 : Int32)) + I k = I (a + 61 + k) := by
  have e1 : (61 : Int32) = I 61 := rfl
  rw [e1, I_add, I_add]
theorem I_pred {n : Nat} (h : 1 ≤ n) : I n - 1 = I (n - 1) := I_sub (b := 1) h
theorem I_pred2 {n : Nat} (h : 1 ≤ n) : I n + (-1 : Int32) = I (n - 1) := by
  rw [← I_pred h, Int32.sub_eq_add_neg]
theorem works_loop {row fc : Nat → Int32} {a L : Nat} (ha : a ≤ 261) (hrow : row a = I L) (hL : L ≤ 60) (hwf : wfR row a L = some 1) : ∀ (j k : Nat), k + j = L → ∀ (f : Nat), j < f → ∀ (n : Nat) (S : MS), mIA S 0 = row → (∀ i, i < 3 → mIA S 14 i = fc i) → wfR row a k = some n → PL (mIA S 15) (evR row a fc k) →
    ∃ S', lX4_works_4 f (I a) (I n) (I k) S = some ((evR row a fc L).headD 0, S') ∧ mEq S S' := by
  intro j
  induction j with
  | zero =>
    intro k hk f hf n S hr hfc hn hp
    obtain ⟨f, rfl⟩ : ∃ g, f = g + 1 := ⟨f - 1, by omega⟩
    have e : k = L := by omega
    subst e
    refine ⟨S, ?_, mEq.rfl'⟩
    show bX4_works_4 (lX4_works_4 f) _ _ _ _ = _
    unfold bX4_works_4
    rw [chk_t (inB_I (by omega) (by decide)), I_nat (by omega), hr, hrow, if_pos ((I_le (by omega) (by omega)).mpr (Nat.le_refl _))]
    have hl := evR_len (fc := fc) hwf
    rw [hwf] at hn
    cases hn
    match hst : evR row a fc k, hl with
    | [x], _ =>
      rw [hst] at hp
      simp only [List.headD_cons]
      exact congrArg (fun z => some (z, S)) hp.1
  | succ j ih =>
    intro k hk f hf n S hr hfc hn hp
    obtain ⟨f, rfl⟩ : ∃ g, f = g + 1 := ⟨f - 1, by omega⟩
    obtain ⟨m, hm⟩ := wfR_pre hwf (k + 1) (by omega)
    have hm2 := hm
    unfold wfR at hm2
    rw [hn] at hm2
    have hn60 := wfR_le hn
    have hlen := evR_len (fc := fc) hn
    have hstep : ∀ (w : Nat) (v : Int32) (S1 : MS), S1 = sIA S 15 (upd (mIA S 15) w v) → PL (mIA S1 15) (evR row a fc (k + 1)) → ∃ S', bX4_works_149 (lX4_works_4 f) (I a) (I m) (I k) S1 = some ((evR row a fc L).headD 0, S') ∧ mEq S S' := by
      intro w v S1 e1 hp1
      unfold bX4_works_149
      rw [nm_s, I_succ]
      have q1 : mIA S1 0 = row := by rw [e1]; exact hr
      have q2 : ∀ i, i < 3 → mIA S1 14 i = fc i := by rw [e1]; exact hfc
      obtain ⟨S', h1, h2⟩ := ih (k + 1) (by omega) f (by omega) m S1 q1 q2 hm hp1
      refine ⟨S', h1, ?_⟩
      subst e1
      exact mEq.trans (T := sIA S 15 (upd (mIA S 15) w v)) ⟨fun i _ h15 => by rw [mIA_IA, if_neg h15], fun _ => rfl, fun _ => rfl, rfl⟩ h2
    show ∃ S', bX4_works_4 (lX4_works_4 f) _ _ _ _ = _ ∧ _
    unfold bX4_works_4
    rw [chk_t (inB_I (by omega) (by decide)), I_nat (by omega), hr, hrow, if_neg (by rw [I_le (by omega) (by omega)]; omega), ixt1, chk_t (inB_I (by omega) (by decide)), I_nat (by omega), nm_s]
    have hev : evR row a fc (k + 1) = ev1 fc (row (a + 1 + k)) (row (a + 61 + k)) (evR row a fc k) := rfl
    simp only [bX4_works_38, ixt61, chk_t (inB_I (show a + 61 + k < 382 by omega) (by decide)), I_nat (show a + 61 + k < 2 ^ 31 by omega), hr]
    by_cases h1 : row (a + 1 + k) = 1
    · simp only [if_pos h1, bX4_works_79]
      simp only [wf1, if_pos h1, Option.some.injEq] at hm2
      rw [chk_t (inB_I (by omega) (by decide)), I_nat (by omega), nm_s, nm_s, I_succ, hm2]
      refine hstep n _ _ rfl ?_
      rw [hev, mIA_IA, if_pos rfl]
      unfold ev1
      rw [if_pos h1]
      exact ⟨by rw [hlen]; exact upd_at _ _ _, PL_upd (by omega) hp⟩
    · by_cases h2 : row (a + 1 + k) = 2
      · simp only [if_neg h1, if_pos h2, bX4_works_79]
        simp only [wf1, if_neg h1, if_pos h2] at hm2
        by_cases hw : inB (row (a + 61 + k)) 3 = true
        · rw [if_pos hw, Option.some.injEq] at hm2
          rw [chk_t hw, chk_t (inB_I (by omega) (by decide)), I_nat (by omega), nm_s, nm_s, I_succ, hm2]
          refine hstep n _ _ rfl ?_
          rw [hev, mIA_IA, if_pos rfl]
          unfold ev1
          rw [if_neg h1, if_pos h2]
          have hw2 : (row (a + 61 + k)).toNatClampNeg < 3 := by
            have h9 := inB_in hw
            unfold vp_in at h9
            omega
          rw [hfc _ hw2]
          exact ⟨by rw [hlen]; exact upd_at _ _ _, PL_upd (by omega) hp⟩
        · rw [if_neg hw] at hm2; cases hm2
      · by_cases h3 : row (a + 1 + k) = 3
        · simp only [if_neg h1, if_neg h2, if_pos h3, bX4_works_115]
          simp only [wf1, if_neg h1, if_neg h2, if_pos h3] at hm2
          by_cases hn1 : 1 ≤ n
          · rw [if_pos hn1, Option.some.injEq] at hm2
            subst hm2
            rw [I_pred hn1, chk_t (inB_I (by omega) (by decide)), I_nat (by omega)]
            simp only [nm_s]
            match hst : evR row a fc k, hlen with
            | x :: r, hlen =>
              simp only [List.length_cons] at hlen
              rw [hst] at hp
              have e0 : n - 1 = r.length := by omega
              have hx : mIA S 15 (n - 1) = x := by rw [e0]; exact hp.1
              have hgoal : ∀ v, v = (if x = 0 then (1 : Int32) else 0) → PL (upd (mIA S 15) (n - 1) v) (evR row a fc (k + 1)) := by
                intro v hv
                rw [hev, hst, ev1, if_neg h1, if_neg h2, if_pos h3, ← hv]
                exact ⟨by rw [e0]; exact upd_at _ _ _, PL_upd (by omega) hp.2⟩
              rw [hx]
              by_cases hx0 : x = 0
              · rw [if_pos hx0, chk_t (inB_I (by omega) (by decide))]
                exact hstep (n - 1) 1 _ rfl (by rw [mIA_IA, if_pos rfl]; exact hgoal 1 (by rw [if_pos hx0]))
              · rw [if_neg hx0, chk_t (inB_I (by omega) (by decide))]
                exact hstep (n - 1) 0 _ rfl (by rw [mIA_IA, if_pos rfl]; exact hgoal 0 (by rw [if_neg hx0]))
            | [], hlen => simp only [List.length_nil] at hlen; omega
          · rw [if_neg hn1] at hm2; cases hm2
        · simp only [if_neg h1, if_neg h2, if_neg h3]
          simp only [wf1, if_neg h1, if_neg h2, if_neg h3] at hm2
          by_cases hn2 : 2 ≤ n
          · rw [if_pos hn2, Option.some.injEq] at hm2
            subst hm2
            rw [nm_s, I_pred2 (by omega), I_pred (by omega), chk_t (inB_I (by omega) (by decide)), chk_t (inB_I (by omega) (by decide)), I_nat (by omega), I_nat (by omega), two_m, bnd_s, chk_t (inB_I (by omega) (by decide)), nm_s]
            match hst : evR row a fc k, hlen with
            | y :: x :: r, hlen =>
              simp only [List.length_cons] at hlen
              rw [hst] at hp
              have e0 : n - 1 = r.length + 1 := by omega
              have e1 : n - 1 - 1 = r.length := by omega
              have hy : mIA S 15 (n - 1) = y := by rw [e0]; exact hp.1
              have hx : mIA S 15 (n - 1 - 1) = x := by rw [e1]; exact hp.2.1
              rw [hx, hy]
              refine hstep (n - 1 - 1) _ _ rfl ?_
              rw [hev, hst, mIA_IA, if_pos rfl, ev1, if_neg h1, if_neg h2, if_neg h3]
              exact ⟨by rw [e1]; exact upd_at _ _ _, PL_upd (by omega) hp.2.2⟩
            | [_], hlen => simp only [List.length_cons, List.length_nil] at hlen; omega
            | [], hlen => simp only [List.length_nil] at hlen; omega
          · rw [if_neg hn2] at hm2; cases hm2
