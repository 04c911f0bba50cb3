/-! needed, rounds, tell, untell, pictures, as -/
theorem us_t {row : Nat → Int32} : ∀ k, k ≤ 8 → (∀ i, i < k → row (8 + 6 * i + 5) = 0 ∨ row (8 + 6 * i + 5) = 1) → ∃ n, n < 2 ^ k ∧ usP row k = I n ∧ ∀ i, i < k → (n.testBit i = true ↔ row (8 + 6 * i + 5) = 1) := by
  intro k
  induction k with
  | zero => intro _ _; exact ⟨0, by decide, rfl, fun i hi => by omega⟩
  | succ k ih =>
    intro h8 h
    obtain ⟨n, hn, e, t⟩ := ih (by omega) (fun i hi => h i (by omega))
    have e2 : usP row (k + 1) = usP row k ||| (row (8 + 6 * k + 5) <<< (I k &&& 31)) := rfl
    have d := us_dec k (by omega) n hn
    have p : 2 ^ (k + 1) = 2 ^ k + 2 ^ k := by rw [Nat.pow_succ]; omega
    rw [e2, e]
    rcases h k (by omega) with q | q
    · refine ⟨n, by omega, by rw [q]; exact d.1, fun i hi => ?_⟩
      by_cases c : i = k
      · subst c
        rw [Nat.testBit_lt_two_pow hn, q]
        exact ⟨fun z => (Bool.noConfusion z), fun z => absurd z (by decide)⟩
      · exact t i (by omega)
    · refine ⟨n + 2 ^ k, by omega, by rw [q]; exact d.2, fun i hi => ?_⟩
      rw [Nat.add_comm]
      by_cases c : i = k
      · subst c
        rw [Nat.testBit_two_pow_add_eq, Nat.testBit_lt_two_pow hn, q]
        exact ⟨fun _ => rfl, fun _ => rfl⟩
      · rw [Nat.testBit_two_pow_add_gt (by omega)]
        exact t i (by omega)
set_option maxRecDepth 20000 in
theorem bt_256 : ∀ k, k < 8 → ∀ n, n < 256 → (((I n >>> (I k &&& 31)) &&& 1) = 1 ↔ n.testBit k = true) := by decide
theorem on_t {row : Nat → Int32} (hI : INV row) : ∃ n, n < 2 ^ nM row ∧ n < 256 ∧ onP row = I n ∧ ∀ i, i < nM row → (n.testBit i = true ↔ row (8 + 6 * i + 5) = 1) := by
  obtain ⟨n, hn, e, t⟩ := us_t (row := row) (nM row) hI.1.2 (fun i hi => (hI.2.2.1 i hi).2.2.2.2.2)
  refine ⟨n, hn, ?_, e, t⟩
  have : 2 ^ nM row ≤ 2 ^ 8 := Nat.pow_le_pow_right (by decide) hI.1.2
  omega
theorem on_bit {row : Nat → Int32} (hI : INV row) {k : Nat} (hk : k < nM row) : ((onP row >>> (I k &&& 31)) &&& 1) = 1 ↔ row (8 + 6 * k + 5) = 1 := by
  have h8 := hI.1.2
  obtain ⟨n, -, h, e, t⟩ := on_t hI
  rw [e, bt_256 k (by omega) n h]
  exact t k hk
section OPS3
variable {b : Nat} {u : XS} {S : MS}
theorem op_needed (h : RL b u S) : OpR b (fX0_needed b u) (fX4_needed S) := by
  have h' := h
  obtain ⟨hd, tx, hX, hI, hO⟩ := h'
  have h8 := hI.1.2
  have hH := hX.hv
  unfold fX0_needed fX4_needed
  rw [chk_t h.pb.isP, held_xx hX.xv hI, bnd_s, on_m hI, bnd_s, hold_m hI, bnd_s]
  by_cases c : tdP (mIA S 0) (onP (mIA S 0)) = allP (mIA S 0)
  · rw [if_pos c, if_neg (by decide), if_neg (by decide)]
    have key : ∀ (j k : Nat), k + j = nM (mIA S 0) → ∀ f, j < f → ∀ acc : Int32, ∃ v, lX0_needed_17 f b acc (I k) u = some (v, u) ∧ lX4_needed_24 f (onP (mIA S 0)) acc (I k) S = some (v, S) := by
      intro j
      induction j with
      | zero =>
        intro k hk f hf acc
        obtain ⟨f, rfl⟩ : ∃ g, f = g + 1 := ⟨f - 1, by omega⟩
        refine ⟨acc, ?_, ?_⟩
        · show bX0_needed_17 (lX0_needed_17 f) _ _ _ _ = _
          unfold bX0_needed_17
          rw [hX.pb.r2, bn1_s, hH.i0, bn1_s, if_pos (by rw [hI.1.1, I_le (by omega) (by omega)]; omega)]
        · show bX4_needed_24 (lX4_needed_24 f) _ _ _ _ = _
          unfold bX4_needed_24
          rw [if_pos (by show mIA S 0 2 ≤ _; rw [hI.1.1, I_le (by omega) (by omega)]; omega)]
      | succ j ih =>
        intro k hk f hf acc
        obtain ⟨f, rfl⟩ : ∃ g, f = g + 1 := ⟨f - 1, by omega⟩
        have eX : lX0_needed_17 (f + 1) b acc (I k) u = bX0_needed_17 (lX0_needed_17 f) b acc (I k) u := rfl
        have eM : lX4_needed_24 (f + 1) (onP (mIA S 0)) acc (I k) S = bX4_needed_24 (lX4_needed_24 f) (onP (mIA S 0)) acc (I k) S := rfl
        rw [eX, eM]
        unfold bX0_needed_17 bX4_needed_24 bX0_needed_80 bX4_needed_64 bX4_needed_65
        rw [hX.pb.r2, bn1_s, hH.i0, bn1_s, if_neg (by rw [hI.1.1, I_le (by omega) (by omega)]; omega), if_neg (by show ¬ mIA S 0 2 ≤ _; rw [hI.1.1, I_le (by omega) (by omega)]; omega), bn1_s, hH.r12, bn1_s, hH.on (by omega), bn1_s]
        simp only [on_bit hI (show k < nM (mIA S 0) by omega)]
        by_cases q : mIA S 0 (8 + 6 * k + 5) = 1
        · rw [if_pos q, if_pos q, bn1_s, bn1_s, chk_t hH.isH, used_x hH hI, bnd_s, chk_t hH.isH, tied_x hH hI, bnd_s, hX.pb.r2, bn1_s, hH.i1, bn1_s, hold_m hI, bnd_s]
          unfold fX0_all
          rw [bnd_s]
          by_cases q2 : tdP (mIA S 0) (onP (mIA S 0) &&& (((1 : Int32) <<< (I k &&& 31)) ^^^ (-1 : Int32))) = allP (mIA S 0)
          · rw [if_pos q2, if_pos (by exact q2), if_neg (by decide)]
            simp only [nm_s, I_succ, Int32.or_zero]
            exact ih (k + 1) (by omega) f (by omega) acc
          · rw [if_neg q2, if_neg (by exact q2), if_pos rfl]
            simp only [nm_s, I_succ]
            exact ih (k + 1) (by omega) f (by omega) _
        · rw [if_neg q, if_neg q]
          simp only [nm_s, I_succ, Int32.or_zero]
          exact ih (k + 1) (by omega) f (by omega) acc
    obtain ⟨v, k1, k2⟩ := key (nM (mIA S 0)) 0 (by omega) FU (by show nM _ < 1000; omega) 0
    exact ⟨v, u, S, k1, k2, h⟩
  · rw [if_neg c, if_pos rfl, if_pos rfl]
    obtain ⟨u', S', e1, e2, e3⟩ := err3 h
    exact ⟨_, u', S', by rw [chk_t h.pb.isP, e1, bnd_s], by rw [e2, bnd_s], e3⟩
/-! rounds -/
def goN : Nat → (Nat → Int32) → (Nat → Int32)
  | 0, row => row
  | n + 1, row => goN n (goP row)
theorem INV.goN {row : Nat → Int32} : ∀ (n : Nat), INV row → INV (goN n row) := by
  intro n
  induction n generalizing row with
  | zero => intro h; exact h
  | succ n ih => intro h; exact ih h.go
theorem goF_m {n : Nat} (hn : n ≤ 900) : ∀ (j k : Nat), k + j = n → ∀ f, j < f → ∀ S : MS, INV (mIA S 0) → ∃ T, lX4_goesFor_2 f (I n) (I k) S = some T ∧ mIA T 0 = goN j (mIA S 0) ∧ mEqG S T := by
  intro j
  induction j with
  | zero =>
    intro k hk f hf S hI
    obtain ⟨f, rfl⟩ : ∃ g, f = g + 1 := ⟨f - 1, by omega⟩
    refine ⟨S, ?_, rfl, mEqG.rfl'⟩
    show bX4_goesFor_2 (lX4_goesFor_2 f) _ _ _ = _
    unfold bX4_goesFor_2
    rw [if_pos (by rw [I_le (by omega) (by omega)]; omega)]
  | succ j ih =>
    intro k hk f hf S hI
    obtain ⟨f, rfl⟩ : ∃ g, f = g + 1 := ⟨f - 1, by omega⟩
    obtain ⟨T, t1, t2, t3⟩ := go_m hI
    obtain ⟨V, v1, v2, v3⟩ := ih (k + 1) (by omega) f (by omega) T (by rw [t2]; exact hI.go)
    refine ⟨V, ?_, by rw [v2, t2]; rfl, t3.trans v3⟩
    show bX4_goesFor_2 (lX4_goesFor_2 f) _ _ _ = _
    unfold bX4_goesFor_2
    rw [if_neg (by rw [I_le (by omega) (by omega)]; omega), t1, bn1_s, nm_s, I_succ, v1]
theorem goesFor_m {n : Nat} (hn : n ≤ 900) {S : MS} (hI : INV (mIA S 0)) : ∃ T, fX4_goesFor (I n) S = some T ∧ mIA T 0 = goN n (mIA S 0) ∧ mEqG S T := goF_m hn n 0 (by omega) FU (by show n < 1000; omega) S hI
theorem rounds_l {n : Nat} (hn : n ≤ 900) {hd tx : Nat → Option Nat} {im : Int32} : ∀ (j k : Nat), k + j = n → ∀ f, j < f → ∀ (u : XS) (row : Nat → Int32), XQ u b row hd tx im → INV row → ∃ u', lX0_rounds_32 f b (I n) (I k) u = some (bcJ (onP (goN j row)), u') ∧ XQ u' b (goN j row) hd tx im ∧ Fr (rnd b) u u' := by
  intro j
  induction j with
  | zero =>
    intro k hk f hf u row hX hI
    obtain ⟨f, rfl⟩ : ∃ g, f = g + 1 := ⟨f - 1, by omega⟩
    refine ⟨u, ?_, hX, Fr.rfl'⟩
    show bX0_rounds_32 (lX0_rounds_32 f) _ _ _ _ = _
    unfold bX0_rounds_32
    rw [if_pos (by rw [I_le (by omega) (by omega)]; omega), hX.pb.r2, bn1_s, chk_t hX.hv.isH, used_x hX.hv hI, bnd_s, bc_x, bnd_s]
    rfl
  | succ j ih =>
    intro k hk f hf u row hX hI
    obtain ⟨f, rfl⟩ : ∃ g, f = g + 1 := ⟨f - 1, by omega⟩
    obtain ⟨u1, t1, t2, t3⟩ := round_xx hX hI
    obtain ⟨u', v1, v2, v3⟩ := ih (k + 1) (by omega) f (by omega) u1 _ t2 hI.go
    refine ⟨u', ?_, v2, t3.trans v3⟩
    show bX0_rounds_32 (lX0_rounds_32 f) _ _ _ _ = _
    unfold bX0_rounds_32
    rw [if_neg (by rw [I_le (by omega) (by omega)]; omega), chk_t hX.pb.isP, t1, bn1_s, nm_s, I_succ, v1]
    rfl
theorem late_x {hd tx : Nat → Option Nat} {im : Int32} {row : Nat → Int32} (hX : XQ u b row hd tx im) (n : Int32) : fX0_isLate b n u = some (if row 0 + n ≤ 9999 then 0 else 1, u) := by
  unfold fX0_isLate bX0_isLate_20
  rw [hX.pb.r2, bn1_s, hX.hv.i2, bn1_s]
  by_cases c : row 0 + n ≤ 9999
  · rw [if_pos c, if_pos c]; rfl
  · rw [if_neg c, if_neg c]; rfl
theorem op_rounds (h : RL b u S) (x : Int32) : OpR b (fX0_rounds b x u) (fX4_rounds x S) := by
  have h' := h
  obtain ⟨hd, tx, hX, hI, hO⟩ := h'
  unfold fX0_rounds fX4_rounds
  rw [in_x, bnd_s, in_m, bnd_s]
  by_cases c : inP x 1 60 = 0
  · rw [if_pos c, if_pos c]
    obtain ⟨u', S', e1, e2, e3⟩ := err1 h
    exact ⟨_, u', S', by rw [chk_t h.pb.isP, e1, bnd_s], by rw [e2, bnd_s], e3⟩
  · rw [if_neg c, if_neg c, chk_t h.pb.isP, late_x hX, bnd_s]
    have e0 : mIA S 0 ((0 : Int32)).toNatClampNeg = mIA S 0 0 := rfl
    rw [e0]
    obtain ⟨n, n1, n2, rfl⟩ := in_lo (lo := 1) (hi := 60) (by decide) (by decide) c
    by_cases d : mIA S 0 0 + I n ≤ 9999
    · rw [if_pos d, if_pos d, if_pos rfl]
      obtain ⟨u', t1, t2, t3⟩ := rounds_l (b := b) (hd := hd) (tx := tx) (im := mIF S 3) (show n ≤ 900 by omega) n 0 (by omega) FU (by show n < 1000; omega) u (mIA S 0) hX hI
      obtain ⟨T, g1, g2, g3⟩ := goesFor_m (show n ≤ 900 by omega) hI
      have hIT : INV (mIA T 0) := by rw [g2]; exact hI.goN n
      refine ⟨_, u', T, t1, ?_, RL.row' hO t3 (fun q => rnd_oth) g3.keep g2 t2 (hI.goN n)⟩
      rw [g1, bn1_s, on_m hIT, bnd_s, bits_m hIT, bnd_s, g2]
    · rw [if_neg d, if_neg d, if_neg (by decide)]
      obtain ⟨u', S', e1, e2, e3⟩ := err3 h
      exact ⟨_, u', S', by rw [chk_t h.pb.isP, e1, bnd_s], by rw [e2, bnd_s], e3⟩
end OPS3
