/-! OPERATIONS, the plain ones -/
theorem ok_told {k : Nat} (hk : k < 8) (v : Int32) : okU (8 + 6 * k + 4) v := Or.inr (Or.inr (Or.inr (Or.inr (Or.inr (Or.inr (Or.inr (Or.inr (Or.inl ⟨k, hk, rfl⟩))))))))
theorem ok_on {k : Nat} (hk : k < 8) {v : Int32} (hv : v = 0 ∨ v = 1) : okU (8 + 6 * k + 5) v := Or.inr (Or.inr (Or.inr (Or.inr (Or.inr (Or.inr (Or.inr (Or.inr (Or.inr (Or.inl ⟨k, hk, rfl, hv⟩)))))))))
theorem bec_m {k : Nat} (hk : k < 382) (v : Int32) (S : MS) : fX4_becomes (I k) v S = some (mIA S 0 k, sIA S 0 (upd (mIA S 0) k v)) := by
  unfold fX4_becomes
  rw [chk_t (inB_I hk (by decide)), nm_s, chk_t (inB_I hk (by decide)), nm_s, I_nat (by omega)]
section OPS
variable {b : Nat} {u : XS} {S : MS}
theorem err1 (h : RL b u S) : ∃ u' S', fX0_finds b 1 u = some (-1000000001, u') ∧ fX4_error (-1000000001) S = some (-1000000001, S') ∧ RL b u' S' := by
  have := err_op h (e := 1) (by decide)
  have e : (-1000000000 : Int32) - I 1 = -1000000001 := by decide
  rw [e] at this; exact this
theorem err2 (h : RL b u S) : ∃ u' S', fX0_finds b 2 u = some (-1000000002, u') ∧ fX4_error (-1000000002) S = some (-1000000002, S') ∧ RL b u' S' := by
  have := err_op h (e := 2) (by decide)
  have e : (-1000000000 : Int32) - I 2 = -1000000002 := by decide
  rw [e] at this; exact this
theorem err3 (h : RL b u S) : ∃ u' S', fX0_finds b 3 u = some (-1000000003, u') ∧ fX4_error (-1000000003) S = some (-1000000003, S') ∧ RL b u' S' := by
  have := err_op h (e := 3) (by decide)
  have e : (-1000000000 : Int32) - I 3 = -1000000003 := by decide
  rw [e] at this; exact this
theorem err4 (h : RL b u S) : ∃ u' S', fX0_finds b 4 u = some (-1000000004, u') ∧ fX4_error (-1000000004) S = some (-1000000004, S') ∧ RL b u' S' := by
  have := err_op h (e := 4) (by decide)
  have e : (-1000000000 : Int32) - I 4 = -1000000004 := by decide
  rw [e] at this; exact this
theorem err5 (h : RL b u S) : ∃ u' S', fX0_finds b 5 u = some (-1000000005, u') ∧ fX4_error (-1000000005) S = some (-1000000005, S') ∧ RL b u' S' := by
  have := err_op h (e := 5) (by decide)
  have e : (-1000000000 : Int32) - I 5 = -1000000005 := by decide
  rw [e] at this; exact this
theorem err6 (h : RL b u S) : ∃ u' S', fX0_finds b 6 u = some (-1000000006, u') ∧ fX4_error (-1000000006) S = some (-1000000006, S') ∧ RL b u' S' := by
  have := err_op h (e := 6) (by decide)
  have e : (-1000000000 : Int32) - I 6 = -1000000006 := by decide
  rw [e] at this; exact this
theorem RL.pb (h : RL b u S) : PB u b := by obtain ⟨hd, tx, hX, -⟩ := h; exact hX.pb
theorem RL.row' {u' : XS} {T : MS} {hd tx : Nat → Option Nat} {P : Nat → Prop} (hO : RO b u S) (F : Fr P u u') (hP : ∀ q, P q → ¬ oth b q) (hm : mKeep S T) {row : Nat → Int32} (hr : mIA T 0 = row) (hX : XQ u' b row hd tx (mIF S 3)) (hI : INV row) : RL b u' T := ⟨hd, tx, by rw [hm.2.1, hr]; exact hX, by rw [hr]; exact hI, hO.ok F hP hm⟩
theorem op_seed (h : RL b u S) (x : Int32) : OpR b (fX0_seed b x u) (fX4_seed x S) := by
  obtain ⟨hd, tx, hX, hI, hO⟩ := h
  obtain ⟨u', h1, h2, h3⟩ := hX.setF (f := 5) (by decide) (by decide) x
  have h2 : XQ u' b (upd (mIA S 0) 1 x) hd tx (mIF S 3) := h2
  refine ⟨mIA S 0 1, u', _, ?_, ?_, RL.row' hO h3 (fun q => hse_oth) (mKeep.r _) (by rw [mIA_IA, if_pos rfl]) h2 (hI.upd (Or.inr (Or.inl rfl)))⟩
  · unfold fX0_seed
    rw [hX.pb.r2, bn1_s, hX.hv.i5, bn1_s, bn1_s, h1, bn1_s]
  · unfold fX4_seed
    have e : (1 : Int32) = I 1 := rfl
    rw [e, bec_m (by decide), bnd_s]
theorem op_limit (h : RL b u S) (x : Int32) : OpR b (fX0_limit b x u) (fX4_limit x S) := by
  unfold fX0_limit fX4_limit bX4_limit_25
  rw [in_x, bnd_s, in_m, bnd_s]
  by_cases c : inP x 0 99 = 0
  · rw [if_pos c, if_pos c]
    obtain ⟨u', S', e1, e2, e3⟩ := err1 h
    exact ⟨_, u', S', by rw [chk_t h.pb.isP, e1, bnd_s], by rw [e2, bnd_s], e3⟩
  · rw [if_neg c, if_neg c]
    obtain ⟨hd, tx, hX, hI, hO⟩ := h
    obtain ⟨u', h1, h2, h3⟩ := hX.setF (f := 3) (by decide) (by decide) x
    have h2 : XQ u' b (upd (mIA S 0) 4 x) hd tx (mIF S 3) := h2
    have e : (4 : Int32) = I 4 := rfl
    refine ⟨mIA S 0 4, u', _, by rw [hX.pb.r2, bn1_s, hX.hv.i3, bn1_s, bn1_s, h1, bn1_s], by rw [e, bec_m (by decide), bnd_s], RL.row' hO h3 (fun q => hse_oth) (mKeep.r _) (by rw [mIA_IA, if_pos rfl]) h2 (hI.upd (Or.inr (Or.inr (Or.inl rfl))))⟩
theorem op_round (h : RL b u S) (x : Int32) : OpR b (fX0_round b x u) (fX4_round x S) := by
  unfold fX0_round fX4_round bX4_round_26
  rw [in_x, bnd_s, in_m, bnd_s]
  by_cases c : inP x 0 9999 = 0
  · rw [if_pos c, if_pos c]
    obtain ⟨u', S', e1, e2, e3⟩ := err1 h
    exact ⟨_, u', S', by rw [chk_t h.pb.isP, e1, bnd_s], by rw [e2, bnd_s], e3⟩
  · rw [if_neg c, if_neg c]
    obtain ⟨hd, tx, hX, hI, hO⟩ := h
    obtain ⟨u', h1, h2, h3⟩ := hX.setF (f := 2) (by decide) (by decide) x
    have h2 : XQ u' b (upd (mIA S 0) 0 x) hd tx (mIF S 3) := h2
    have e : (0 : Int32) = I 0 := rfl
    refine ⟨mIA S 0 0, u', _, by rw [hX.pb.r2, bn1_s, hX.hv.i2, bn1_s, bn1_s, h1, bn1_s], by rw [e, bec_m (by decide), bnd_s], RL.row' hO h3 (fun q => hse_oth) (mKeep.r _) (by rw [mIA_IA, if_pos rfl]) h2 (hI.upd (Or.inl rfl))⟩
theorem op_measure (h : RL b u S) (x y : Int32) : OpR b (fX0_measure b x y u) (fX4_measure x y S) := by
  have h' := h
  obtain ⟨hd, tx, hX, hI, hO⟩ := h'
  have h8 := hI.1.2
  unfold fX0_measure fX4_measure bX4_measure_42 bX4_measure_36 bX0_measure_19
  rw [chk_t h.pb.isP, mk_x hX, bnd_s, mk_mm, bnd_s]
  rcases mkP_or hI x with c | ⟨c, k, hk, rfl⟩
  · rw [if_pos c, if_pos c]
    obtain ⟨u', S', e1, e2, e3⟩ := err1 h
    exact ⟨_, u', S', by rw [chk_t h.pb.isP, e1, bnd_s], by rw [e2, bnd_s]; rfl, e3⟩
  · rw [if_neg (by rw [c]; decide), if_neg (by rw [c]; decide), in_x, bnd_s, in_m, bnd_s]
    by_cases d : inP y (-20) 20 = 0
    · rw [if_pos d, if_pos d]
      obtain ⟨u', S', e1, e2, e3⟩ := err1 h
      exact ⟨_, u', S', by rw [chk_t h.pb.isP, e1, bnd_s], by rw [e2, bnd_s]; rfl, e3⟩
    · rw [if_neg d, if_neg d]
      obtain ⟨u', h1, h2, h3⟩ := hX.setC (w := 4) (k := k) (by decide) (by decide) (by omega) y
      have e4 : (4 : Int32) = I 4 := rfl
      have h1 : sI u (b + 3 + 4) 0 (I k) y = some u' := h1
      refine ⟨mIA S 0 (8 + 6 * k + 4), u', _, by rw [hX.pb.r2, bn1_s, hX.hv.r11, bn1_s, hX.hv.told (by omega), bn1_s, bn1_s, hX.hv.r11, bn1_s, h1, bn1_s], by rw [e4, ix6, bec_m (by omega), bnd_s], RL.row' hO h3 (fun q => hse_oth) (mKeep.r _) (by rw [mIA_IA, if_pos rfl]) h2 (hI.upd (ok_told (by omega) y))⟩
theorem in01 {v : Int32} (h : ¬ inP v 0 1 = 0) : v = 0 ∨ v = 1 := by
  obtain ⟨-, h1, h2⟩ := (inP_or v 0 1).resolve_left h
  rw [Int32.le_iff_toInt_le] at h1 h2
  have z : (0 : Int32).toInt = 0 := rfl
  have o : (1 : Int32).toInt = 1 := rfl
  rw [← Int32.toInt_inj, ← Int32.toInt_inj]
  omega
theorem op_on (h : RL b u S) (x y : Int32) : OpR b (fX0_on b x y u) (fX4_on x y S) := by
  have h' := h
  obtain ⟨hd, tx, hX, hI, hO⟩ := h'
  have h8 := hI.1.2
  unfold fX0_on fX4_on bX4_on_40 bX4_on_34 bX0_on_17
  rw [chk_t h.pb.isP, mk_x hX, bnd_s, mk_mm, bnd_s]
  rcases mkP_or hI x with c | ⟨c, k, hk, rfl⟩
  · rw [if_pos c, if_pos c]
    obtain ⟨u', S', e1, e2, e3⟩ := err1 h
    exact ⟨_, u', S', by rw [chk_t h.pb.isP, e1, bnd_s], by rw [e2, bnd_s]; rfl, e3⟩
  · rw [if_neg (by rw [c]; decide), if_neg (by rw [c]; decide), in_x, bnd_s, in_m, bnd_s]
    by_cases d : inP y 0 1 = 0
    · rw [if_pos d, if_pos d]
      obtain ⟨u', S', e1, e2, e3⟩ := err1 h
      exact ⟨_, u', S', by rw [chk_t h.pb.isP, e1, bnd_s], by rw [e2, bnd_s]; rfl, e3⟩
    · rw [if_neg d, if_neg d]
      obtain ⟨u', h1, h2, h3⟩ := hX.setC (w := 5) (k := k) (by decide) (by decide) (by omega) y
      have e4 : (5 : Int32) = I 5 := rfl
      have h1 : sI u (b + 3 + 5) 0 (I k) y = some u' := h1
      refine ⟨mIA S 0 (8 + 6 * k + 5), u', _, by rw [hX.pb.r2, bn1_s, hX.hv.r12, bn1_s, hX.hv.on (by omega), bn1_s, bn1_s, hX.hv.r12, bn1_s, h1, bn1_s], by rw [e4, ix6, bec_m (by omega), bnd_s], RL.row' hO h3 (fun q => hse_oth) (mKeep.r _) (by rw [mIA_IA, if_pos rfl]) h2 (hI.upd (ok_on (by omega) (in01 d)))⟩
theorem in_lo {v : Int32} {lo hi : Nat} (hh : hi ≤ 1000) (hl : lo ≤ hi) (h : ¬ inP v (I lo) (I hi) = 0) : ∃ k, lo ≤ k ∧ k ≤ hi ∧ v = I k := by
  obtain ⟨-, h1, h2⟩ := (inP_or v (I lo) (I hi)).resolve_left h
  rw [Int32.le_iff_toInt_le, I_int (by omega)] at h1 h2
  refine ⟨v.toNatClampNeg, ?_, ?_, I_of (by rw [Int32.lt_iff_toInt_lt]; have z : (0 : Int32).toInt = 0 := rfl; omega)⟩
  · unfold Int32.toNatClampNeg; omega
  · unfold Int32.toNatClampNeg; omega
theorem op_told (h : RL b u S) (x : Int32) : OpR b (fX0_told b x u) (fX4_told x S) := by
  unfold fX0_told fX4_told bX0_told_24 bX4_told_25
  rw [in_x, bnd_s, in_m, bnd_s]
  by_cases c : inP x 1 6 = 0
  · rw [if_pos c, if_pos c]
    obtain ⟨u', S', e1, e2, e3⟩ := err1 h
    exact ⟨_, u', S', by rw [chk_t h.pb.isP, e1, bnd_s], by rw [e2, bnd_s], e3⟩
  · rw [if_neg c, if_neg c]
    obtain ⟨k, k1, k2, rfl⟩ := in_lo (lo := 1) (hi := 6) (by decide) (by decide) c
    have h' := h
    obtain ⟨hd, tx, hX, hI, ⟨hK, hA, ⟨f, hf, hf2⟩, hT, hS⟩⟩ := h'
    refine ⟨mIA S 4 k, u, S, by rw [hX.pb.r6, bn1_s, aI_of hf (by omega) (by decide), bn1_s, hf2 k (by omega)], by rw [chk_t (inB_I (by omega) (by decide)), I_nat (by omega)], h⟩
theorem use_x (x : Int32) (u : XS) : fX0_isUse x u = some (inP x 0 1, u) := by
  unfold fX0_isUse
  rw [in_x, bnd_s, chk_t (inP_B _ _ _)]
theorem sc2_oth {q : Nat} (h : sc2 b q) : ¬ oth b q := rnd_oth (Or.inl (by rcases h with h | h <;> simp [scr, h]))
theorem XQ.sc2 {v : XS} {row : Nat → Int32} {hd tx : Nat → Option Nat} {im : Int32} (h : XQ u b row hd tx im) (hx : XV v b row hd tx) (hf : Fr (sc2 b) u v) : XQ v b row hd tx im := by
  obtain ⟨bel, N, R, A, wt, sd, hX⟩ := h
  exact ⟨bel, N, R, A, wt, sd, hX.sc2 hx hf⟩
theorem mEq.r0 {T : MS} (h : mEq S T) : mIA T 0 = mIA S 0 := h.row
theorem op_law (h : RL b u S) (x p q r : Int32) : OpR b (fX0_law b x p q r u) (fX4_law x p q r S) := by
  unfold fX0_law fX4_law bX0_law_24 bX4_law_27
  rw [use_x, bnd_s, in_m, bnd_s]
  by_cases c : inP x 0 1 = 0
  · rw [if_pos c, if_pos c]
    obtain ⟨u', S', e1, e2, e3⟩ := err1 h
    exact ⟨_, u', S', by rw [chk_t h.pb.isP, e1, bnd_s], by rw [e2, bnd_s], e3⟩
  · rw [if_neg c, if_neg c]
    obtain ⟨hd, tx, hX, hI, hO⟩ := h
    rcases in01 c with rfl | rfl
    · obtain ⟨u', h1, h2, h3⟩ := givX0 hX.xv hI p q r
      obtain ⟨S', g1, g2⟩ := gives_0 hI.2.2.2.2.2.2.1 p q r
      exact ⟨_, u', S', by rw [chk_t hX.pb.isP, h1, bnd_s], by rw [g1, bnd_s], RL.row' hO h3 (fun q => sc2_oth) g2.keep g2.row (hX.sc2 h2 h3) hI⟩
    · obtain ⟨u', h1, h2, h3⟩ := givX1 hX.xv hI p q r
      obtain ⟨S', g1, g2⟩ := gives_1 hI.2.2.2.2.2.2.2.1 p q r
      exact ⟨_, u', S', by rw [chk_t hX.pb.isP, h1, bnd_s], by rw [g1, bnd_s], RL.row' hO h3 (fun q => sc2_oth) g2.keep g2.row (hX.sc2 h2 h3) hI⟩
theorem op_body (h : RL b u S) (x : Int32) : OpR b (fX0_body b x u) (fX4_body x S) := by
  have h' := h
  obtain ⟨hd, tx, hX, hI, ⟨hK, hA, hF, ⟨hT1, ⟨f, hT2, hT3⟩, t, ht30, hT4⟩, hS⟩⟩ := h'
  have g1 : gI u (b + 54) 3 1 = some (mIF S 22) := gI_of hT1 rfl
  have g0 : gR u (b + 54) 3 0 = some (b + 55) := gR_of hT1 rfl
  unfold fX0_body fX4_body bX0_body_34 bX4_body_29
  rw [hX.pb.r5, bn1_s, g1, bn1_s, in_x, bnd_s, in_m, bnd_s, hT4]
  rcases inP_I (v := x) (n := t) (by omega) with c | ⟨c, k, hk, rfl⟩
  · rw [if_pos c, if_pos c]
    obtain ⟨u', S', e1, e2, e3⟩ := err2 h
    exact ⟨_, u', S', by rw [chk_t h.pb.isP, e1, bnd_s], by rw [e2, bnd_s], e3⟩
  · rw [if_neg (by rw [c]; decide), if_neg (by rw [c]; decide)]
    exact ⟨mIA S 21 k, u, S, by rw [hX.pb.r5, bn1_s, g0, bn1_s, aI_of hT2 (by omega) (by decide), bn1_s, hT3 k (by omega)], by rw [chk_t (inB_I (by omega) (by decide)), I_nat (by omega)], h⟩
end OPS
