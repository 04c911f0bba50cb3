/-! put, tells -/
theorem nar8 (v : Int32) : nar 1 (v.toInt8.toInt32) = v.toInt8.toInt32 := by
  show (v.toInt8.toInt32).toInt8.toInt32 = v.toInt8.toInt32
  rw [Int8.toInt8_toInt32]
theorem nar16 (v : Int32) : nar 2 (v.toInt16.toInt32) = v.toInt16.toInt32 := by
  show (v.toInt16.toInt32).toInt16.toInt32 = v.toInt16.toInt32
  rw [Int16.toInt16_toInt32]
section SHT2
variable {b : Nat} {u : XS} {S : MS}
theorem op_put (h : RL b u S) (x y v : Int32) : OpR b (fX0_put b x y v u) (fX4_put x y v S) := by
  unfold fX0_put fX4_put bX4_put_33
  rw [sh_x, bnd_s]
  by_cases c : inP x 0 3 = 0
  · rw [if_pos c, not_b c, bnd_s, if_neg (by decide)]
    unfold bX4_put_35
    rw [if_neg (by decide)]
    obtain ⟨u', S', e1, e2, e3⟩ := err1 h
    exact ⟨_, u', S', by rw [chk_t h.pb.isP, e1, bnd_s], by rw [e2, bnd_s], e3⟩
  · obtain ⟨s, -, s2, rfl⟩ := in_lo (lo := 0) (hi := 3) (by decide) (by decide) c
    obtain ⟨ad, a1, a2, a3, a4⟩ := h.sheet (s := s) (by omega)
    rw [if_neg c, not_m (by omega), bnd_s, a1, bn1_s, a2, bn1_s, a3, bn1_s]
    cases ad with
    | none =>
      rw [nlc_n', if_pos a4.no, if_neg (by decide)]
      unfold bX4_put_35
      rw [if_neg (by decide)]
      obtain ⟨u', S', e1, e2, e3⟩ := err2 h
      exact ⟨_, u', S', by rw [chk_t h.pb.isP, e1, bnd_s], by rw [e2, bnd_s], e3⟩
    | some q =>
      obtain ⟨t, n, f, y1, y2, y3, y4, y5, y6, y7, y8⟩ := a4.yes
      rw [nlc_s', if_neg y8, if_pos rfl, size_x y3 y1, bnd_s, in_x, bnd_s, chk_t (inB_I (by omega) (by decide)), I_nat (by omega), y5, in_m, bnd_s]
      rcases inP_I (v := y) (n := n) (by omega) with d | ⟨d, k, hk, rfl⟩
      · rw [if_pos d, if_pos d]
        unfold bX4_put_35
        rw [if_neg (by decide)]
        obtain ⟨u', S', e1, e2, e3⟩ := err1 h
        exact ⟨_, u', S', by rw [chk_t h.pb.isP, e1, bnd_s], by rw [e2, bnd_s], e3⟩
      · have d' : ¬ inP (I k) 0 (I n - 1) = 0 := by rw [d]; decide
        rw [if_neg d', if_neg d']
        have fin1 : ∀ w : Int32, nar t w = w → RL b (xset u q (aeI t n (upd f k (nar t w)))) (sIA S 7 (upd (mIA S 7) (24 * s + k) w)) := by
          intro w hw
          rw [hw]
          refine h.wsheet (by omega) a3 y2 y3 y6 (fun j hj => ?_) (fun i _ hi => upd_ne _ _ (by omega))
          by_cases z : j = k
          · rw [z, upd_at, upd_at]
          · rw [upd_ne _ _ z, upd_ne _ _ (by omega)]; exact y7 j hj
        have m92 : ∀ w : Int32, bX4_put_92 (((24 : Int32) * I s) + I k) w S = some (1, sIA S 7 (upd (mIA S 7) (24 * s + k) w)) := by
          intro w
          unfold bX4_put_92
          rw [ix24, chk_t (inB_I (by omega) (by decide)), I_nat (by omega), nm_s]
        unfold bX4_put_35
        rw [if_pos rfl, chk_t (inB_I (by omega) (by decide)), I_nat (by omega)]
        rcases y4 with ⟨rfl, z⟩ | ⟨rfl, z⟩ | ⟨rfl, z⟩
        · rw [z, if_neg (by decide), chk_t (inB_I (by omega) (by decide)), if_neg (by decide), m92, insA_of y3 (by decide), bn1_s, if_pos (by decide), insA_of y3 (by decide), bn1_s, if_pos (by decide), chk_t (isA_of y3), sI_of y3 hk (by omega), bn1_s]
          exact ⟨_, _, _, rfl, rfl, fin1 v rfl⟩
        · rw [z, if_pos rfl, m92, insA_of y3 (by decide), bn1_s, if_neg (by decide), chk_t (isA_of y3), sI_of y3 hk (by omega), bn1_s]
          exact ⟨_, _, _, rfl, rfl, fin1 _ (nar8 v)⟩
        · rw [z, if_neg (by decide), chk_t (inB_I (by omega) (by decide)), if_pos rfl, m92, insA_of y3 (by decide), bn1_s, if_pos (by decide), insA_of y3 (by decide), bn1_s, if_neg (by decide), chk_t (isA_of y3), sI_of y3 hk (by omega), bn1_s]
          exact ⟨_, _, _, rfl, rfl, fin1 _ (nar16 v)⟩
theorem mk_no {row : Nat → Int32} (hI : INV row) {k : Nat} (hk : k ≤ 1000) (d : mkP row (I k) = 0) : row 2 ≤ I k := by
  have h8 := hI.1.2
  rw [hI.1.1, I_le (by omega) (by omega)]
  by_cases w : k < nM row
  · unfold mkP inP at d
    rw [if_neg (I_nn (by omega)), hI.1.1, I_pred (by omega), if_neg (by rw [I_lt (by omega) (by omega)]; omega)] at d
    exact absurd d (by decide)
  · omega
theorem op_tells (h : RL b u S) (x : Int32) : OpR b (fX0_tells b x u) (fX4_tells x S) := by
  unfold fX0_tells fX4_tells
  rw [sh_x, bnd_s]
  by_cases c : inP x 0 3 = 0
  · rw [if_pos c, not_b c, bnd_s, if_neg (by decide)]
    obtain ⟨u', S', e1, e2, e3⟩ := err1 h
    exact ⟨_, u', S', by rw [chk_t h.pb.isP, e1, bnd_s], by rw [e2, bnd_s], e3⟩
  · obtain ⟨s, -, s2, rfl⟩ := in_lo (lo := 0) (hi := 3) (by decide) (by decide) c
    obtain ⟨ad, a1, a2, a3, a4⟩ := h.sheet (s := s) (by omega)
    rw [if_neg c, not_m (by omega), bnd_s, a1, bn1_s, a2, bn1_s, a3, bn1_s]
    cases ad with
    | none =>
      rw [nlc_n', if_pos a4.no, if_neg (by decide)]
      obtain ⟨u', S', e1, e2, e3⟩ := err2 h
      exact ⟨_, u', S', by rw [chk_t h.pb.isP, e1, bnd_s], by rw [e2, bnd_s], e3⟩
    | some q =>
      obtain ⟨t, n, f, y1, y2, y3, y4, y5, y6, y7, y8⟩ := a4.yes
      rw [nlc_s', if_neg y8, if_pos rfl]
      have key : ∀ (j k : Nat), k + j = n → ∀ f', j < f' → ∀ (u : XS) (S : MS), RL b u S → u.1 q = some (aeI t n f) → mIA S 6 s = I n → (∀ k, k < n → f k = mIA S 7 (24 * s + k)) → OpR b (lX0_tells_35 f' b (some q) (I k) u) (lX4_tells_18 f' (I s) (I k) S) := by
        intro j
        induction j with
        | zero =>
          intro k hk f' hf u S h y3 y5 y7
          obtain ⟨f', rfl⟩ : ∃ g, f' = g + 1 := ⟨f' - 1, by omega⟩
          have eX : lX0_tells_35 (f' + 1) b (some q) (I k) u = bX0_tells_35 (lX0_tells_35 f') b (some q) (I k) u := rfl
          have eM : lX4_tells_18 (f' + 1) (I s) (I k) S = bX4_tells_18 (lX4_tells_18 f') (I s) (I k) S := rfl
          rw [eX, eM]
          unfold bX0_tells_35 bX4_tells_18 bX0_tells_86 bX4_tells_82
          have le : I n ≤ I k := by rw [I_le (by omega) (by omega)]; omega
          rw [bn1_s, size_x y3 y1, bnd_s, if_pos le, chk_t (inB_I (by omega) (by decide)), I_nat (by omega), y5, if_pos le]
          exact ⟨_, u, S, rfl, rfl, h⟩
        | succ j ih =>
          intro k hk f' hf u S h y3 y5 y7
          have h' := h
          obtain ⟨hd, tx, hX, hI, hO⟩ := h'
          have h8 := hI.1.2
          obtain ⟨f', rfl⟩ : ∃ g, f' = g + 1 := ⟨f' - 1, by omega⟩
          have eX : lX0_tells_35 (f' + 1) b (some q) (I k) u = bX0_tells_35 (lX0_tells_35 f') b (some q) (I k) u := rfl
          have eM : lX4_tells_18 (f' + 1) (I s) (I k) S = bX4_tells_18 (lX4_tells_18 f') (I s) (I k) S := rfl
          rw [eX, eM]
          unfold bX0_tells_35 bX4_tells_18 bX0_tells_86 bX4_tells_82
          have le : ¬ I n ≤ I k := by rw [I_le (by omega) (by omega)]; omega
          have z2 : mIA S 0 ((2 : Int32)).toNatClampNeg = mIA S 0 2 := rfl
          rw [bn1_s, size_x y3 y1, bnd_s, if_neg le, chk_t (inB_I (by omega) (by decide)), I_nat (by omega), y5, if_neg le, chk_t h.pb.isP, mk_x hX, bnd_s, z2]
          rcases mkP_or hI (I k) with d | ⟨d, k', hk', ek⟩
          · rw [if_pos d, if_pos (mk_no hI (by omega) d)]
            exact ⟨_, u, S, rfl, rfl, h⟩
          · have ek : k = k' := (I_inj (by omega) (by omega)).mp ek
            subst ek
            have d' : ¬ mkP (mIA S 0) (I k) = 0 := by rw [d]; decide
            have nk : ¬ mIA S 0 2 ≤ I k := by rw [hI.1.1, I_le (by omega) (by omega)]; omega
            rw [if_neg d', if_neg nk, numb_x y3 y1 y6 (by omega), bnd_s, in_x, bnd_s, ix24, chk_t (inB_I (by omega) (by decide)), I_nat (by omega), in_m, bnd_s, y7 k (by omega)]
            by_cases w : inP (mIA S 7 (24 * s + k)) (-20) 20 = 0
            · rw [if_pos w, if_pos w]
              exact ⟨_, u, S, rfl, rfl, h⟩
            · have p4 := puts_m (k := k) (w := 4) (by omega) (by decide) (mIA S 7 (24 * s + k)) S
              have y4 : I 4 = (4 : Int32) := rfl
              rw [y4] at p4
              obtain ⟨u2, b1, b2, b3⟩ := h.told (k := k) (by omega) (mIA S 7 (24 * s + k))
              rw [if_neg w, if_neg w, h.pb.r2, bn1_s, h.rtold, bn1_s, numb_x y3 y1 y6 (show k < n by omega), bnd_s, y7 k (by omega), b1, bn1_s, nm_s, chk_t (inB_I (by omega) (by decide)), p4, bn1_s, nm_s, I_succ]
              exact ih (k + 1) (by omega) f' (by omega) u2 _ b2 (by rw [b3.2 q (fun z => by omega)]; exact y3) (by rw [mIA_IA, if_neg (by decide)]; exact y5) (fun k hk => by rw [mIA_IA, if_neg (by decide)]; exact y7 k hk)
      exact key n 0 (by omega) FU (by show n < 1000; omega) u S h y3 y5 y7
end SHT2
