/-! loose, pictures, untell, as -/
theorem I_div {a c : Nat} (ha : a < 2 ^ 31) (hc : c < 2 ^ 31) : I a / I c = I (a / c) := by
  rw [← Int32.toInt_inj, Int32.toInt_div, I_int ha, I_int hc]
  have h1 : a / c ≤ a := Nat.div_le_self a c
  rw [I_int (by omega)]
  have e : (a : Int).tdiv (c : Int) = ((a / c : Nat) : Int) := rfl
  rw [e]
  generalize a / c = d at h1
  exact Int.bmod_eq_of_le (by omega) (by omega)
theorem I_mod {a c : Nat} (ha : a < 2 ^ 31) (hc : c < 2 ^ 31) : I a - I a / I c * I c = I (a % c) := by
  rw [I_div ha hc, I_mul, I_sub (Nat.div_mul_le_self a c)]
  congr 1
  have := Nat.div_add_mod a c
  rw [Nat.mul_comm] at this
  omega
theorem ush8 (z : Int32) : ∃ n, n < 2 ^ 24 ∧ ((z.toUInt32 >>> (((8 : Int32)).toUInt32 &&& Int32.toUInt32 31)).toInt32) = I n := by
  have e : (((8 : Int32)).toUInt32 &&& Int32.toUInt32 31) = (8 : UInt32) := by decide
  rw [e]
  have h : (z.toUInt32 >>> (8 : UInt32)).toNat = z.toUInt32.toNat / 2 ^ 8 := by
    rw [UInt32.toNat_shiftRight]
    rw [Nat.shiftRight_eq_div_pow]
    rfl
  have hlt := z.toUInt32.toNat_lt
  refine ⟨(z.toUInt32 >>> (8 : UInt32)).toNat, by omega, ?_⟩
  unfold I
  rw [← UInt32.toInt32_ofNat', UInt32.ofNat_toNat]
section OPS5
variable {b : Nat} {u : XS} {S : MS}
theorem puts_m {k w : Nat} (hk : k < 8) (hw : w < 6) (v : Int32) (S : MS) : fX4_puts (I k) (I w) v S = some (sIA S 0 (upd (mIA S 0) (8 + 6 * k + w) v)) := by
  unfold fX4_puts
  rw [ix6, chk_t (inB_I (by omega) (by decide)), I_nat (by omega), nm_s]
theorem m00 (S : MS) (f : Nat → Int32) : mIA (sIA S 0 f) 0 = f := by rw [mIA_IA, if_pos rfl]
theorem RL.told (h : RL b u S) {k : Nat} (hk : k < 8) (v : Int32) : ∃ u', sI u (b + 3 + 4) 0 (I k) v = some u' ∧ RL b u' (sIA S 0 (upd (mIA S 0) (8 + 6 * k + 4) v)) ∧ Fr (fun q => b + 3 ≤ q ∧ q ≤ b + 19) u u' := by
  obtain ⟨hd, tx, hX, hI, hO⟩ := h
  obtain ⟨u', h1, h2, h3⟩ := hX.setC (w := 4) (k := k) (by decide) (by decide) hk v
  exact ⟨u', h1, RL.row' hO h3 (fun q => hse_oth) (mKeep.r _) (m00 _ _) h2 (hI.upd (ok_told hk v)), h3⟩
theorem RL.onn (h : RL b u S) {k : Nat} (hk : k < 8) {v : Int32} (hv : v = 0 ∨ v = 1) : ∃ u', sI u (b + 3 + 5) 0 (I k) v = some u' ∧ RL b u' (sIA S 0 (upd (mIA S 0) (8 + 6 * k + 5) v)) ∧ Fr (fun q => b + 3 ≤ q ∧ q ≤ b + 19) u u' := by
  obtain ⟨hd, tx, hX, hI, hO⟩ := h
  obtain ⟨u', h1, h2, h3⟩ := hX.setC (w := 5) (k := k) (by decide) (by decide) hk v
  exact ⟨u', h1, RL.row' hO h3 (fun q => hse_oth) (mKeep.r _) (m00 _ _) h2 (hI.upd (ok_on hk hv)), h3⟩
theorem RL.go (h : RL b u S) : ∃ u' T, fX0_aRound b u = some u' ∧ fX4_goes S = some T ∧ RL b u' T ∧ mIA T 0 = goP (mIA S 0) ∧ Fr (rnd b) u u' ∧ mEqG S T := by
  obtain ⟨hd, tx, hX, hI, hO⟩ := h
  obtain ⟨u', h1, h2, h3⟩ := round_xx hX hI
  obtain ⟨T, g1, g2, g3⟩ := go_m hI
  exact ⟨u', T, h1, g1, RL.row' hO h3 (fun q => rnd_oth) g3.keep g2 h2 hI.go, g2, h3, g3⟩
theorem RL.draw (h : RL b u S) : ∃ n u' S', n < 2 ^ 24 ∧ fX1_drawn (b + 3) u = some (I n, u') ∧ fX4_draw S = some (I n, S') ∧ RL b u' S' ∧ mIA S' 0 2 = mIA S 0 2 := by
  obtain ⟨hd, tx, hX, hI, hO⟩ := h
  obtain ⟨u', h1, h2, h3⟩ := hX.setF (f := 5) (by decide) (by decide) (mIA S 0 1 * 1103515245 + 12345)
  have h2 : XQ u' b (upd (mIA S 0) 1 (mIA S 0 1 * 1103515245 + 12345)) hd tx (mIF S 3) := h2
  obtain ⟨n, hn, e⟩ := ush8 (mIA S 0 1 * 1103515245 + 12345)
  have z1 : ((1 : Int32)).toNatClampNeg = 1 := rfl
  refine ⟨n, u', sIA S 0 (upd (mIA S 0) 1 (mIA S 0 1 * 1103515245 + 12345)), hn, ?_, ?_, RL.row' hO h3 (fun q => hse_oth) (mKeep.r _) (m00 _ _) h2 (hI.upd (Or.inr (Or.inl rfl))), by rw [m00, upd_ne _ _ (by decide)]⟩
  · unfold fX1_drawn
    rw [hX.hv.i5, bn1_s, nm_s, h1, bn1_s, h2.hv.i5, bn1_s, upd_at, e]
  · unfold fX4_draw
    rw [z1, nm_s, m00, upd_at, e]
theorem op_loose (h : RL b u S) (x : Int32) : OpR b (fX0_loose b x u) (fX4_loose x S) := by
  have h' := h
  obtain ⟨hd, tx, hX, hI, hO⟩ := h'
  unfold fX0_loose fX4_loose
  rw [in_x, bnd_s, in_m, bnd_s]
  by_cases c : inP x 1 30 = 0
  · rw [if_pos c, if_pos c]
    obtain ⟨u', S', e1, e2, e3⟩ := err1 h
    exact ⟨_, u', S', by rw [chk_t h.pb.isP, e1, bnd_s], by rw [e2, bnd_s], e3⟩
  · rw [if_neg c, if_neg c, chk_t h.pb.isP, late_x hX, bnd_s]
    have e0 : mIA S 0 ((0 : Int32)).toNatClampNeg = mIA S 0 0 := rfl
    rw [e0]
    obtain ⟨n, n1, n2, rfl⟩ := in_lo (lo := 1) (hi := 30) (by decide) (by decide) c
    by_cases d : mIA S 0 0 + I n ≤ 9999
    · rw [if_pos d, if_pos d, if_pos rfl]
      have key : ∀ (j k : Nat), k + j = n → ∀ f, j < f → ∀ (u : XS) (S : MS), RL b u S → OpR b (lX0_loose_32 f b (I n) (I k) u) (lX4_loose_40 f (I n) (I k) S) := by
        intro j
        induction j with
        | zero =>
          intro k hk f hf u S h
          obtain ⟨f, rfl⟩ : ∃ g, f = g + 1 := ⟨f - 1, by omega⟩
          have h' := h
          obtain ⟨hd, tx, hX, hI, hO⟩ := h'
          refine ⟨bcJ (onP (mIA S 0)), u, S, ?_, ?_, h⟩
          · show bX0_loose_32 (lX0_loose_32 f) _ _ _ _ = _
            unfold bX0_loose_32
            rw [if_pos (by rw [I_le (by omega) (by omega)]; omega), hX.pb.r2, bn1_s, chk_t hX.hv.isH, used_x hX.hv hI, bnd_s, bc_x, bnd_s]
          · show bX4_loose_40 (lX4_loose_40 f) _ _ _ = _
            unfold bX4_loose_40
            rw [if_pos (by rw [I_le (by omega) (by omega)]; omega), on_m hI, bnd_s, bits_m hI, bnd_s]
        | succ j ih =>
          intro k hk f hf u S h
          obtain ⟨f, rfl⟩ : ∃ g, f = g + 1 := ⟨f - 1, by omega⟩
          have h' := h
          obtain ⟨hd, tx, hX, hI, hO⟩ := h'
          have h8 := hI.1.2
          have eX : lX0_loose_32 (f + 1) b (I n) (I k) u = bX0_loose_32 (lX0_loose_32 f) b (I n) (I k) u := rfl
          have eM : lX4_loose_40 (f + 1) (I n) (I k) S = bX4_loose_40 (lX4_loose_40 f) (I n) (I k) S := rfl
          have z2 : ((2 : Int32)).toNatClampNeg = 2 := rfl
          rw [eX, eM]
          unfold bX0_loose_32 bX4_loose_40 bX0_loose_95 fX4_drawn bX4_drawn_44
          rw [if_neg (by rw [I_le (by omega) (by omega)]; omega), if_neg (by rw [I_le (by omega) (by omega)]; omega), hX.pb.r2, bn1_s, hX.hv.i0, bn1_s, z2]
          by_cases q : mIA S 0 2 ≤ 0
          · obtain ⟨u', T, g1, g2, g3, -⟩ := h.go
            rw [if_pos q, if_pos q, chk_t h.pb.isP, g1, bn1_s, g2, bn1_s, bn1_s, nm_s, nm_s, I_succ]
            exact ih (k + 1) (by omega) f (by omega) u' T g3
          · have hN : 1 ≤ nM (mIA S 0) := by
              rw [hI.1.1, I_le0 (by omega)] at q
              omega
            obtain ⟨a, u1, S1, ha, d1, d2, d3, d4⟩ := h.draw
            obtain ⟨c2, u2, S2, hc2, f1, f2, f3, f4⟩ := d3.draw
            have e1 : mIA S1 0 2 = I (nM (mIA S 0)) := d4.trans hI.1.1
            have hm : a % nM (mIA S 0) < nM (mIA S 0) := Nat.mod_lt _ (by omega)
            obtain ⟨u3, t1, t2, -⟩ := f3.told (k := a % nM (mIA S 0)) (by omega) ((I c2 - I c2 / 41 * 41) - 20)
            obtain ⟨u4, o1, o2, -⟩ := t2.onn (k := a % nM (mIA S 0)) (v := 1) (by omega) (Or.inr rfl)
            obtain ⟨u', T, g1, g2, g3, -⟩ := o2.go
            have p1 := puts_m (k := a % nM (mIA S 0)) (w := 4) (by omega) (by decide) ((I c2 - I c2 / 41 * 41) - 20) S2
            have p2 := puts_m (k := a % nM (mIA S 0)) (w := 5) (by omega) (by decide) 1 (sIA S2 0 (upd (mIA S2 0) (8 + 6 * (a % nM (mIA S 0)) + 4) ((I c2 - I c2 / 41 * 41) - 20)))
            have e4 : (I 4 : Int32) = 4 := rfl
            have e5 : (I 5 : Int32) = 5 := rfl
            rw [e4] at p1
            rw [e5] at p2
            have n0 : ne0 (I (nM (mIA S 0))) = true := ne0_t (by have e : (0 : Int32) = I 0 := rfl; rw [e, I_inj (by omega) (by omega)]; omega)
            have i0 : gI u1 (b + 3) 1 0 = some (I (nM (mIA S 0))) := by
              obtain ⟨hd, tx, hX1, -⟩ := d3
              rw [hX1.hv.i0, e1]
            have h3 : isC u1 (b + 3) 1 = true := by obtain ⟨hd, tx, hX1, -⟩ := d3; exact hX1.hv.isH
            have r11 : gR u1 (b + 3) 1 11 = some (b + 3 + 4) := by obtain ⟨hd, tx, hX1, -⟩ := d3; exact hX1.hv.r11
            have r12 : gR u3 (b + 3) 1 12 = some (b + 3 + 5) := by obtain ⟨hd, tx, hX1, -⟩ := t2; exact hX1.hv.r12
            rw [if_neg q, if_neg q, bn1_s, chk_t hX.hv.isH, d1, bnd_s, d3.pb.r2, bn1_s, i0, bn1_s, chk_t n0, nm_s, I_mod (by omega) (by omega), bn1_s, r11, bn1_s, bn1_s, chk_t h3, f1, bnd_s, t1, bn1_s, t2.pb.r2, bn1_s, r12, bn1_s, o1, bn1_s, chk_t o2.pb.isP, g1, bn1_s, nm_s, I_succ]
            rw [d2, bnd_s, e1, chk_t n0, nm_s, I_mod (by omega) (by omega), f2, bnd_s, p1, bn1_s, p2, bn1_s, g2, bn1_s, bn1_s, nm_s]
            exact ih (k + 1) (by omega) f (by omega) u' T g3
      exact key n 0 (by omega) FU (by show n < 1000; omega) u S h
    · rw [if_neg d, if_neg d, if_neg (by decide)]
      obtain ⟨u', S', e1, e2, e3⟩ := err3 h
      exact ⟨_, u', S', by rw [chk_t h.pb.isP, e1, bnd_s], by rw [e2, bnd_s], e3⟩
end OPS5
