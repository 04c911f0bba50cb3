/-! place, miss -/
theorem ofI_J {z : Int} {n : Nat} (h : z = n) (hn : n < 2 ^ 63) : Int64.ofInt z = J n := by
  rw [← Int64.toInt_inj, J_int hn, i64_to (by omega), h]
theorem abs_J {z : Int} (h : z.natAbs < 2 ^ 63) : absL (Int64.ofInt z) = J z.natAbs := by
  have e := i64_to h
  unfold absL
  by_cases c : (0 : Int64) ≤ Int64.ofInt z
  · rw [if_pos c]
    rw [Int64.le_iff_toInt_le, e] at c
    have z0 : (0 : Int64).toInt = 0 := rfl
    exact ofI_J (by omega) h
  · rw [if_neg c, ← Int64.ofInt_neg]
    rw [Int64.le_iff_toInt_le, e] at c
    have z0 : (0 : Int64).toInt = 0 := rfl
    exact ofI_J (by omega) h
theorem XP_b {row : Nat → Int32} (hI : INV row) (p : Nat) : (XP row p).natAbs ≤ 754974720 := ab_dt hI.2.1.2.2 (bdd_r hI.1.2 p)
def msI (row : Nat → Int32) (k : Nat) : Int := ((sP row k).toInt * DP row - XP row (row (8 + 6 * k + 3)).toNatClampNeg) + (if 0 ≤ row (8 + 6 * k + 2) then XP row (row (8 + 6 * k + 2)).toNatClampNeg else 0)
theorem ms_I (row : Nat → Int32) (k : Nat) : msP row k = Int64.ofInt (msI row k) := by
  unfold msP msI
  rw [Int64.ofInt_add, Int64.ofInt_sub, Int64.ofInt_mul, Int64.ofInt_int32ToInt]
  congr 1
  split <;> rfl
theorem msI_b {row : Nat → Int32} (hI : INV row) (hh : heldQ row) (k : Nat) : (msI row k).natAbs ≤ 1600000000 := by
  obtain ⟨d1, d2⟩ := D_pos hI hh
  have h0 := sP_b row k
  have h1 := ab_mul (show (sP row k).toInt.natAbs ≤ 30 by omega) (show (DP row).natAbs ≤ 1048576 by omega)
  have h2 := XP_b hI (row (8 + 6 * k + 3)).toNatClampNeg
  have h3 := XP_b hI (row (8 + 6 * k + 2)).toNatClampNeg
  unfold msI
  generalize (sP row k).toInt * DP row = A at *
  split
  · omega
  · omega
section PLC
variable {b : Nat} {u : XS} {S : MS}
theorem err1L (h : RL b u S) (X : Option (Int64 × XS)) (M : Option (Int64 × MS)) (e1 : X = chk (isC u b 0) (bnd (fX0_finds b (1 : Int32) u) fun v4 S2 => some (v4.toInt64, S2))) (e2 : M = bnd (fX4_error (-1000000001 : Int32) S) fun v3 S2 => some (v3.toInt64, S2)) : OpR b X M := by
  obtain ⟨u', S', g1, g2, g3⟩ := err1 h
  exact ⟨_, u', S', by rw [e1, chk_t h.pb.isP, g1, bnd_s], by rw [e2, g2, bnd_s], g3⟩
theorem op_place (h : RL b u S) (x y : Int32) : OpR b (fX0_place b x y u) (fX4_place x y S) := by
  have h' := h
  obtain ⟨hd0, tx0, hX, hI, hO⟩ := h'
  have hP4 := hI.2.1.2.2
  unfold fX0_place fX4_place bX0_place_54 bX4_place_54
  rw [chk_t h.pb.isP, pi_x hX, bnd_s, pi_mm, bnd_s]
  rcases piP_or hI x with c | ⟨c, p, hp, rfl⟩
  · rw [if_pos c, if_pos c]; exact err1L h _ _ rfl rfl
  · have c' : ¬ piP (mIA S 0) (I p) = 0 := by rw [c]; decide
    rw [if_neg c', if_neg c', in_x, bnd_s, prt_m, bnd_s]
    by_cases d : inP y 0 1 = 0
    · rw [if_pos d, if_pos d]; exact err1L h _ _ rfl rfl
    · rw [if_neg d, if_neg d, chk_t h.pb.isP]
      rcases sol_both h with ⟨e1, e2, -⟩ | ⟨q, hd, tx, u', S', e1, e2, e3, e4, e5, e6, e7⟩
      · rw [e1, bnd_s, e2, bnd_s, if_pos rfl, if_pos rfl]
        obtain ⟨u', S', g1, g2, g3⟩ := err3 h
        exact ⟨_, u', S', by rw [chk_t h.pb.isP, g1, bnd_s], by rw [g2, bnd_s], g3⟩
      · rw [e1, bnd_s, e2, bnd_s, if_neg (by decide), if_neg (by decide)]
        obtain ⟨d1, d2⟩ := D_pos hI q
        obtain ⟨N, R, A, wt, sd, hXX, hA, hws⟩ := e4
        have xb := XP_b hI p
        have eD : Int64.ofInt (DP (mIA S 0)) = J (DP (mIA S 0)).toNat := ofI_J (by omega) (by omega)
        have ea := abs_J (z := XP (mIA S 0) p) (by omega)
        refine ⟨ptP (Int64.ofInt (XP (mIA S 0) p)) (XP (mIA S 0) p).natAbs (DP (mIA S 0)).toNat y, u', S', ?_, ?_, e3⟩
        · rw [hXX.pb.r11, bn1_s, hXX.getA (by omega), bn1_s, hA p hp, hXX.getB, bn1_s, eD, part_x u' ea (by omega) (by omega) (by omega), bnd_s]
        · rw [chk_t (inB_I (by omega) (by decide)), I_nat (by omega), e7.2 p hp, e7.1, eD, part_m S' ea (by omega) (by omega) (by omega), bnd_s]
theorem op_miss (h : RL b u S) (x y : Int32) : OpR b (fX0_miss b x y u) (fX4_miss x y S) := by
  have h' := h
  obtain ⟨hd0, tx0, hX, hI, hO⟩ := h'
  unfold fX0_miss fX4_miss bX0_miss_53 bX4_miss_53
  rw [chk_t h.pb.isP, mk_x hX, bnd_s, mk_mm, bnd_s]
  rcases mkP_or hI x with c | ⟨c, k, hk, rfl⟩
  · rw [if_pos c, if_pos c]; exact err1L h _ _ rfl rfl
  · have c' : ¬ mkP (mIA S 0) (I k) = 0 := by rw [c]; decide
    rw [if_neg c', if_neg c', in_x, bnd_s, prt_m, bnd_s]
    by_cases d : inP y 0 1 = 0
    · rw [if_pos d, if_pos d]; exact err1L h _ _ rfl rfl
    · rw [if_neg d, if_neg d, chk_t h.pb.isP]
      rcases sol_both h with ⟨e1, e2, -⟩ | ⟨q, hd, tx, u', S', e1, e2, e3, e4, e5, e6, e7⟩
      · rw [e1, bnd_s, e2, bnd_s, if_pos rfl, if_pos rfl]
        obtain ⟨u', S', g1, g2, g3⟩ := err3 h
        exact ⟨_, u', S', by rw [chk_t h.pb.isP, g1, bnd_s], by rw [g2, bnd_s], g3⟩
      · rw [e1, bnd_s, e2, bnd_s, if_neg (by decide), if_neg (by decide)]
        obtain ⟨d1, d2⟩ := D_pos hI q
        have mb := msI_b hI q k
        have eD : Int64.ofInt (DP (mIA S 0)) = J (DP (mIA S 0)).toNat := ofI_J (by omega) (by omega)
        have ea := abs_J (z := msI (mIA S 0) k) (by omega)
        rw [← ms_I] at ea
        obtain ⟨T, t1, t2⟩ := ms_m (S := S') (k := k) (by rw [e6.row]; exact hI) (by rw [e6.row]; exact e7) (by rw [e6.row]; exact hk)
        have e4' := e4
        obtain ⟨N, R, A, wt, sd, hXX, hA, hws⟩ := e4'
        refine ⟨ptP (msP (mIA S 0) k) (msI (mIA S 0) k).natAbs (DP (mIA S 0)).toNat y, u', T, ?_, ?_, RL.row' e3.ro (Fr.rfl' (P := scr b)) (fun q => scr_oth) t2.keep (t2.row.trans e6.row) (by rw [e6.2.2 3]; exact e4.q) hI⟩
        · rw [chk_t e3.pb.isP, ms_x hI e4 hk, bnd_s, hXX.getB, bn1_s, eD, part_x u' ea (by omega) (by omega) (by omega), bnd_s]
        · rw [t1, bnd_s, e6.row, t2.2.2.2, e7.1, eD, part_m T ea (by omega) (by omega) (by omega), bnd_s]
end PLC
