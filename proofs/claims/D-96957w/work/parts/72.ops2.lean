/-! bits; count, markIs, doubted, rounds, tell, untell -/
def bj1 (x : Int32) : Int32 := x - (((x.toUInt32 >>> (((1 : Int32)).toUInt32 &&& Int32.toUInt32 31)).toInt32) &&& (1431655765 : Int32))
def bj2 (x : Int32) : Int32 := (x &&& (858993459 : Int32)) + (((x.toUInt32 >>> (((2 : Int32)).toUInt32 &&& Int32.toUInt32 31)).toInt32) &&& (858993459 : Int32))
def bj3 (x : Int32) : Int32 := (x + ((x.toUInt32 >>> (((4 : Int32)).toUInt32 &&& Int32.toUInt32 31)).toInt32)) &&& (252645135 : Int32)
def bj4 (x : Int32) : Int32 := x + ((x.toUInt32 >>> (((8 : Int32)).toUInt32 &&& Int32.toUInt32 31)).toInt32)
def bj5 (x : Int32) : Int32 := x + ((x.toUInt32 >>> (((16 : Int32)).toUInt32 &&& Int32.toUInt32 31)).toInt32)
def bcJ (x : Int32) : Int32 := bj5 (bj4 (bj3 (bj2 (bj1 x)))) &&& (63 : Int32)
theorem bc_x (x : Int32) (u : XS) : fJ8_bitCount x u = some (bcJ x, u) := rfl
def bcL : Nat → Int32 → Int32 → Option Int32
  | 0, _, _ => none
  | k + 1, c, x => if x = 0 then some c else bcL k (c + 1) (x &&& (x - 1))
theorem bcL_m (S : MS) : ∀ (k : Nat) (c x v : Int32), bcL k c x = some v → ∀ f, k ≤ f → lX4_bits_4 f c x S = some (v, S) := by
  intro k
  induction k with
  | zero => intro c x v h; cases h
  | succ k ih =>
    intro c x v h f hf
    obtain ⟨f, rfl⟩ : ∃ g, f = g + 1 := ⟨f - 1, by omega⟩
    show bX4_bits_4 (lX4_bits_4 f) _ _ _ = _
    unfold bX4_bits_4
    unfold bcL at h
    by_cases c0 : x = 0
    · rw [if_pos c0] at h ⊢
      cases h
      rfl
    · rw [if_neg c0] at h ⊢
      rw [nm_s, nm_s]
      exact ih _ _ _ h f (by omega)
set_option maxRecDepth 20000 in
theorem bc_dec : ∀ n, n < 256 → bcL 10 0 (I n) = some (bcJ (I n)) := by decide
theorem bc_m {n : Nat} (h : n < 256) (S : MS) : fX4_bits (I n) S = some (bcJ (I n), S) := bcL_m S 10 0 (I n) _ (bc_dec n h) FU (by decide)
theorem us_dec : ∀ k, k < 8 → ∀ n, n < 2 ^ k → (I n ||| ((0 : Int32) <<< (I k &&& 31))) = I n ∧ (I n ||| ((1 : Int32) <<< (I k &&& 31))) = I (n + 2 ^ k) := by decide
theorem us_b {row : Nat → Int32} : ∀ k, k ≤ 8 → (∀ i, i < k → row (8 + 6 * i + 5) = 0 ∨ row (8 + 6 * i + 5) = 1) → ∃ n, n < 2 ^ k ∧ usP row k = I n := by
  intro k
  induction k with
  | zero => intro _ _; exact ⟨0, by decide, rfl⟩
  | succ k ih =>
    intro h8 h
    obtain ⟨n, hn, e⟩ := ih (by omega) (fun i hi => h i (by omega))
    have e2 : usP row (k + 1) = usP row k ||| (row (8 + 6 * k + 5) <<< (I k &&& 31)) := rfl
    have d := us_dec k (by omega) n hn
    have p : 2 ^ (k + 1) = 2 ^ k + 2 ^ k := by rw [Nat.pow_succ]; omega
    rw [e2, e]
    rcases h k (by omega) with q | q
    · exact ⟨n, by omega, by rw [q]; exact d.1⟩
    · exact ⟨n + 2 ^ k, by omega, by rw [q]; exact d.2⟩
theorem on_b {row : Nat → Int32} (hI : INV row) : ∃ n, n < 2 ^ nM row ∧ n < 256 ∧ onP row = I n := by
  obtain ⟨n, hn, e⟩ := us_b (row := row) (nM row) hI.1.2 (fun i hi => (hI.2.2.1 i hi).2.2.2.2.2)
  refine ⟨n, hn, ?_, e⟩
  have : 2 ^ nM row ≤ 2 ^ 8 := Nat.pow_le_pow_right (by decide) hI.1.2
  omega
theorem bits_m {row : Nat → Int32} (hI : INV row) (S : MS) : fX4_bits (onP row) S = some (bcJ (onP row), S) := by
  obtain ⟨n, -, h, e⟩ := on_b hI
  rw [e]; exact bc_m h S
theorem kd_x {u : XS} {row : Nat → Int32} (hI : INV row) {k m : Nat} (hk : k < nM row) (hm : u.1 m = some (aeO (5 + kdN row k) [.int (I k), .int (row (8 + 6 * k + 1))])) : v_X5_kind m u = some (row (8 + 6 * k), u) := by
  obtain ⟨k1, k2⟩ := kd_ok hI hk
  have gm : mkB u m = true := mkB_of hm (by omega)
  rw [k1]
  unfold v_X5_kind
  have hc : kdN row k = 0 ∨ kdN row k = 1 ∨ kdN row k = 2 ∨ kdN row k = 3 ∨ kdN row k = 4 ∨ kdN row k = 5 ∨ kdN row k = 6 := by omega
  rcases hc with c | c | c | c | c | c | c <;> rw [c] at hm <;> rw [c]
  · rw [if_pos (isC_of hm)]; rfl
  · rw [if_neg (isC_no hm (by decide)), if_pos (isC_of hm)]; unfold fX6_kind fX5_kind; rw [chk_t gm, bnd_s]; rfl
  · rw [if_neg (isC_no hm (by decide)), if_neg (isC_no hm (by decide)), if_pos (isC_of hm)]; unfold fX7_kind fX5_kind; rw [chk_t gm, bnd_s]; rfl
  · rw [if_neg (isC_no hm (by decide)), if_neg (isC_no hm (by decide)), if_neg (isC_no hm (by decide)), if_pos (isC_of hm)]; unfold fX8_kind fX5_kind; rw [chk_t gm, bnd_s]; rfl
  · rw [if_neg (isC_no hm (by decide)), if_neg (isC_no hm (by decide)), if_neg (isC_no hm (by decide)), if_neg (isC_no hm (by decide)), if_pos (isC_of hm)]; unfold fX9_kind fX6_kind fX5_kind; rw [chk_t gm, chk_t gm, bnd_s, bnd_s]; rfl
  · rw [if_neg (isC_no hm (by decide)), if_neg (isC_no hm (by decide)), if_neg (isC_no hm (by decide)), if_neg (isC_no hm (by decide)), if_neg (isC_no hm (by decide)), if_pos (isC_of hm)]; unfold fX10_kind fX7_kind fX5_kind; rw [chk_t gm, chk_t gm, bnd_s, bnd_s]; rfl
  · rw [if_neg (isC_no hm (by decide)), if_neg (isC_no hm (by decide)), if_neg (isC_no hm (by decide)), if_neg (isC_no hm (by decide)), if_neg (isC_no hm (by decide)), if_neg (isC_no hm (by decide)), if_pos (isC_of hm)]; unfold fX11_kind fX5_kind; rw [chk_t gm, bnd_s]; rfl
section OPS2
variable {b : Nat} {u : XS} {S : MS}
theorem op_count (h : RL b u S) (x : Int32) : OpR b (fX0_count b x u) (fX4_count x S) := by
  have h' := h
  obtain ⟨hd, tx, hX, hI, ⟨hK, hA, hF, ⟨hT1, hT2, hT3⟩, hS⟩⟩ := h'
  have g1 : gI u (b + 54) 3 1 = some (mIF S 22) := gI_of hT1 rfl
  have hH := hX.hv
  unfold fX0_count fX4_count bX4_count_81
  by_cases c0 : x = 0
  · rw [if_pos c0, if_pos c0]; exact ⟨_, u, S, by rw [hX.pb.r2, bn1_s, hH.i0, bn1_s]; rfl, rfl, h⟩
  rw [if_neg c0, if_neg c0]
  by_cases c0 : x = 1
  · rw [if_pos c0, if_pos c0]; exact ⟨_, u, S, by rw [hX.pb.r2, bn1_s, hH.i1, bn1_s]; rfl, rfl, h⟩
  rw [if_neg c0, if_neg c0]
  by_cases c0 : x = 2
  · rw [if_pos c0, if_pos c0]; exact ⟨_, u, S, by rw [hX.pb.r2, bn1_s, hH.i2, bn1_s]; rfl, rfl, h⟩
  rw [if_neg c0, if_neg c0]
  by_cases c0 : x = 3
  · rw [if_pos c0, if_pos c0]; exact ⟨_, u, S, by rw [hX.pb.r2, bn1_s, hH.i3, bn1_s], by rw [c0]; rfl, h⟩
  rw [if_neg c0, if_neg c0]
  by_cases c0 : x = 4
  · rw [if_pos c0, if_pos c0]; exact ⟨_, u, S, by rw [hX.pb.r2, bn1_s, hH.i4, bn1_s], by rw [c0]; rfl, h⟩
  rw [if_neg c0, if_neg c0]
  by_cases c0 : x = 5
  · rw [if_pos c0, if_pos c0]; exact ⟨_, u, S, by rw [hX.pb.r2, bn1_s, chk_t hH.isH, used_x hH hI, bnd_s], by rw [on_m hI, bnd_s], h⟩
  rw [if_neg c0, if_neg c0]
  by_cases c0 : x = 6
  · rw [if_pos c0, if_pos c0]; exact ⟨_, u, S, by rw [hX.pb.r2, bn1_s, bn1_s, chk_t hH.isH, used_x hH hI, bnd_s, chk_t hH.isH, tied_x hH hI, bnd_s], by rw [on_m hI, bnd_s, td_m hI, bnd_s], h⟩
  rw [if_neg c0, if_neg c0]
  by_cases c0 : x = 7
  · rw [if_pos c0, if_pos c0]; exact ⟨_, u, S, by rw [hX.pb.r2, bn1_s, hH.i6, bn1_s]; rfl, rfl, h⟩
  rw [if_neg c0, if_neg c0]
  by_cases c0 : x = 8
  · rw [if_pos c0, if_pos c0]; exact ⟨_, u, S, by rw [hX.pb.r2, bn1_s, hH.i7, bn1_s]; rfl, rfl, h⟩
  rw [if_neg c0, if_neg c0]
  by_cases c0 : x = 9
  · rw [if_pos c0, if_pos c0]; exact ⟨_, u, S, by rw [hX.pb.r5, bn1_s, g1, bn1_s], rfl, h⟩
  rw [if_neg c0, if_neg c0]
  by_cases c0 : x = 10
  · rw [if_pos c0, if_pos c0]; exact ⟨_, u, S, by rw [hX.pb.r2, bn1_s, hH.i5, bn1_s]; rfl, rfl, h⟩
  rw [if_neg c0, if_neg c0]
  obtain ⟨u', S', e1, e2, e3⟩ := err1 h
  exact ⟨_, u', S', by rw [chk_t h.pb.isP, e1, bnd_s], by rw [e2, bnd_s], e3⟩
theorem in_07 {v : Int32} (h : ¬ inP v 0 7 = 0) : v = 0 ∨ v = 1 ∨ v = 2 ∨ v = 3 ∨ v = 4 ∨ v = 5 ∨ v = 6 ∨ v = 7 := by
  obtain ⟨k, -, k2, rfl⟩ := in_lo (lo := 0) (hi := 7) (by decide) (by decide) h
  have hc : k = 0 ∨ k = 1 ∨ k = 2 ∨ k = 3 ∨ k = 4 ∨ k = 5 ∨ k = 6 ∨ k = 7 := by omega
  rcases hc with rfl | rfl | rfl | rfl | rfl | rfl | rfl | rfl <;> decide
theorem op_markIs (h : RL b u S) (x y : Int32) : OpR b (fX0_markIs b x y u) (fX4_markIs x y S) := by
  have h' := h
  obtain ⟨hd, tx, hX, hI, hO⟩ := h'
  have h8 := hI.1.2
  have hH := hX.hv
  have r2 := hX.pb.r2
  unfold fX0_markIs fX4_markIs bX4_markIs_18 bX4_markIs_59 bX0_markIs_18
  rw [chk_t h.pb.isP, mk_x hX, bnd_s, mk_mm, bnd_s]
  rcases mkP_or hI x with c | ⟨c, k, hk, rfl⟩
  · rw [if_pos c, if_pos c]
    obtain ⟨u', S', e1, e2, e3⟩ := err1 h
    exact ⟨_, u', S', by rw [chk_t h.pb.isP, e1, bnd_s], by rw [e2, bnd_s], e3⟩
  · rw [if_neg (by rw [c]; decide), if_neg (by rw [c]; decide), in_x, bnd_s, in_m, bnd_s]
    by_cases d : inP y 0 7 = 0
    · rw [if_pos d, if_pos d]
      obtain ⟨u', S', e1, e2, e3⟩ := err1 h
      exact ⟨_, u', S', by rw [chk_t h.pb.isP, e1, bnd_s], by rw [e2, bnd_s], e3⟩
    · rw [if_neg d, if_neg d]
      obtain ⟨m, a1, a2, a3, a4⟩ := at_x hH hI hX.xv.2.2.2.2.1 hk
      have k6 := (kd_ok hI hk).2
      rcases in_07 d with rfl | rfl | rfl | rfl | rfl | rfl | rfl | rfl
      · rw [if_pos rfl, if_neg (by decide)]
        exact ⟨_, u, S, by rw [r2, bn1_s, chk_t hH.isH, a1, bnd_s, kd_x hI hk a4, bnd_s], by rw [of_0 (by omega), bnd_s], h⟩
      · rw [if_neg (by decide), if_pos rfl, if_neg (by decide)]
        exact ⟨_, u, S, by rw [r2, bn1_s, chk_t hH.isH, a1, bnd_s, gIM_of a4 (by omega) rfl, bn1_s], by rw [of_1 (by omega), bnd_s], h⟩
      · rw [if_neg (by decide), if_neg (by decide), if_pos rfl, if_neg (by decide)]
        exact ⟨_, u, S, by rw [r2, bn1_s, hH.r9, bn1_s, hH.from (by omega), bn1_s], by rw [of_2 (by omega), bnd_s], h⟩
      · rw [if_neg (by decide), if_neg (by decide), if_neg (by decide), if_pos rfl, if_neg (by decide)]
        exact ⟨_, u, S, by rw [r2, bn1_s, hH.r10, bn1_s, hH.to (by omega), bn1_s], by rw [of_3 (by omega), bnd_s], h⟩
      · rw [if_neg (by decide), if_neg (by decide), if_neg (by decide), if_neg (by decide), if_pos rfl, if_neg (by decide)]
        exact ⟨_, u, S, by rw [r2, bn1_s, hH.r11, bn1_s, hH.told (by omega), bn1_s], by rw [of_4 (by omega), bnd_s], h⟩
      · rw [if_neg (by decide), if_neg (by decide), if_neg (by decide), if_neg (by decide), if_neg (by decide), if_pos rfl, if_neg (by decide)]
        exact ⟨_, u, S, by rw [r2, bn1_s, hH.r12, bn1_s, hH.on (by omega), bn1_s], by rw [of_5 (by omega), bnd_s], h⟩
      · rw [if_neg (by decide), if_neg (by decide), if_neg (by decide), if_neg (by decide), if_neg (by decide), if_neg (by decide), if_pos rfl, if_pos (by decide), if_pos rfl]
        obtain ⟨u', h1, h2, h3⟩ := w_x hX.xv hI hk
        obtain ⟨S', g1, g2⟩ := w_m hI hk
        exact ⟨_, u', S', by rw [chk_t h.pb.isP, h1, bnd_s], by rw [g1, bnd_s], RL.row' hO h3 (fun q => sc2_oth) g2.keep g2.row (hX.sc2 h2 h3) hI⟩
      · rw [if_neg (by decide), if_neg (by decide), if_neg (by decide), if_neg (by decide), if_neg (by decide), if_neg (by decide), if_neg (by decide), if_pos (by decide), if_neg (by decide)]
        obtain ⟨u', h1, h2, h3⟩ := s_x hX.xv hI hk
        obtain ⟨S', g1, g2⟩ := s_m hI hk
        exact ⟨_, u', S', by rw [chk_t h.pb.isP, h1, bnd_s], by rw [g1, bnd_s], RL.row' hO h3 (fun q => sc2_oth) g2.keep g2.row (hX.sc2 h2 h3) hI⟩
theorem scr_oth {q : Nat} (h : scr b q) : ¬ oth b q := rnd_oth (Or.inl h)
/-- both are solved, or neither -/
theorem sol_both2 (h : RL b u S) : (fX0_isSolved b u = some (0, u) ∧ fX4_isSolved S = some (0, S) ∧ ¬ heldQ (mIA S 0)) ∨ (heldQ (mIA S 0) ∧ ∃ hd tx u' S', fX0_isSolved b u = some (1, u') ∧ fX4_isSolved S = some (1, S') ∧ RL b u' S' ∧ xDone2 u' b (mIA S 0) hd tx (mIF S 3) ∧ Fr (scr b) u u' ∧ mEqS S S' ∧ slv (mIA S 0) S') := by
  obtain ⟨hd, tx, hX, hI, hO⟩ := h
  by_cases q : heldQ (mIA S 0)
  · obtain ⟨S', g1, g2, g3⟩ := slv_yes hI q
    have hX2 := hX
    obtain ⟨bel, N, R, A, wt, sd, hX1⟩ := hX2
    obtain ⟨u', h1, h2, h3⟩ := solve_yes2 hX1 hI q
    exact Or.inr ⟨q, hd, tx, u', S', h1, g1, RL.row' hO h3 (fun q => scr_oth) g2.keep g2.row h2.d.q hI, h2, h3, g2, g3⟩
  · exact Or.inl ⟨solve_no hX.xv hI q, slv_no hI q, q⟩
theorem sol_both (h : RL b u S) : (fX0_isSolved b u = some (0, u) ∧ fX4_isSolved S = some (0, S) ∧ ¬ heldQ (mIA S 0)) ∨ (heldQ (mIA S 0) ∧ ∃ hd tx u' S', fX0_isSolved b u = some (1, u') ∧ fX4_isSolved S = some (1, S') ∧ RL b u' S' ∧ xDone u' b (mIA S 0) hd tx (mIF S 3) ∧ Fr (scr b) u u' ∧ mEqS S S' ∧ slv (mIA S 0) S') := by
  rcases sol_both2 h with h | ⟨q, hd, tx, u', S', e1, e2, e3, e4, e5⟩
  · exact Or.inl h
  · exact Or.inr ⟨q, hd, tx, u', S', e1, e2, e3, e4.d, e5⟩
theorem RL.inv (h : RL b u S) : INV (mIA S 0) := by obtain ⟨hd, tx, hX, hI, hO⟩ := h; exact hI
theorem RL.ro (h : RL b u S) : RO b u S := by obtain ⟨hd, tx, hX, hI, hO⟩ := h; exact hO
theorem op_doubted (h : RL b u S) : OpR b (fX0_doubted b u) (fX4_doubted S) := by
  have hI := h.inv
  unfold fX0_doubted fX4_doubted bX0_doubted_19 bX4_doubted_20
  rcases sol_both h with ⟨e1, e2, -⟩ | ⟨q, hd, tx, u', S', e1, e2, e3, e4, e5, e6, e7⟩
  · rw [chk_t h.pb.isP, e1, bnd_s, e2, bnd_s, if_pos rfl, if_pos rfl]
    obtain ⟨u', S', e1, e2, e3⟩ := err3 h
    exact ⟨_, u', S', by rw [chk_t h.pb.isP, e1, bnd_s], by rw [e2, bnd_s], e3⟩
  · rw [chk_t h.pb.isP, e1, bnd_s, e2, bnd_s, if_neg (by decide), if_neg (by decide)]
    obtain ⟨T, g1, g2⟩ := md_m (S := S') (by rw [e6.row]; exact hI) (by rw [e6.row]; exact e7)
    refine ⟨mdP (mIA S 0) (nM (mIA S 0)), u', T, by rw [chk_t e3.pb.isP, md_x hI e4, bnd_s], by rw [g1, bnd_s, e6.row], ?_⟩
    exact RL.row' e3.ro (Fr.rfl' (P := scr b)) (fun q => scr_oth) g2.keep (g2.row.trans e6.row) (by rw [e6.2.2 3]; exact e4.q) hI
end OPS2
