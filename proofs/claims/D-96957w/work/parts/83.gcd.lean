/-! the greatest common number; odds -/
def J (n : Nat) : Int64 := Int64.ofNat n
theorem J_int {n : Nat} (h : n < 2 ^ 63) : (J n).toInt = n := Int64.toInt_ofNat_of_lt h
theorem J_div {a c : Nat} (ha : a < 2 ^ 63) (hc : c < 2 ^ 63) : J a / J c = J (a / c) := by
  rw [← Int64.toInt_inj, Int64.toInt_div, J_int ha, J_int hc]
  have h1 : a / c ≤ a := Nat.div_le_self a c
  rw [J_int (by omega)]
  have e : (a : Int).tdiv (c : Int) = ((a / c : Nat) : Int) := rfl
  rw [e]
  generalize a / c = d at h1
  exact Int.bmod_eq_of_le (by omega) (by omega)
theorem J_mul (a c : Nat) : J a * J c = J (a * c) := (Int64.ofNat_mul a c).symm
theorem J_add (a c : Nat) : J a + J c = J (a + c) := (Int64.ofNat_add a c).symm
theorem J_sub {a c : Nat} (h : c ≤ a) : J a - J c = J (a - c) := by
  have e := J_add (a - c) c
  rw [Nat.sub_add_cancel h] at e
  rw [← e, Int64.add_sub_cancel]
theorem J_mod {a c : Nat} (ha : a < 2 ^ 63) (hc : c < 2 ^ 63) : J a - J a / J c * J c = J (a % c) := by
  rw [J_div ha hc, J_mul, J_sub (Nat.div_mul_le_self a c)]
  congr 1
  have := Nat.div_add_mod a c
  rw [Nat.mul_comm] at this
  omega
theorem J_0 {n : Nat} (h : n < 2 ^ 63) : J n = 0 ↔ n = 0 := by
  rw [← Int64.toInt_inj, J_int h]
  have e : (0 : Int64).toInt = 0 := rfl
  omega
def gN : Nat → Nat → Nat → Option Nat
  | 0, _, _ => none
  | f + 1, a, b => if b = 0 then some a else gN f b (a % b)
theorem gN_ok : ∀ (k a b : Nat), b < 2 ^ k → ∀ f, 2 * k + 1 ≤ f → gN f a b = some (Nat.gcd a b) := by
  intro k
  induction k with
  | zero =>
    intro a b hb f hf
    obtain ⟨f, rfl⟩ : ∃ g, f = g + 1 := ⟨f - 1, by omega⟩
    have e : b = 0 := by omega
    subst e
    unfold gN
    rw [if_pos rfl, Nat.gcd_zero_right]
  | succ k ih =>
    intro a b hb f hf
    obtain ⟨f, rfl⟩ : ∃ g, f = g + 1 := ⟨f - 1, by omega⟩
    unfold gN
    by_cases c : b = 0
    · rw [if_pos c, c, Nat.gcd_zero_right]
    · rw [if_neg c]
      have hr : a % b < b := Nat.mod_lt _ (by omega)
      have e1 : Nat.gcd a b = Nat.gcd b (a % b) := by rw [Nat.gcd_comm a b, Nat.gcd_rec b a, Nat.gcd_comm]
      obtain ⟨f, rfl⟩ : ∃ g, f = g + 1 := ⟨f - 1, by omega⟩
      unfold gN
      by_cases d : a % b = 0
      · rw [if_pos d, e1, d, Nat.gcd_zero_right]
      · rw [if_neg d]
        have hs : b % (a % b) < a % b := Nat.mod_lt _ (by omega)
        have hd : a % b * (b / (a % b)) + b % (a % b) = b := Nat.div_add_mod b (a % b)
        have hq : 1 ≤ b / (a % b) := (Nat.one_le_div_iff (by omega)).mpr (by omega)
        have hm : a % b ≤ a % b * (b / (a % b)) := Nat.le_mul_of_pos_right _ (by omega)
        have p : 2 ^ (k + 1) = 2 ^ k + 2 ^ k := by rw [Nat.pow_succ]; omega
        have e2 : Nat.gcd b (a % b) = Nat.gcd (a % b) (b % (a % b)) := by rw [Nat.gcd_comm b (a % b), Nat.gcd_rec (a % b) b, Nat.gcd_comm]
        rw [ih (a % b) (b % (a % b)) (by omega) f (by omega), e1, e2]
theorem com_x (u : XS) : ∀ (f a b : Nat), a < 2 ^ 63 → b < 2 ^ 63 → ∀ g, gN f a b = some g → lX0_common_9 f (J a) (J b) u = some (J g, u) := by
  intro f
  induction f with
  | zero => intro a b _ _ g h; cases h
  | succ f ih =>
    intro a b ha hb g h
    show bX0_common_9 (lX0_common_9 f) _ _ _ = _
    unfold bX0_common_9
    unfold gN at h
    by_cases c : b = 0
    · rw [if_pos c] at h
      cases h
      rw [if_pos ((cmp0 _).mpr ((J_0 hb).mpr c))]
    · rw [if_neg c] at h
      have nz : ¬ J b = 0 := fun q => c ((J_0 hb).mp q)
      rw [if_neg (fun q => nz ((cmp0 _).mp q)), chk_t (ne0L_t nz), nm_s, J_mod ha hb]
      exact ih b (a % b) hb (Nat.lt_of_lt_of_le (Nat.mod_lt _ (by omega)) (by omega)) g h
theorem com_m (S : MS) (x0 x2 : Int64) (p : Int32) : ∀ (f a b : Nat), a < 2 ^ 63 → b < 2 ^ 63 → ∀ g, gN f a b = some g → g ≠ 0 → g < 2 ^ 63 → lX4_inTerms_17 f x0 x2 p (J a) (J b) S = some (if p = 0 then x0 / J g else x2 / J g, S) := by
  intro f
  induction f with
  | zero => intro a b _ _ g h; cases h
  | succ f ih =>
    intro a b ha hb g h hg hg2
    show bX4_inTerms_17 (lX4_inTerms_17 f) _ _ _ _ _ _ = _
    unfold bX4_inTerms_17 bX4_inTerms_58
    unfold gN at h
    by_cases c : b = 0
    · rw [if_pos c] at h
      cases h
      have nz : ¬ J a = 0 := fun q => hg ((J_0 ha).mp q)
      rw [if_pos ((cmp0 _).mpr ((J_0 hb).mpr c))]
      by_cases d : p = 0
      · rw [if_pos d, if_pos d, chk_t (ne0L_t nz)]
      · rw [if_neg d, if_neg d, chk_t (ne0L_t nz)]
    · rw [if_neg c] at h
      have nz : ¬ J b = 0 := fun q => c ((J_0 hb).mp q)
      rw [if_neg (fun q => nz ((cmp0 _).mp q)), chk_t (ne0L_t nz), nm_s, J_mod ha hb]
      exact ih b (a % b) hb (Nat.lt_of_lt_of_le (Nat.mod_lt _ (by omega)) (by omega)) g h hg hg2
/-- a part of a fraction in lowest terms -/
def ptP (x : Int64) (a d : Nat) (p : Int32) : Int64 := if p = 0 then x / J (Nat.gcd a d) else J d / J (Nat.gcd a d)
theorem gcd_b {a d : Nat} (hd : 1 ≤ d) : 1 ≤ Nat.gcd a d ∧ Nat.gcd a d ≤ d := ⟨Nat.gcd_pos_of_pos_right a (by omega), Nat.gcd_le_right a (by omega)⟩
theorem part_x (u : XS) {x : Int64} {a d : Nat} (hx : absL x = J a) (ha : a < 2 ^ 63) (hd1 : 1 ≤ d) (hd : d < 2 ^ 63) (p : Int32) : fX0_part x (J d) p u = some (ptP x a d p, u) := by
  obtain ⟨g1, g2⟩ := gcd_b (a := a) hd1
  have e : fX0_common x (J d) u = some (J (Nat.gcd a d), u) := by
    unfold fX0_common
    rw [nm_s, mabs, hx]
    exact com_x u FU a d ha hd _ (gN_ok 63 a d hd FU (by decide))
  have nz : ¬ J (Nat.gcd a d) = 0 := fun q => by rw [J_0 (by omega)] at q; omega
  unfold fX0_part bX0_part_10 ptP
  rw [e, bnd_s, chk_t (ne0L_t nz), bnd_s, chk_t (ne0L_t nz)]
  by_cases c : p = 0
  · rw [if_pos c, if_pos c]
  · rw [if_neg c, if_neg c]
theorem part_m (S : MS) {x : Int64} {a d : Nat} (hx : absL x = J a) (ha : a < 2 ^ 63) (hd1 : 1 ≤ d) (hd : d < 2 ^ 63) (p : Int32) : fX4_inTerms x (J d) p S = some (ptP x a d p, S) := by
  obtain ⟨g1, g2⟩ := gcd_b (a := a) hd1
  have e := com_m S x (J d) p FU a d ha hd _ (gN_ok 63 a d hd FU (by decide)) (by omega) (by omega)
  unfold fX4_inTerms bX4_inTerms_12
  by_cases c : 0 ≤ x
  · rw [if_pos ((lg_cmp_ge _ _).mpr c)]
    have e2 : x = J a := by unfold absL at hx; rw [if_pos c] at hx; exact hx
    rw [← e2] at e
    exact e
  · rw [if_neg (fun q => c ((lg_cmp_ge _ _).mp q))]
    have e2 : -x = J a := by unfold absL at hx; rw [if_neg c] at hx; exact hx
    rw [e2]
    exact e
theorem prt_m (x : Int32) (S : MS) : fX4_isPart x S = some (inP x 0 1, S) := by
  unfold fX4_isPart
  rw [in_m, bnd_s, chk_t (inP_B _ _ _)]
theorem vJ : ∀ j, j < 42 → (((20 : Int32) < I j - 20) ↔ 40 < j) := by decide
theorem vS (j : Nat) : I j - 20 + 1 = I (j + 1) - 20 := by
  rw [← I_succ, Int32.sub_eq_add_neg, Int32.sub_eq_add_neg, Int32.add_assoc, Int32.add_assoc, Int32.add_comm (-20) 1]
theorem I64 {c : Nat} (h : c < 2 ^ 31) : (I c).toInt64 = J c := by
  rw [← Int64.toInt_inj, Int32.toInt_toInt64, I_int h, J_int (by omega)]
section OPS10
variable {b : Nat} {u : XS} {S : MS}
theorem nM_go {row : Nat → Int32} : nM (goP row) = nM row := by
  unfold nM goP incP dropP
  split
  · split
    · rw [upd_ne _ _ (by decide)]
    · rw [upd_ne _ _ (by decide), upd_ne _ _ (by decide), upd_ne _ _ (by omega)]
  · rw [upd_ne _ _ (by decide)]
theorem odds_in {n m : Nat} (hn : n ≤ 40) {p x4 x5 x6 : Int32} (k55 : Nat → Int32 → Int32 → Int32 → Int32 → Int32 → Int32 → XS → Option (Int32 × XS)) {r : Nat → Int32} {hd tx : Nat → Option Nat} : ∀ (j k : Nat), k + j = n → ∀ f, j < f → ∀ (u : XS) (S : MS), RL b u S → AsQ b u S r hd tx → m < nM (mIA S 0) →
    ∃ u' T S' on, lX0_odds_76 k55 f b (I m) (I n) p x4 x5 x6 (I k) u = k55 b (I m) (I n) p (x4 + on) x5 (x6 + 1) u' ∧ lX4_goesFor_2 f (I n) (I k) S = some T ∧ fX4_of (I m) 5 T = some (on, T) ∧ fX4_putsBack T = some S' ∧ RL b u' S' ∧ AsQ b u' S' r hd tx ∧ (∀ i, i < 382 → mIA S' 0 i = r i) ∧ (on = 0 ∨ on = 1) := by
  intro j
  induction j with
  | zero =>
    intro k hk f hf u S h hq hm
    have h8 := h.inv.1.2
    obtain ⟨f, rfl⟩ : ∃ g, f = g + 1 := ⟨f - 1, by omega⟩
    obtain ⟨u2, S2, p1, p2, p3, p4, p5, -⟩ := h.back hq
    refine ⟨u2, S, S2, mIA S 0 (8 + 6 * m + 5), ?_, ?_, of_5 (by omega) S, p2, p3, p4, p5, (h.inv.2.2.1 m hm).2.2.2.2.2⟩
    · show bX0_odds_76 k55 (lX0_odds_76 k55 f) _ _ _ _ _ _ _ _ _ = _
      unfold bX0_odds_76
      rw [if_pos (by rw [I_le (by omega) (by omega)]; omega), h.pb.r2, bn1_s, h.ron, bn1_s, h.on1 (by omega), bn1_s, nm_s, bn1_s, h.r4, bn1_s, chk_t h.isH, p1, bn1_s, nm_s]
    · show bX4_goesFor_2 (lX4_goesFor_2 f) _ _ _ = _
      unfold bX4_goesFor_2
      rw [if_pos (by rw [I_le (by omega) (by omega)]; omega)]
  | succ j ih =>
    intro k hk f hf u S h hq hm
    obtain ⟨f, rfl⟩ : ∃ g, f = g + 1 := ⟨f - 1, by omega⟩
    obtain ⟨u2, T2, p1, p2, p3, p4, p5, p6⟩ := h.go
    obtain ⟨u', T, S', on, g1, g2, g3⟩ := ih (k + 1) (by omega) f (by omega) u2 T2 p3 (hq.go p5 p6) (by rw [p4, nM_go]; exact hm)
    refine ⟨u', T, S', on, ?_, ?_, g3⟩
    · show bX0_odds_76 k55 (lX0_odds_76 k55 f) _ _ _ _ _ _ _ _ _ = _
      unfold bX0_odds_76
      rw [if_neg (by rw [I_le (by omega) (by omega)]; omega), chk_t h.pb.isP, p1, bn1_s, nm_s, I_succ, g1]
    · show bX4_goesFor_2 (lX4_goesFor_2 f) _ _ _ = _
      unfold bX4_goesFor_2
      rw [if_neg (by rw [I_le (by omega) (by omega)]; omega), p2, bn1_s, nm_s, I_succ, g2]
theorem op_odds (h : RL b u S) (x y z : Int32) : OpR b (fX0_odds b x y z u) (fX4_odds x y z S) := by
  have h' := h
  obtain ⟨hd0, tx0, hX, hI, hO⟩ := h'
  have h8 := hI.1.2
  have er : ∀ (X : Option (Int32 × XS)) (M : Option (Int32 × MS)), X = bX0_odds_27 b u → M = bX4_odds_25 S → OpR b X M := by
    intro X M e1 e2
    obtain ⟨u', S', g1, g2, g3⟩ := err1 h
    exact ⟨_, u', S', by rw [e1]; unfold bX0_odds_27; rw [chk_t h.pb.isP, g1, bnd_s], by rw [e2]; unfold bX4_odds_25; rw [g2, bnd_s], g3⟩
  unfold fX0_odds fX4_odds
  rw [chk_t h.pb.isP, mk_x hX, bnd_s, mk_mm, bnd_s]
  rcases mkP_or hI x with c | ⟨c, m, hm, rfl⟩
  · rw [if_pos c, if_pos c]; exact er _ _ rfl rfl
  · have c' : ¬ mkP (mIA S 0) (I m) = 0 := by rw [c]; decide
    rw [if_neg c', if_neg c', in_x, bnd_s, in_m, bnd_s]
    by_cases d : inP y 0 40 = 0
    · rw [if_pos d, if_pos d]; exact er _ _ rfl rfl
    · rw [if_neg d, if_neg d, in_x, bnd_s, prt_m, bnd_s]
      by_cases e : inP z 0 1 = 0
      · rw [if_pos e, if_pos e]; exact er _ _ rfl rfl
      · rw [if_neg e, if_neg e]
        obtain ⟨n, -, n2, rfl⟩ := in_lo (lo := 0) (hi := 40) (by decide) (by decide) d
        obtain ⟨u1, S1, hd, tx, t1, t2, t3, t4, t5, t6⟩ := h.think
        rw [h.r4, bn1_s, h.pb.r2, bn1_s, chk_t h.isA, t1, bn1_s, t2, bn1_s]
        have key : ∀ (w j : Nat), j + w = 41 → ∀ f, w < f → ∀ (cn : Nat) (u : XS) (S : MS) (r : Nat → Int32), cn ≤ j → RL b u S → AsQ b u S r hd tx → m < nM r → m < nM (mIA S 0) → OpR b (lX0_odds_55 f b (I m) (I n) z (I cn) 41 (I j - 20) u) (lX4_odds_43 f (I m) (I n) z (J cn) (I j - 20) S) := by
          intro w
          induction w with
          | zero =>
            intro j hj f hf cn u S r hc h hq hmr hmN
            obtain ⟨f, rfl⟩ : ∃ g, f = g + 1 := ⟨f - 1, by omega⟩
            have eX : lX0_odds_55 (f + 1) b (I m) (I n) z (I cn) 41 (I j - 20) u = bX0_odds_55 (lX0_odds_55 f) b (I m) (I n) z (I cn) 41 (I j - 20) u := rfl
            have eM : lX4_odds_43 (f + 1) (I m) (I n) z (J cn) (I j - 20) S = bX4_odds_43 (lX4_odds_43 f) (I m) (I n) z (J cn) (I j - 20) S := rfl
            rw [eX, eM]
            unfold bX0_odds_55 bX4_odds_43
            have lt := (vJ j (by omega)).mpr (by omega)
            have e41 : (41 : Int32).toInt64 = J 41 := rfl
            have e41' : (41 : Int64) = J 41 := rfl
            have ab : absL (J cn) = J cn := by
              unfold absL
              rw [if_pos (by rw [Int64.le_iff_toInt_le, J_int (by omega)]; have z0 : (0 : Int64).toInt = 0 := rfl; omega)]
            rw [if_pos lt, if_pos lt, I64 (by omega), e41, e41', part_x u ab (by omega) (by decide) (by decide), part_m S ab (by omega) (by decide) (by decide), bnd_s, bnd_s]
            exact ⟨_, u, S, rfl, rfl, h⟩
          | succ w ih =>
            intro j hj f hf cn u S r hc h hq hmr hmN
            obtain ⟨f, rfl⟩ : ∃ g, f = g + 1 := ⟨f - 1, by omega⟩
            have hm8 : m < 8 := by have := h.inv.1.2; omega
            have eX : lX0_odds_55 (f + 1) b (I m) (I n) z (I cn) 41 (I j - 20) u = bX0_odds_55 (lX0_odds_55 f) b (I m) (I n) z (I cn) 41 (I j - 20) u := rfl
            have eM : lX4_odds_43 (f + 1) (I m) (I n) z (J cn) (I j - 20) S = bX4_odds_43 (lX4_odds_43 f) (I m) (I n) z (J cn) (I j - 20) S := rfl
            rw [eX, eM]
            unfold bX0_odds_55 bX4_odds_43
            have lt : ¬ (20 : Int32) < I j - 20 := fun q => by have := (vJ j (by omega)).mp q; omega
            obtain ⟨u2, a1, a2, a3⟩ := h.told hm8 (I j - 20)
            have p4 := puts_m (k := m) (w := 4) hm8 (by decide) (I j - 20) S
            have y4 : I 4 = (4 : Int32) := rfl
            rw [y4] at p4
            have hq2 : AsQ b u2 (sIA S 0 (upd (mIA S 0) (8 + 6 * m + 4) (I j - 20))) r hd tx := hq.fr (a3.oth (fun q => hse_oth)) (by rw [mIA_IA, if_neg (by decide)])
            have m2 : m < nM (mIA (sIA S 0 (upd (mIA S 0) (8 + 6 * m + 4) (I j - 20))) 0) := by
              rw [m00]; unfold nM; rw [upd_ne _ _ (by omega)]; exact hmN
            obtain ⟨u3, T, S3, on, b1, b2, b3, b4, b5, b6, b7, b8⟩ := odds_in (m := m) (p := z) (x4 := I cn) (x5 := 41) (x6 := I j - 20) n2 (lX0_odds_55 f) n 0 (by omega) FU (by show n < 1000; omega) u2 _ a2 hq2 m2
            have b1 : lX0_odds_76 (lX0_odds_55 f) FU b (I m) (I n) z (I cn) 41 (I j - 20) 0 u2 = _ := b1
            have b2 : fX4_goesFor (I n) (sIA S 0 (upd (mIA S 0) (8 + 6 * m + 4) (I j - 20))) = some T := b2
            rw [if_neg lt, if_neg lt, h.pb.r2, bn1_s, h.rtold, bn1_s, a1, bn1_s, b1, p4, bn1_s, b2, bn1_s, b3, bnd_s, nm_s, b4, bn1_s, nm_s, vS]
            have m3 : m < nM (mIA S3 0) := by
              have e0 : nM (mIA S3 0) = nM r := by unfold nM; rw [b7 2 (by decide)]
              rw [e0]; exact hmr
            rcases b8 with rfl | rfl
            · have e1 : I cn + 0 = I cn := Int32.add_zero _
              have e2 : J cn + (0 : Int32).toInt64 = J cn := by have z0 : (0 : Int32).toInt64 = 0 := rfl; rw [z0, Int64.add_zero]
              rw [e1, e2]
              exact ih (j + 1) (by omega) f (by omega) cn u3 S3 r (by omega) b5 b6 hmr m3
            · have e2 : J cn + (1 : Int32).toInt64 = J (cn + 1) := J_add cn 1
              rw [I_succ, e2]
              exact ih (j + 1) (by omega) f (by omega) (cn + 1) u3 S3 r (by omega) b5 b6 hmr m3
        exact key 41 0 (by omega) FU (by decide) 0 u1 S1 _ (by omega) t3 t4 hm (by rw [t5]; exact hm)
end OPS10
