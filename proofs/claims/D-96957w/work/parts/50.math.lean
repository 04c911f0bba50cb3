/-! MATHS over Int: determinants of at most 4 rows by Bareiss' steps; grounded Laplacians; Cramer's rule -/
def D3 (a b c d e f g h i : Int) : Int := a * (e * i - f * h) - b * (d * i - f * g) + c * (d * h - e * g)
/-- the minor of the rows 0 .. i-1, r and the columns 0 .. i-1, c -/
def mkn (i : Nat) (a : Nat → Nat → Int) (r c : Nat) : Int := match i with
  | 0 => a r c
  | 1 => a r c * a 0 0 - a r 0 * a 0 c
  | 2 => D3 (a 0 0) (a 0 1) (a 0 c) (a 1 0) (a 1 1) (a 1 c) (a r 0) (a r 1) (a r c)
  | _ => a 0 0 * D3 (a 1 1) (a 1 2) (a 1 c) (a 2 1) (a 2 2) (a 2 c) (a r 1) (a r 2) (a r c) - a 0 1 * D3 (a 1 0) (a 1 2) (a 1 c) (a 2 0) (a 2 2) (a 2 c) (a r 0) (a r 2) (a r c) + a 0 2 * D3 (a 1 0) (a 1 1) (a 1 c) (a 2 0) (a 2 1) (a 2 c) (a r 0) (a r 1) (a r c) - a 0 c * D3 (a 1 0) (a 1 1) (a 1 2) (a 2 0) (a 2 1) (a 2 2) (a r 0) (a r 1) (a r 2)
/-- the determinant of the first i rows and columns -/
def dtn (i : Nat) (a : Nat → Nat → Int) : Int := match i with
  | 0 => 1
  | i + 1 => mkn i a i i
theorem mk_step {i : Nat} (hi : i < 3) (a : Nat → Nat → Int) (r c : Nat) : mkn i a r c * mkn i a i i - mkn i a r i * mkn i a i c = dtn i a * mkn (i + 1) a r c := by
  have h : i = 0 ∨ i = 1 ∨ i = 2 := by omega
  rcases h with rfl | rfl | rfl
  · simp only [mkn, dtn]; grind
  · simp only [mkn, dtn, D3]; grind
  · simp only [mkn, dtn, D3]; grind
def swp {α : Type} (w : Nat → α) (i p : Nat) : Nat → α := fun r => if r = i then w p else if r = p then w i else w r
theorem mk_swp {i p : Nat} (hi : i ≤ p) (hi3 : i < 4) (a : Nat → Nat → Int) {r : Nat} (hr : i ≤ r) (c : Nat) : mkn i (swp a i p) r c = mkn i a (if r = i then p else if r = p then i else r) c := by
  have e : ∀ k, k < i → swp a i p k = a k := fun k hk => by
    unfold swp
    rw [if_neg (by omega), if_neg (by omega)]
  have e1 : swp a i p r = a (if r = i then p else if r = p then i else r) := by
    unfold swp
    split
    · rfl
    · split <;> rfl
  have h : i = 0 ∨ i = 1 ∨ i = 2 ∨ i = 3 := by omega
  rcases h with rfl | rfl | rfl | rfl
  · simp only [mkn, e1]
  · simp only [mkn, e1, e 0 (by omega)]
  · simp only [mkn, e1, e 0 (by omega), e 1 (by omega)]
  · simp only [mkn, e1, e 0 (by omega), e 1 (by omega), e 2 (by omega)]
theorem dt_swp_lo {i p : Nat} (hi : i ≤ p) (hi3 : i ≤ 4) (a : Nat → Nat → Int) : dtn i (swp a i p) = dtn i a := by
  have e : ∀ k, k < i → swp a i p k = a k := fun k hk => by
    unfold swp
    rw [if_neg (by omega), if_neg (by omega)]
  have h : i = 0 ∨ i = 1 ∨ i = 2 ∨ i = 3 ∨ i = 4 := by omega
  rcases h with rfl | rfl | rfl | rfl | rfl
  · rfl
  · simp only [dtn, mkn, e 0 (by omega)]
  · simp only [dtn, mkn, e 0 (by omega), e 1 (by omega)]
  · simp only [dtn, mkn, e 0 (by omega), e 1 (by omega), e 2 (by omega)]
  · simp only [dtn, mkn, e 0 (by omega), e 1 (by omega), e 2 (by omega), e 3 (by omega)]
theorem dt_swp {n i p : Nat} (hip : i < p) (hp : p < n) (hn : n ≤ 4) (a : Nat → Nat → Int) : dtn n (swp a i p) = - dtn n a := by
  have h : (n = 2 ∧ i = 0 ∧ p = 1) ∨ (n = 3 ∧ i = 0 ∧ p = 1) ∨ (n = 3 ∧ i = 0 ∧ p = 2) ∨ (n = 3 ∧ i = 1 ∧ p = 2) ∨ (n = 4 ∧ i = 0 ∧ p = 1) ∨ (n = 4 ∧ i = 0 ∧ p = 2) ∨ (n = 4 ∧ i = 0 ∧ p = 3) ∨ (n = 4 ∧ i = 1 ∧ p = 2) ∨ (n = 4 ∧ i = 1 ∧ p = 3) ∨ (n = 4 ∧ i = 2 ∧ p = 3) := by omega
  rcases h with ⟨rfl, rfl, rfl⟩ | ⟨rfl, rfl, rfl⟩ | ⟨rfl, rfl, rfl⟩ | ⟨rfl, rfl, rfl⟩ | ⟨rfl, rfl, rfl⟩ | ⟨rfl, rfl, rfl⟩ | ⟨rfl, rfl, rfl⟩ | ⟨rfl, rfl, rfl⟩ | ⟨rfl, rfl, rfl⟩ | ⟨rfl, rfl, rfl⟩ <;> (simp [dtn, mkn, D3, swp]; grind)
theorem dt_zero {n i : Nat} (hn : n ≤ 4) (hi : i < n) (a : Nat → Nat → Int) (hz : ∀ r, i ≤ r → r < n → mkn i a r i = 0) (hl : dtn i a ≠ 0) : dtn n a = 0 := by
  by_cases h1 : n = i + 1
  · subst h1; exact hz i (Nat.le_refl _) (by omega)
  by_cases h2 : n = i + 2
  · subst h2
    have e := mk_step (i := i) (by omega) a (i + 1) (i + 1)
    rw [hz i (by omega) (by omega), hz (i + 1) (by omega) (by omega)] at e
    have e2 : dtn i a * mkn (i + 1) a (i + 1) (i + 1) = 0 := by rw [← e]; grind
    exact (Int.mul_eq_zero.mp e2).resolve_left hl
  have h : (n = 3 ∧ i = 0) ∨ (n = 4 ∧ i = 0) ∨ (n = 4 ∧ i = 1) := by omega
  rcases h with ⟨rfl, rfl⟩ | ⟨rfl, rfl⟩ | ⟨rfl, rfl⟩
  · have z0 := hz 0 (by omega) (by omega)
    have z1 := hz 1 (by omega) (by omega)
    have z2 := hz 2 (by omega) (by omega)
    simp only [mkn] at z0 z1 z2
    simp only [dtn, mkn, D3, z0, z1, z2]
    grind
  · have z0 := hz 0 (by omega) (by omega)
    have z1 := hz 1 (by omega) (by omega)
    have z2 := hz 2 (by omega) (by omega)
    have z3 := hz 3 (by omega) (by omega)
    simp only [mkn] at z0 z1 z2 z3
    simp only [dtn, mkn, D3, z0, z1, z2, z3]
    grind
  · have z1 := hz 1 (by omega) (by omega)
    have z2 := hz 2 (by omega) (by omega)
    have z3 := hz 3 (by omega) (by omega)
    have hl : a 0 0 ≠ 0 := hl
    have e : (a 0 0 * a 0 0) * dtn 4 a = D3 (mkn 1 a 1 1) (mkn 1 a 1 2) (mkn 1 a 1 3) (mkn 1 a 2 1) (mkn 1 a 2 2) (mkn 1 a 2 3) (mkn 1 a 3 1) (mkn 1 a 3 2) (mkn 1 a 3 3) := by
      simp only [dtn, mkn, D3]; grind
    rw [z1, z2, z3] at e
    have e2 : (a 0 0 * a 0 0) * dtn 4 a = 0 := by rw [e]; unfold D3; grind
    exact (Int.mul_eq_zero.mp e2).resolve_left (fun h => hl ((Int.mul_eq_zero.mp h).elim id id))
/-! grounded Laplacians: positive, and at most the product of the diagonal -/
theorem pd2 {a b c : Int} (hb : b ≤ 0) (h1 : 0 ≤ a + b) (h2 : 0 ≤ b + c) (ha : 0 < a) (hc : 0 < c) (hs : 0 < a + 2 * b + c) : 0 < a * c - b * b ∧ a * c - b * b ≤ a * c := by
  have hbb : 0 ≤ b * b := Int.mul_nonneg_of_nonpos_of_nonpos hb hb
  refine ⟨?_, by omega⟩
  by_cases hz : b = 0
  · subst hz
    have := Int.mul_pos ha hc
    omega
  · have e : a * c - b * b = (-b) * (a + 2 * b + c) + (a + b) * (b + c) := by grind
    have p1 : 0 < (-b) * (a + 2 * b + c) := Int.mul_pos (by omega) hs
    have p2 : 0 ≤ (a + b) * (b + c) := Int.mul_nonneg h1 h2
    omega
theorem mul_up {x y X Y : Int} (hx : 0 ≤ x) (hy : 0 ≤ y) (h1 : x ≤ X) (h2 : y ≤ Y) : x * y ≤ X * Y := Int.mul_le_mul h1 h2 hy (Int.le_trans hx h1)
theorem nn_of {a b : Int} (ha : a ≤ 0) (hb : b ≤ 0) : 0 ≤ a * b := Int.mul_nonneg_of_nonpos_of_nonpos ha hb
theorem np_of {a b : Int} (ha : 0 ≤ a) (hb : b ≤ 0) : a * b ≤ 0 := Int.mul_nonpos_of_nonneg_of_nonpos ha hb
theorem pd3 {a b c d e f : Int} (hb : b ≤ 0) (hc : c ≤ 0) (he : e ≤ 0) (r0 : 0 ≤ a + b + c) (r1 : 0 ≤ b + d + e) (r2 : 0 ≤ c + e + f) (k0 : 0 < a) (k1 : 0 < d) (k2 : 0 < f) (k01 : 0 < a + 2 * b + d) (k02 : 0 < a + 2 * c + f) (k12 : 0 < d + 2 * e + f) (k012 : 0 < a + d + f + 2 * b + 2 * c + 2 * e) :
    0 < D3 a b c b d e c e f ∧ D3 a b c b d e c e f ≤ a * d * f := by
  obtain ⟨A1, A2⟩ := pd2 (a := a) (b := b) (c := d) hb (by omega) (by omega) k0 k1 (by omega)
  obtain ⟨C1, C2⟩ := pd2 (a := a) (b := c) (c := f) hc (by omega) (by omega) k0 k2 (by omega)
  obtain ⟨U1, -⟩ := pd2 (a := a) (b := b + c) (c := d + 2 * e + f) (by omega) (by omega) (by omega) k0 k12 (by omega)
  have q1 := np_of (Int.le_of_lt k0) he
  have q2 := nn_of hb hc
  have s1 : a * d - b * b + (a * e - b * c) = a * (b + d + e) - b * (a + b + c) := by grind
  have s2 : a * e - b * c + (a * f - c * c) = a * (c + e + f) - c * (a + b + c) := by grind
  have t1 := Int.mul_nonneg (Int.le_of_lt k0) r1
  have t2 := np_of (a := a + b + c) r0 hb
  have t3 := Int.mul_nonneg (Int.le_of_lt k0) r2
  have t4 := np_of (a := a + b + c) r0 hc
  have t2' : b * (a + b + c) ≤ 0 := by rw [Int.mul_comm]; exact t2
  have t4' : c * (a + b + c) ≤ 0 := by rw [Int.mul_comm]; exact t4
  have s3 : a * (d + 2 * e + f) - (b + c) * (b + c) = (a * d - b * b) + 2 * (a * e - b * c) + (a * f - c * c) := by grind
  obtain ⟨P1, P2⟩ := pd2 (a := a * d - b * b) (b := a * e - b * c) (c := a * f - c * c) (by omega) (by omega) (by omega) A1 C1 (by omega)
  have e1 : (a * d - b * b) * (a * f - c * c) - (a * e - b * c) * (a * e - b * c) = a * D3 a b c b d e c e f := by unfold D3; grind
  rw [e1] at P1 P2
  refine ⟨Int.pos_of_mul_pos_left (by rw [Int.mul_comm]; exact P1) k0, ?_⟩
  have m1 : (a * d - b * b) * (a * f - c * c) ≤ (a * d) * (a * f) := mul_up (Int.le_of_lt A1) (Int.le_of_lt C1) A2 C2
  have m2 : a * D3 a b c b d e c e f ≤ a * (a * d * f) := by
    refine Int.le_trans P2 (Int.le_trans m1 (Int.le_of_eq ?_))
    grind
  exact Int.le_of_mul_le_mul_left m2 k0
def D4 (a b c g d e h f k l : Int) : Int := a * D3 d e h e f k h k l - b * D3 b e h c f k g k l + c * D3 b d h c e k g h l - g * D3 b d e c e f g h k
theorem pd4 {a b c g d e h f k l : Int} (hb : b ≤ 0) (hc : c ≤ 0) (hg : g ≤ 0) (he : e ≤ 0) (hh : h ≤ 0) (hk : k ≤ 0) (r0 : 0 ≤ a + b + c + g) (r1 : 0 ≤ b + d + e + h) (r2 : 0 ≤ c + e + f + k) (r3 : 0 ≤ g + h + k + l)
    (k0 : 0 < a) (k1 : 0 < d) (k2 : 0 < f) (k3 : 0 < l) (k01 : 0 < a + 2 * b + d) (k02 : 0 < a + 2 * c + f) (k03 : 0 < a + 2 * g + l) (k12 : 0 < d + 2 * e + f) (k13 : 0 < d + 2 * h + l) (k23 : 0 < f + 2 * k + l)
    (k012 : 0 < a + d + f + 2 * b + 2 * c + 2 * e) (k013 : 0 < a + d + l + 2 * b + 2 * g + 2 * h) (k023 : 0 < a + f + l + 2 * c + 2 * g + 2 * k) (k123 : 0 < d + f + l + 2 * e + 2 * h + 2 * k) (k0123 : 0 < a + d + f + l + 2 * b + 2 * c + 2 * g + 2 * e + 2 * h + 2 * k) :
    0 < D4 a b c g d e h f k l ∧ D4 a b c g d e h f k l ≤ a * d * f * l := by
  obtain ⟨A1, A2⟩ := pd2 (a := a) (b := b) (c := d) hb (by omega) (by omega) k0 k1 (by omega)
  obtain ⟨C1, C2⟩ := pd2 (a := a) (b := c) (c := f) hc (by omega) (by omega) k0 k2 (by omega)
  obtain ⟨G1, G2⟩ := pd2 (a := a) (b := g) (c := l) hg (by omega) (by omega) k0 k3 (by omega)
  obtain ⟨U1, -⟩ := pd2 (a := a) (b := b + c) (c := d + 2 * e + f) (by omega) (by omega) (by omega) k0 k12 (by omega)
  obtain ⟨U2, -⟩ := pd2 (a := a) (b := b + g) (c := d + 2 * h + l) (by omega) (by omega) (by omega) k0 k13 (by omega)
  obtain ⟨U3, -⟩ := pd2 (a := a) (b := c + g) (c := f + 2 * k + l) (by omega) (by omega) (by omega) k0 k23 (by omega)
  obtain ⟨U4, -⟩ := pd2 (a := a) (b := b + c + g) (c := d + f + l + 2 * e + 2 * h + 2 * k) (by omega) (by omega) (by omega) k0 k123 (by omega)
  have q1 := np_of (Int.le_of_lt k0) he
  have q2 := np_of (Int.le_of_lt k0) hh
  have q3 := np_of (Int.le_of_lt k0) hk
  have q4 := nn_of hb hc
  have q5 := nn_of hb hg
  have q6 := nn_of hc hg
  have t1 := Int.mul_nonneg (Int.le_of_lt k0) r1
  have t2 := Int.mul_nonneg (Int.le_of_lt k0) r2
  have t3 := Int.mul_nonneg (Int.le_of_lt k0) r3
  have v1 := np_of r0 hb
  have v2 := np_of r0 hc
  have v3 := np_of r0 hg
  have s1 : a * d - b * b + (a * e - b * c) + (a * h - b * g) = a * (b + d + e + h) - (a + b + c + g) * b := by grind
  have s2 : a * e - b * c + (a * f - c * c) + (a * k - c * g) = a * (c + e + f + k) - (a + b + c + g) * c := by grind
  have s3 : a * h - b * g + (a * k - c * g) + (a * l - g * g) = a * (g + h + k + l) - (a + b + c + g) * g := by grind
  have w1 : a * (d + 2 * e + f) - (b + c) * (b + c) = (a * d - b * b) + 2 * (a * e - b * c) + (a * f - c * c) := by grind
  have w2 : a * (d + 2 * h + l) - (b + g) * (b + g) = (a * d - b * b) + 2 * (a * h - b * g) + (a * l - g * g) := by grind
  have w3 : a * (f + 2 * k + l) - (c + g) * (c + g) = (a * f - c * c) + 2 * (a * k - c * g) + (a * l - g * g) := by grind
  have w4 : a * (d + f + l + 2 * e + 2 * h + 2 * k) - (b + c + g) * (b + c + g) = (a * d - b * b) + (a * f - c * c) + (a * l - g * g) + 2 * (a * e - b * c) + 2 * (a * h - b * g) + 2 * (a * k - c * g) := by grind
  obtain ⟨P1, P2⟩ := pd3 (a := a * d - b * b) (b := a * e - b * c) (c := a * h - b * g) (d := a * f - c * c) (e := a * k - c * g) (f := a * l - g * g) (by omega) (by omega) (by omega) (by omega) (by omega) (by omega) A1 C1 G1 (by omega) (by omega) (by omega) (by omega)
  have e1 : D3 (a * d - b * b) (a * e - b * c) (a * h - b * g) (a * e - b * c) (a * f - c * c) (a * k - c * g) (a * h - b * g) (a * k - c * g) (a * l - g * g) = (a * a) * D4 a b c g d e h f k l := by unfold D4 D3; grind
  rw [e1] at P1 P2
  have ka : 0 < a * a := Int.mul_pos k0 k0
  refine ⟨Int.pos_of_mul_pos_left (by rw [Int.mul_comm]; exact P1) ka, ?_⟩
  have m1 : (a * d - b * b) * (a * f - c * c) ≤ (a * d) * (a * f) := mul_up (Int.le_of_lt A1) (Int.le_of_lt C1) A2 C2
  have m2 : (a * d - b * b) * (a * f - c * c) * (a * l - g * g) ≤ (a * d) * (a * f) * (a * l) := mul_up (Int.mul_nonneg (Int.le_of_lt A1) (Int.le_of_lt C1)) (Int.le_of_lt G1) m1 G2
  have m3 : (a * a) * D4 a b c g d e h f k l ≤ (a * a) * (a * d * f * l) := by
    refine Int.le_trans P2 (Int.le_trans m2 (Int.le_of_eq ?_))
    grind
  exact Int.le_of_mul_le_mul_left m3 ka
/-! Cramer's rule -/
def rpl (a : Nat → Nat → Int) (q : Nat) (r : Nat → Int) : Nat → Nat → Int := fun i j => if j = q then r i else a i j
/-- the sum of the first n -/
def sm (n : Nat) (f : Nat → Int) : Int := match n with
  | 0 => 0
  | n + 1 => sm n f + f n
theorem cramer {n i : Nat} (hn : n ≤ 4) (hi : i < n) (a : Nat → Nat → Int) (r : Nat → Int) : sm n (fun j => a i j * dtn n (rpl a j r)) = dtn n a * r i := by
  have h : (n = 1 ∧ i = 0) ∨ (n = 2 ∧ i = 0) ∨ (n = 2 ∧ i = 1) ∨ (n = 3 ∧ i = 0) ∨ (n = 3 ∧ i = 1) ∨ (n = 3 ∧ i = 2) ∨ (n = 4 ∧ i = 0) ∨ (n = 4 ∧ i = 1) ∨ (n = 4 ∧ i = 2) ∨ (n = 4 ∧ i = 3) := by omega
  rcases h with ⟨rfl, rfl⟩ | ⟨rfl, rfl⟩ | ⟨rfl, rfl⟩ | ⟨rfl, rfl⟩ | ⟨rfl, rfl⟩ | ⟨rfl, rfl⟩ | ⟨rfl, rfl⟩ | ⟨rfl, rfl⟩ | ⟨rfl, rfl⟩ | ⟨rfl, rfl⟩ <;> (simp [sm, dtn, mkn, D3, rpl] <;> grind)
