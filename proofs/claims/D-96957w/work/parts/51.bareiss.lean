/-! BAREISS over Int64: the steps of comesTo, and that they give the determinant -/
def brP (n : Nat) (w : Nat → Nat → Int64) (i : Nat) : Nat → Nat → Nat
  | 0, p => p
  | f + 1, p => if p < n ∧ w p i = 0 then brP n w i f (p + 1) else p
def elm (n i : Nat) (last : Int64) (w : Nat → Nat → Int64) : Nat → Nat → Int64 := fun r c => if i < r ∧ r < n ∧ i < c ∧ c < n then (w r c * w i i - w r i * w i c) / last else w r c
def brs (n : Nat) : Nat → Nat → Int64 → Int64 → (Nat → Nat → Int64) → Int64
  | 0, _, _, _, _ => 0
  | f + 1, i, last, sg, w => if n ≤ i then sg * last else
    if brP n w i 5 i = n then 0 else
    if i < brP n w i 5 i then brs n f (i + 1) (swp w i (brP n w i 5 i) i i) (-sg) (elm n i last (swp w i (brP n w i 5 i))) else brs n f (i + 1) (w i i) sg (elm n i last w)
theorem brP_spec (n : Nat) (w : Nat → Nat → Int64) (i : Nat) : ∀ (f p : Nat), n ≤ p + f → p ≤ n → p ≤ brP n w i f p ∧ brP n w i f p ≤ n ∧ (∀ r, p ≤ r → r < brP n w i f p → w r i = 0) ∧ (brP n w i f p < n → w (brP n w i f p) i ≠ 0) := by
  intro f
  induction f with
  | zero =>
    intro p h1 h2
    refine ⟨Nat.le_refl _, h2, fun r a b => ?_, fun a => ?_⟩
    · simp only [brP] at b; omega
    · simp only [brP] at a; omega
  | succ f ih =>
    intro p h1 h2
    unfold brP
    by_cases hc : p < n ∧ w p i = 0
    · rw [if_pos hc]
      obtain ⟨a1, a2, a3, a4⟩ := ih (p + 1) (by omega) (by omega)
      refine ⟨by omega, a2, fun r b1 b2 => ?_, a4⟩
      by_cases hr : r = p
      · subst hr; exact hc.2
      · exact a3 r (by omega) b2
    · rw [if_neg hc]
      exact ⟨Nat.le_refl _, h2, fun r b1 b2 => by omega, fun a b => hc ⟨a, b⟩⟩
def Bq (q c : Nat) : Nat := if c = q then 960 else 32
def bdd (q : Nat) (a : Nat → Nat → Int) : Prop := ∀ r c, r < 4 → c < 4 → (a r c).natAbs ≤ Bq q c
theorem Bq_le (q c : Nat) : Bq q c ≤ 960 := by unfold Bq; split <;> omega
theorem Bq_four (q : Nat) : Bq q 0 * Bq q 1 ≤ 30720 ∧ Bq q 0 * Bq q 1 * Bq q 2 ≤ 983040 ∧ Bq q 0 * Bq q 1 * Bq q 2 * Bq q 3 ≤ 31457280 := by
  have h : q = 0 ∨ q = 1 ∨ q = 2 ∨ q = 3 ∨ 4 ≤ q := by omega
  rcases h with rfl | rfl | rfl | rfl | h
  · decide
  · decide
  · decide
  · decide
  · have e : ∀ c, c < 4 → Bq q c = 32 := fun c hc => if_neg (by omega)
    rw [e 0 (by omega), e 1 (by omega), e 2 (by omega), e 3 (by omega)]
    decide
theorem ab_mul {x y : Int} {X Y : Nat} (hx : x.natAbs ≤ X) (hy : y.natAbs ≤ Y) : (x * y).natAbs ≤ X * Y := by
  rw [Int.natAbs_mul]; exact Nat.mul_le_mul hx hy
theorem ab_sub {x y : Int} {X Y : Nat} (hx : x.natAbs ≤ X) (hy : y.natAbs ≤ Y) : (x - y).natAbs ≤ X + Y := by omega
theorem ab_add {x y : Int} {X Y : Nat} (hx : x.natAbs ≤ X) (hy : y.natAbs ≤ Y) : (x + y).natAbs ≤ X + Y := by omega
theorem ab_D3 {a b c d e f g h i : Int} {P Q T : Nat} (ha : a.natAbs ≤ P) (hd : d.natAbs ≤ P) (hg : g.natAbs ≤ P) (hb : b.natAbs ≤ Q) (he : e.natAbs ≤ Q) (hh : h.natAbs ≤ Q) (hc : c.natAbs ≤ T) (hf : f.natAbs ≤ T) (hi : i.natAbs ≤ T) : (D3 a b c d e f g h i).natAbs ≤ 6 * (P * Q * T) := by
  unfold D3
  have h1 := ab_mul ha (ab_sub (ab_mul he hi) (ab_mul hf hh))
  have h2 := ab_mul hb (ab_sub (ab_mul hd hi) (ab_mul hf hg))
  have h3 := ab_mul hc (ab_sub (ab_mul hd hh) (ab_mul he hg))
  refine Nat.le_trans (ab_add (ab_sub h1 h2) h3) (Nat.le_of_eq ?_)
  grind
theorem ab_mk1 {q : Nat} {a : Nat → Nat → Int} (h : bdd q a) {r c : Nat} (hr : r < 4) (hc : c < 4) : (mkn 1 a r c).natAbs ≤ 2 * (Bq q 0 * Bq q c) := by
  refine Nat.le_trans (ab_sub (ab_mul (h r c hr hc) (h 0 0 (by omega) (by omega))) (ab_mul (h r 0 hr (by omega)) (h 0 c (by omega) hc))) (Nat.le_of_eq ?_)
  grind
theorem ab_mk2 {q : Nat} {a : Nat → Nat → Int} (h : bdd q a) {r c : Nat} (hr : r < 4) (hc : c < 4) : (mkn 2 a r c).natAbs ≤ 6 * (Bq q 0 * Bq q 1 * Bq q c) :=
  ab_D3 (h 0 0 (by omega) (by omega)) (h 1 0 (by omega) (by omega)) (h r 0 hr (by omega)) (h 0 1 (by omega) (by omega)) (h 1 1 (by omega) (by omega)) (h r 1 hr (by omega)) (h 0 c (by omega) hc) (h 1 c (by omega) hc) (h r c hr hc)
theorem ab_mk3 {q : Nat} {a : Nat → Nat → Int} (h : bdd q a) {r c : Nat} (hr : r < 4) (hc : c < 4) : (mkn 3 a r c).natAbs ≤ 24 * (Bq q 0 * Bq q 1 * Bq q 2 * Bq q c) := by
  have o : (0 : Nat) < 4 := by omega
  have i : (1 : Nat) < 4 := by omega
  have t : (2 : Nat) < 4 := by omega
  have h1 := ab_mul (h 0 0 o o) (ab_D3 (h 1 1 i i) (h 2 1 t i) (h r 1 hr i) (h 1 2 i t) (h 2 2 t t) (h r 2 hr t) (h 1 c i hc) (h 2 c t hc) (h r c hr hc))
  have h2 := ab_mul (h 0 1 o i) (ab_D3 (h 1 0 i o) (h 2 0 t o) (h r 0 hr o) (h 1 2 i t) (h 2 2 t t) (h r 2 hr t) (h 1 c i hc) (h 2 c t hc) (h r c hr hc))
  have h3 := ab_mul (h 0 2 o t) (ab_D3 (h 1 0 i o) (h 2 0 t o) (h r 0 hr o) (h 1 1 i i) (h 2 1 t i) (h r 1 hr i) (h 1 c i hc) (h 2 c t hc) (h r c hr hc))
  have h4 := ab_mul (h 0 c o hc) (ab_D3 (h 1 0 i o) (h 2 0 t o) (h r 0 hr o) (h 1 1 i i) (h 2 1 t i) (h r 1 hr i) (h 1 2 i t) (h 2 2 t t) (h r 2 hr t))
  refine Nat.le_trans (ab_sub (ab_add (ab_sub h1 h2) h3) h4) (Nat.le_of_eq ?_)
  grind
theorem ab_dt {n q : Nat} (hn : n ≤ 4) {a : Nat → Nat → Int} (h : bdd q a) : (dtn n a).natAbs ≤ 754974720 := by
  obtain ⟨b1, b2, b3⟩ := Bq_four q
  have hc : n = 0 ∨ n = 1 ∨ n = 2 ∨ n = 3 ∨ n = 4 := by omega
  rcases hc with rfl | rfl | rfl | rfl | rfl
  · show (1 : Int).natAbs ≤ _; decide
  · have h1 := h 0 0 (by omega) (by omega)
    have h2 := Bq_le q 0
    show (a 0 0).natAbs ≤ _; omega
  · have h1 := ab_mk1 h (r := 1) (c := 1) (by omega) (by omega)
    show (mkn 1 a 1 1).natAbs ≤ _; omega
  · have h1 := ab_mk2 h (r := 2) (c := 2) (by omega) (by omega)
    show (mkn 2 a 2 2).natAbs ≤ _; omega
  · have h1 := ab_mk3 h (r := 3) (c := 3) (by omega) (by omega)
    show (mkn 3 a 3 3).natAbs ≤ _; omega
theorem ab_step {i q : Nat} (hi : i < 3) {a : Nat → Nat → Int} (h : bdd q a) {r c : Nat} (hr : r < 4) (hc : c < 4) (hic : i < c) : (dtn i a * mkn (i + 1) a r c).natAbs < 2 ^ 62 := by
  obtain ⟨b1, b2, b3⟩ := Bq_four q
  have hh : i = 0 ∨ i = 1 ∨ i = 2 := by omega
  rcases hh with rfl | rfl | rfl
  · have h1 := ab_mk1 h hr hc
    have h2 := Nat.mul_le_mul (Bq_le q 0) (Bq_le q c)
    show ((1 : Int) * mkn 1 a r c).natAbs < _
    rw [Int.one_mul]; omega
  · have h1 := ab_mul (h 0 0 (by omega) (by omega)) (ab_mk2 h hr hc)
    have h2 := Nat.mul_le_mul (Bq_le q 0) (Nat.mul_le_mul_left 6 (Nat.mul_le_mul b1 (Bq_le q c)))
    show ((a 0 0) * mkn 2 a r c).natAbs < _
    omega
  · have e : c = 3 := by omega
    subst e
    have h1 := ab_mul (ab_mk1 h (r := 1) (c := 1) (by omega) (by omega)) (ab_mk3 h hr hc)
    have h2 := Nat.mul_le_mul (Nat.mul_le_mul_left 2 b1) (Nat.mul_le_mul_left 24 b3)
    show (mkn 1 a 1 1 * mkn 3 a r 3).natAbs < _
    omega
theorem i64_bmod {n : Int} (h : n.natAbs < 2 ^ 63) : n.bmod (2 ^ 64) = n := by
  have e : (Int64.ofInt n).toInt = n := Int64.toInt_ofInt_of_le (by omega) (by omega)
  rw [Int64.toInt_ofInt] at e
  exact e
theorem i64_to {n : Int} (h : n.natAbs < 2 ^ 63) : (Int64.ofInt n).toInt = n := Int64.toInt_ofInt_of_le (by omega) (by omega)
theorem i64_step {X Y Z T L : Int64} {l k : Int} (h : X.toInt * Y.toInt - Z.toInt * T.toInt = l * k) (hL : L.toInt = l) (hl : l ≠ 0) (hb : (l * k).natAbs < 2 ^ 62) : ((X * Y - Z * T) / L).toInt = k := by
  have e : X * Y - Z * T = Int64.ofInt (l * k) := by
    rw [← h, Int64.ofInt_sub, Int64.ofInt_mul, Int64.ofInt_mul, Int64.ofInt_toInt, Int64.ofInt_toInt, Int64.ofInt_toInt, Int64.ofInt_toInt]
  have hk : k.natAbs ≤ (l * k).natAbs := by
    rw [Int.natAbs_mul]
    exact Nat.le_mul_of_pos_left _ (by omega)
  rw [e, Int64.toInt_div, hL, i64_to (by omega), Int.mul_tdiv_cancel_left _ hl, i64_bmod (by omega)]
theorem brs_det {n q : Nat} (hn : n ≤ 4) : ∀ (f i : Nat) (last sg : Int64) (w : Nat → Nat → Int64) (A : Nat → Nat → Int), n < i + f → i ≤ n → bdd q A → (∀ r c, i ≤ r → r < n → i ≤ c → c < n → (w r c).toInt = mkn i A r c) → last.toInt = dtn i A → dtn i A ≠ 0 → brs n f i last sg w = sg * Int64.ofInt (dtn n A) := by
  intro f
  induction f with
  | zero => intro i last sg w A h1 h2; omega
  | succ f ih =>
    intro i last sg w A h1 h2 hB hw hl hl0
    unfold brs
    by_cases hni : n ≤ i
    · rw [if_pos hni]
      have e : i = n := by omega
      subst e
      rw [← hl, Int64.ofInt_toInt]
    · rw [if_neg hni]
      obtain ⟨p1, p2, p3, p4⟩ := brP_spec n w i 5 i (by omega) h2
      generalize brP n w i 5 i = p at p1 p2 p3 p4
      by_cases hpn : p = n
      · rw [if_pos hpn]
        have hz : dtn n A = 0 := dt_zero hn (by omega) A (fun r a b => by
          rw [← hw r i a b (Nat.le_refl _) (by omega), p3 r a (by omega)]; rfl) hl0
        rw [hz]
        show (0 : Int64) = sg * 0
        rw [Int64.mul_zero]
      · rw [if_neg hpn]
        have hp : p < n := by omega
        have hnz : mkn i A p i ≠ 0 := by
          rw [← hw p i p1 hp (Nat.le_refl _) (by omega)]
          intro e
          exact p4 hp (Int64.toInt_inj.mp (e.trans (by rfl)))
        by_cases hip : i < p
        · rw [if_pos hip]
          have hwS : ∀ r c, i ≤ r → r < n → i ≤ c → c < n → (swp w i p r c).toInt = mkn i (swp A i p) r c := by
            intro r c a1 a2 a3 a4
            rw [mk_swp (by omega) (by omega) A a1 c]
            unfold swp
            by_cases e1 : r = i
            · rw [if_pos e1, if_pos e1]; exact hw p c p1 hp a3 a4
            · rw [if_neg e1, if_neg e1]
              by_cases e2 : r = p
              · rw [if_pos e2, if_pos e2]; exact hw i c (Nat.le_refl _) (by omega) a3 a4
              · rw [if_neg e2, if_neg e2]; exact hw r c a1 a2 a3 a4
          have hBS : bdd q (swp A i p) := by
            intro r c a1 a2
            unfold swp
            by_cases e1 : r = i
            · rw [if_pos e1]; exact hB p c (by omega) a2
            · rw [if_neg e1]
              by_cases e2 : r = p
              · rw [if_pos e2]; exact hB i c (by omega) a2
              · rw [if_neg e2]; exact hB r c a1 a2
          have hd : dtn (i + 1) (swp A i p) = mkn i A p i := by
            show mkn i (swp A i p) i i = _
            rw [mk_swp (by omega) (by omega) A (Nat.le_refl _) i, if_pos rfl]
          have hls : last.toInt = dtn i (swp A i p) := by rw [dt_swp_lo (by omega) (by omega)]; exact hl
          rw [ih (i + 1) _ _ _ (swp A i p) (by omega) (by omega) hBS ?_ ?_ (by rw [hd]; exact hnz), dt_swp hip hp hn A, Int64.ofInt_neg]
          · grind
          · intro r c a1 a2 a3 a4
            unfold elm
            rw [if_pos ⟨by omega, a2, by omega, a4⟩]
            have hs := mk_step (i := i) (by omega) (swp A i p) r c
            rw [← hwS r c (by omega) a2 (by omega) a4, ← hwS i i (Nat.le_refl _) (by omega) (Nat.le_refl _) (by omega), ← hwS r i (by omega) a2 (Nat.le_refl _) (by omega), ← hwS i c (Nat.le_refl _) (by omega) (by omega) a4] at hs
            exact i64_step hs hls (by rw [dt_swp_lo (by omega) (by omega)]; exact hl0) (ab_step (by omega) hBS (by omega) (by omega) (by omega))
          · show (swp w i p i i).toInt = mkn i (swp A i p) i i
            exact hwS i i (Nat.le_refl _) (by omega) (Nat.le_refl _) (by omega)
        · rw [if_neg hip]
          have e : p = i := by omega
          subst e
          refine ih (p + 1) _ _ _ A (by omega) (by omega) hB ?_ (hw p p (Nat.le_refl _) hp (Nat.le_refl _) hp) hnz
          intro r c a1 a2 a3 a4
          unfold elm
          rw [if_pos ⟨by omega, a2, by omega, a4⟩]
          have hs := mk_step (i := p) (by omega) A r c
          rw [← hw r c (by omega) a2 (by omega) a4, ← hw p p (Nat.le_refl _) hp (Nat.le_refl _) hp, ← hw r p (by omega) a2 (Nat.le_refl _) hp, ← hw p c (Nat.le_refl _) hp (by omega) a4] at hs
          exact i64_step hs hl hl0 (ab_step (by omega) hB (by omega) (by omega) (by omega))
/-- what comesTo computes is the determinant -/
theorem brs_dt {n q : Nat} (hn : n ≤ 4) {w : Nat → Nat → Int64} {A : Nat → Nat → Int} (hB : bdd q A) (hw : ∀ r c, r < n → c < n → (w r c).toInt = A r c) : brs n 5 0 1 1 w = Int64.ofInt (dtn n A) := by
  rw [brs_det hn 5 0 1 1 w A (by omega) (by omega) hB (fun r c _ a _ b => hw r c a b) (by rfl) (by show (1 : Int) ≠ 0; decide), Int64.one_mul]
