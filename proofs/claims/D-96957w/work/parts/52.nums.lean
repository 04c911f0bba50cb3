/-! NUMBERS: small ints -/
def I (k : Nat) : Int32 := Int32.ofNat k
theorem I_nat {k : Nat} (h : k < 2 ^ 31) : (I k).toNatClampNeg = k := Int32.toNatClampNeg_ofNat_of_lt h
theorem I_int {k : Nat} (h : k < 2 ^ 31) : (I k).toInt = k := Int32.toInt_ofNat_of_lt h
theorem I_le {a b : Nat} (ha : a < 2 ^ 31) (hb : b < 2 ^ 31) : I a ≤ I b ↔ a ≤ b := by rw [Int32.le_iff_toInt_le, I_int ha, I_int hb]; omega
theorem I_lt {a b : Nat} (ha : a < 2 ^ 31) (hb : b < 2 ^ 31) : I a < I b ↔ a < b := by rw [Int32.lt_iff_toInt_lt, I_int ha, I_int hb]; omega
theorem I_inj {a b : Nat} (ha : a < 2 ^ 31) (hb : b < 2 ^ 31) : I a = I b ↔ a = b := by
  rw [← Int32.toInt_inj, I_int ha, I_int hb]; omega
theorem I_add (a b : Nat) : I a + I b = I (a + b) := (Int32.ofNat_add a b).symm
theorem I_mul (a b : Nat) : I a * I b = I (a * b) := (Int32.ofNat_mul a b).symm
theorem I_succ (a : Nat) : I a + 1 = I (a + 1) := I_add a 1
theorem I_nn {a : Nat} (h : a < 2 ^ 31) : ¬ I a < 0 := by
  rw [Int32.lt_iff_toInt_lt, I_int h]
  have e : (0 : Int32).toInt = 0 := rfl
  omega
theorem I_ge0 {a : Nat} (h : a < 2 ^ 31) : (0 : Int32) ≤ I a := by
  rw [Int32.le_iff_toInt_le, I_int h]
  have e : (0 : Int32).toInt = 0 := rfl
  omega
theorem I_sub {a b : Nat} (h : b ≤ a) : I a - I b = I (a - b) := by
  have e := I_add (a - b) b
  rw [Nat.sub_add_cancel h] at e
  rw [← e, Int32.add_sub_cancel]
theorem inB_I {k n : Nat} (hk : k < n) (hn : n < 2 ^ 31) : inB (I k) n = true := inB_of (fun h => h.elim (I_nn (by omega)) (fun q => by rw [I_nat (by omega)] at q; omega))
theorem I_of {x : Int32} (h : ¬ x < 0) : x = I x.toNatClampNeg := (Int32.ofNat_toNatClampNeg x (by
  rw [Int32.lt_iff_toInt_lt] at h; rw [Int32.le_iff_toInt_le]; have e : (0 : Int32).toInt = 0 := rfl; omega)).symm
theorem bnd_s {α β γ : Type} (a : α) (b : β) (k : α → β → Option γ) : bnd (some (a, b)) k = k a b := rfl
theorem bn1_s {β γ : Type} (b : β) (k : β → Option γ) : bn1 (some b) k = k b := rfl
theorem nm_s {α β : Type} (x : α) (k : α → β) : nm x k = k x := rfl
theorem upd_at (f : Nat → Int32) (k : Nat) (v : Int32) : upd f k v k = v := if_pos rfl
theorem upd_ne (f : Nat → Int32) {k j : Nat} (v : Int32) (h : j ≠ k) : upd f k v j = f j := if_neg h
theorem updL_at (f : Nat → Int64) (k : Nat) (v : Int64) : vp_updL f k v k = v := if_pos rfl
theorem updL_ne (f : Nat → Int64) {k j : Nat} (v : Int64) (h : j ≠ k) : vp_updL f k v j = f j := if_neg h
/-! the model's state -/
theorem mIA_IA (S : MS) (k j : Nat) (f : Nat → Int32) : mIA (sIA S k f) j = if j = k then f else mIA S j := rfl
theorem mIA_LA (S : MS) (k j : Nat) (f : Nat → Int64) : mIA (sLA S k f) j = mIA S j := rfl
theorem mIA_IF (S : MS) (k j : Nat) (v : Int32) : mIA (sIF S k v) j = mIA S j := rfl
theorem mIA_LF (S : MS) (j : Nat) (v : Int64) : mIA (sLF S v) j = mIA S j := rfl
theorem mLA_LA (S : MS) (k j : Nat) (f : Nat → Int64) : mLA (sLA S k f) j = if j = k then f else mLA S j := rfl
theorem mLA_IA (S : MS) (k j : Nat) (f : Nat → Int32) : mLA (sIA S k f) j = mLA S j := rfl
theorem mLA_IF (S : MS) (k j : Nat) (v : Int32) : mLA (sIF S k v) j = mLA S j := rfl
theorem mLA_LF (S : MS) (j : Nat) (v : Int64) : mLA (sLF S v) j = mLA S j := rfl
theorem mIF_IF (S : MS) (k j : Nat) (v : Int32) : mIF (sIF S k v) j = if j = k then v else mIF S j := rfl
theorem mIF_IA (S : MS) (k j : Nat) (f : Nat → Int32) : mIF (sIA S k f) j = mIF S j := rfl
theorem mIF_LA (S : MS) (k j : Nat) (f : Nat → Int64) : mIF (sLA S k f) j = mIF S j := rfl
theorem mIF_LF (S : MS) (j : Nat) (v : Int64) : mIF (sLF S v) j = mIF S j := rfl
theorem mLF_LF (S : MS) (v : Int64) : mLF (sLF S v) = v := rfl
theorem mLF_IA (S : MS) (k : Nat) (f : Nat → Int32) : mLF (sIA S k f) = mLF S := rfl
theorem mLF_LA (S : MS) (k : Nat) (f : Nat → Int64) : mLF (sLA S k f) = mLF S := rfl
theorem mLF_IF (S : MS) (k : Nat) (v : Int32) : mLF (sIF S k v) = mLF S := rfl
/-- alike but for the facts and the pile -/
def mEq (S T : MS) : Prop := (∀ k, k ≠ 14 → k ≠ 15 → mIA T k = mIA S k) ∧ (∀ k, mLA T k = mLA S k) ∧ (∀ k, mIF T k = mIF S k) ∧ mLF T = mLF S
theorem mEq.rfl' {S : MS} : mEq S S := ⟨fun _ _ _ => rfl, fun _ => rfl, fun _ => rfl, rfl⟩
theorem mEq.trans {S T U : MS} (h : mEq S T) (k : mEq T U) : mEq S U := ⟨fun i a b => (k.1 i a b).trans (h.1 i a b), fun i => (k.2.1 i).trans (h.2.1 i), fun i => (k.2.2.1 i).trans (h.2.2.1 i), k.2.2.2.trans h.2.2.2⟩
theorem mEq.row {S T : MS} (h : mEq S T) : mIA T 0 = mIA S 0 := h.1 0 (by decide) (by decide)
/-! of -/
theorem ix6 (k w : Nat) : ((8 : Int32) + (6 : Int32) * I k) + I w = I (8 + 6 * k + w) := by
  have e8 : (8 : Int32) = I 8 := rfl
  have e6 : (6 : Int32) = I 6 := rfl
  rw [e8, e6, I_mul, I_add, I_add]
theorem of_w {k w : Nat} (hk : k < 8) (hw : w < 6) (S : MS) : fX4_of (I k) (I w) S = some (mIA S 0 (8 + 6 * k + w), S) := by
  unfold fX4_of
  rw [ix6, chk_t (inB_I (by omega) (by decide)), I_nat (by omega)]
theorem of_0 {k : Nat} (hk : k < 8) (S : MS) : fX4_of (I k) 0 S = some (mIA S 0 (8 + 6 * k), S) := of_w (w := 0) hk (by decide) S
theorem of_1 {k : Nat} (hk : k < 8) (S : MS) : fX4_of (I k) 1 S = some (mIA S 0 (8 + 6 * k + 1), S) := of_w (w := 1) hk (by decide) S
theorem of_2 {k : Nat} (hk : k < 8) (S : MS) : fX4_of (I k) 2 S = some (mIA S 0 (8 + 6 * k + 2), S) := of_w (w := 2) hk (by decide) S
theorem of_3 {k : Nat} (hk : k < 8) (S : MS) : fX4_of (I k) 3 S = some (mIA S 0 (8 + 6 * k + 3), S) := of_w (w := 3) hk (by decide) S
theorem of_4 {k : Nat} (hk : k < 8) (S : MS) : fX4_of (I k) 4 S = some (mIA S 0 (8 + 6 * k + 4), S) := of_w (w := 4) hk (by decide) S
theorem of_5 {k : Nat} (hk : k < 8) (S : MS) : fX4_of (I k) 5 S = some (mIA S 0 (8 + 6 * k + 5), S) := of_w (w := 5) hk (by decide) S
/-! how many marks that are on touch the picture to which k goes (of the first i) -/
def tchP (row : Nat → Int32) (k : Nat) : Nat → Int32
  | 0 => 0
  | i + 1 => tchP row k i + (if (row (8 + 6 * i + 2) = row (8 + 6 * k + 3) ∨ row (8 + 6 * i + 3) = row (8 + 6 * k + 3)) ∧ row (8 + 6 * i + 5) = 1 then 1 else 0)
theorem tch_loop {S : MS} {N k : Nat} (hN : mIA S 0 2 = I N) (hN8 : N ≤ 8) (hk : k < 8) : ∀ (j i : Nat), i + j = N → ∀ f, j < f → lX4_touching_4 f (I k) (tchP (mIA S 0) k i) (I i) S = some (tchP (mIA S 0) k N, S) := by
  intro j
  induction j with
  | zero =>
    intro i hi f hf
    obtain ⟨f, rfl⟩ : ∃ g, f = g + 1 := ⟨f - 1, by omega⟩
    have e : i = N := by omega
    subst e
    show bX4_touching_4 (lX4_touching_4 f) _ _ _ _ = _
    unfold bX4_touching_4
    rw [if_pos (by show mIA S 0 2 ≤ _; rw [hN, I_le (by omega) (by omega)]; omega)]
  | succ j ih =>
    intro i hi f hf
    obtain ⟨f, rfl⟩ : ∃ g, f = g + 1 := ⟨f - 1, by omega⟩
    have h := ih (i + 1) (by omega) f (by omega)
    show bX4_touching_4 (lX4_touching_4 f) _ _ _ _ = _
    unfold bX4_touching_4
    rw [if_neg (by show ¬ mIA S 0 2 ≤ _; rw [hN, I_le (by omega) (by omega)]; omega)]
    simp only [of_2 (show i < 8 by omega), of_3 (show i < 8 by omega), of_3 hk, bnd_s, bX4_touching_44, bX4_touching_49, bX4_touching_71, bX4_touching_72, of_5 (show i < 8 by omega), nm_s, I_succ]
    simp only [tchP] at h
    by_cases h1 : mIA S 0 (8 + 6 * i + 2) = mIA S 0 (8 + 6 * k + 3) <;> by_cases h2 : mIA S 0 (8 + 6 * i + 3) = mIA S 0 (8 + 6 * k + 3) <;> by_cases h3 : mIA S 0 (8 + 6 * i + 5) = 1 <;> simp [h1, h2, h3] at h ⊢ <;> exact h
theorem tch_m {S : MS} {N k : Nat} (hN : mIA S 0 2 = I N) (hN8 : N ≤ 8) (hk : k < 8) : fX4_touching (I k) S = some (tchP (mIA S 0) k N, S) :=
  tch_loop hN hN8 hk N 0 (by omega) FU (by show N < 1000; omega)
