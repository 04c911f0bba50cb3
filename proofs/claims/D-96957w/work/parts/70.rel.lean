/-! THE RELATION between PictureBlock (at b) and its model -/
def fin (u : XS) : Prop := ∀ a x, u.1 a = some x → a < u.2
def KP (u : XS) (b : Nat) (S : MS) : Prop := ∃ krow kd kt, HV u (b + 20) krow kd kt ∧ (¬ mIF S 3 = 0 → (∀ i, i < 382 → mIA S 1 i = krow i) ∧ INV krow ∧ MKv u (b + 76) krow kd ∧ TXv u (b + 76) krow kt)
def ASd (u : XS) (b : Nat) : Prop := ∃ r h t, HV u (b + 37) r h t
def FD (u : XS) (b : Nat) (S : MS) : Prop := ∃ f, u.1 (b + 56) = some (aeI 0 7 f) ∧ ∀ k, k < 7 → f k = mIA S 4 k
def TR (u : XS) (b : Nat) (S : MS) : Prop := u.1 (b + 54) = some (aeO 3 [.ref (b + 55), .int (mIF S 22)]) ∧ (∃ f, u.1 (b + 55) = some (aeI 1 30 f) ∧ ∀ k, k < 30 → f k = mIA S 21 k) ∧ ∃ t, t ≤ 30 ∧ mIF S 22 = I t
def SH1 (u : XS) (lo : Nat) (S : MS) (s : Nat) (ad : Option Nat) : Prop := (ad = none ∧ mIA S 5 s = 0) ∨ ∃ q t n f, ad = some q ∧ lo ≤ q ∧ u.1 q = some (aeI t n f) ∧ ((t = 0 ∧ mIA S 5 s = 32) ∨ (t = 1 ∧ mIA S 5 s = 8) ∨ (t = 2 ∧ mIA S 5 s = 16)) ∧ mIA S 6 s = I n ∧ n ≤ 24 ∧ ∀ k, k < n → f k = mIA S 7 (24 * s + k)
def SHs (u : XS) (b : Nat) (S : MS) : Prop := ∃ ad : Nat → Option Nat, u.1 (b + 57) = some (aeQ 4 4 (slF (b + 58) 4)) ∧ (∀ s, s < 4 → u.1 (b + 58 + s) = some (aeO 2 [va_rf (ad s)]) ∧ SH1 u (b + 76) S s (ad s)) ∧ ∀ s s' q, s < 4 → s' < 4 → ad s = some q → ad s' = some q → s = s'
def RO (b : Nat) (u : XS) (S : MS) : Prop := KP u b S ∧ ASd u b ∧ FD u b S ∧ TR u b S ∧ SHs u b S
def RL (b : Nat) (u : XS) (S : MS) : Prop := ∃ hd tx, XQ u b (mIA S 0) hd tx (mIF S 3) ∧ INV (mIA S 0) ∧ RO b u S
/-- of the model's state, all that the others are about stays -/
def mKeep (S T : MS) : Prop := (∀ k, k = 1 ∨ k = 4 ∨ k = 5 ∨ k = 6 ∨ k = 7 ∨ k = 21 → mIA T k = mIA S k) ∧ mIF T 3 = mIF S 3 ∧ mIF T 22 = mIF S 22
theorem mKeep.rfl' {S : MS} : mKeep S S := ⟨fun _ _ => rfl, rfl, rfl⟩
theorem mKeep.trans {S T U : MS} (h : mKeep S T) (k : mKeep T U) : mKeep S U := ⟨fun i a => (k.1 i a).trans (h.1 i a), k.2.1.trans h.2.1, k.2.2.trans h.2.2⟩
theorem mEqG.keep {S T : MS} (h : mEqG S T) : mKeep S T := ⟨fun k hk => h.1 k (by omega) (by omega) (by omega), h.2.2 3, h.2.2 22⟩
theorem mEqS.keep {S T : MS} (h : mEqS S T) : mKeep S T := h.toG.keep
theorem mEq.keep {S T : MS} (h : mEq S T) : mKeep S T := h.toS.keep
theorem mKeep.ia {S : MS} (k : Nat) (f : Nat → Int32) (hk : ¬ (k = 1 ∨ k = 4 ∨ k = 5 ∨ k = 6 ∨ k = 7 ∨ k = 21)) : mKeep S (sIA S k f) := ⟨fun j hj => by rw [mIA_IA, if_neg (show ¬ j = k by omega)], rfl, rfl⟩
theorem mKeep.r {S : MS} (f : Nat → Int32) : mKeep S (sIA S 0 f) := mKeep.ia 0 f (by omega)
/-- cells that the others are about -/
def oth (b : Nat) : Nat → Prop := fun q => (b + 20 ≤ q ∧ q ≤ b + 61) ∨ b + 76 ≤ q
theorem SH1.fr {u v : XS} {lo : Nat} {S T : MS} {s : Nat} {ad : Option Nat} (h : SH1 u lo S s ad) (hf : ∀ q, lo ≤ q → v.1 q = u.1 q) (hm : mKeep S T) : SH1 v lo T s ad := by
  rcases h with ⟨h1, h2⟩ | ⟨q, t, n, f, h1, h2, h3, h4, h5, h6, h7⟩
  · exact Or.inl ⟨h1, by rw [hm.1 5 (by omega)]; exact h2⟩
  · refine Or.inr ⟨q, t, n, f, h1, h2, by rw [hf q h2]; exact h3, by rw [hm.1 5 (by omega)]; exact h4, by rw [hm.1 6 (by omega)]; exact h5, h6, fun k hk => by rw [hm.1 7 (by omega)]; exact h7 k hk⟩
section ROf
variable {b : Nat} {u v : XS} {S T : MS}
theorem KP.fr (h : KP u b S) (hf : ∀ q, oth b q → v.1 q = u.1 q) (hm : mKeep S T) : KP v b T := by
  obtain ⟨krow, kd, kt, h1, h2⟩ := h
  refine ⟨krow, kd, kt, h1.fr (fun q a c => hf q (Or.inl ⟨a, by omega⟩)), fun h0 => ?_⟩
  rw [hm.2.1] at h0
  obtain ⟨a1, a2, a3, a4⟩ := h2 h0
  exact ⟨fun i hi => by rw [hm.1 1 (by omega)]; exact a1 i hi, a2, a3.fr (fun q a => hf q (Or.inr a)), a4.fr (fun q a => hf q (Or.inr a))⟩
theorem ASd.fr (h : ASd u b) (hf : ∀ q, oth b q → v.1 q = u.1 q) : ASd v b := by
  obtain ⟨r, hd, t, h⟩ := h
  exact ⟨r, hd, t, h.fr (fun q a c => hf q (Or.inl ⟨by omega, by omega⟩))⟩
theorem FD.fr (h : FD u b S) (hf : ∀ q, oth b q → v.1 q = u.1 q) (hm : mKeep S T) : FD v b T := by
  obtain ⟨f, h1, h2⟩ := h
  exact ⟨f, (hf _ (Or.inl ⟨by omega, by omega⟩)).trans h1, fun k hk => by rw [hm.1 4 (by omega)]; exact h2 k hk⟩
theorem TR.fr (h : TR u b S) (hf : ∀ q, oth b q → v.1 q = u.1 q) (hm : mKeep S T) : TR v b T := by
  obtain ⟨h1, ⟨f, h2, h3⟩, h4⟩ := h
  refine ⟨?_, ⟨f, (hf _ (Or.inl ⟨by omega, by omega⟩)).trans h2, fun k hk => by rw [hm.1 21 (by omega)]; exact h3 k hk⟩, by rw [hm.2.2]; exact h4⟩
  rw [hm.2.2]
  exact (hf _ (Or.inl ⟨by omega, by omega⟩)).trans h1
theorem SHs.fr (h : SHs u b S) (hf : ∀ q, oth b q → v.1 q = u.1 q) (hm : mKeep S T) : SHs v b T := by
  obtain ⟨ad, h1, h2, h3⟩ := h
  refine ⟨ad, (hf _ (Or.inl ⟨by omega, by omega⟩)).trans h1, fun s hs => ⟨(hf _ (Or.inl ⟨by omega, by omega⟩)).trans (h2 s hs).1, (h2 s hs).2.fr (fun q a => hf q (Or.inr a)) hm⟩, h3⟩
theorem RO.fr (h : RO b u S) (hf : ∀ q, oth b q → v.1 q = u.1 q) (hm : mKeep S T) : RO b v T := ⟨h.1.fr hf hm, h.2.1.fr hf, h.2.2.1.fr hf hm, h.2.2.2.1.fr hf hm, h.2.2.2.2.fr hf hm⟩
theorem Fr.oth {P : Nat → Prop} (h : Fr P u v) (hP : ∀ q, P q → ¬ oth b q) : ∀ q, oth b q → v.1 q = u.1 q := fun q hq => h.2 q (fun k => hP q k hq)
theorem rnd_oth {q : Nat} (h : rnd b q) : ¬ oth b q := by
  rcases h with (h | h | h | h) | h <;> (intro k; rcases k with k | k <;> omega)
theorem hse_oth {q : Nat} (h : b + 3 ≤ q ∧ q ≤ b + 19) : ¬ oth b q := rnd_oth (Or.inr h)
theorem RO.ok (h : RO b u S) {P : Nat → Prop} (hf : Fr P u v) (hP : ∀ q, P q → ¬ oth b q) (hm : mKeep S T) : RO b v T := h.fr (hf.oth hP) hm
theorem fin.fr (h : fin u) {P : Nat → Prop} (hf : Fr P u v) (hP : ∀ q, P q → q < b + 76) (hb : b + 76 ≤ u.2) : fin v := by
  intro a x hx
  rw [hf.1]
  by_cases hp : P a
  · have := hP a hp; omega
  · rw [hf.2 a hp] at hx; exact h a x hx
theorem RL.top (h : RL b u S) (hf : fin u) : b + 76 ≤ u.2 := by
  obtain ⟨hd, tx, ⟨bel, N, R, A, wt, sd, hX⟩, -⟩ := h
  have := hf _ _ hX.sv8
  omega
end ROf
/-! ranges -/
def inP (v lo hi : Int32) : Int32 := if v < lo then 0 else if hi < v then 0 else 1
theorem in_x (v lo hi : Int32) (u : XS) : fX0_isIn v lo hi u = some (inP v lo hi, u) := by
  unfold fX0_isIn bX0_isIn_14 bX0_isIn_15 inP
  by_cases h1 : v < lo
  · rw [if_pos h1, if_pos h1]; rfl
  · rw [if_neg h1, if_neg h1]
    by_cases h2 : hi < v
    · rw [if_pos h2, if_pos h2]; rfl
    · rw [if_neg h2, if_neg h2]; rfl
theorem in_m (v lo hi : Int32) (S : MS) : fX4_in v lo hi S = some (inP v lo hi, S) := by
  unfold fX4_in bX4_in_14 bX4_in_15 inP
  by_cases h1 : v < lo
  · rw [if_pos h1, if_pos h1]; rfl
  · rw [if_neg h1, if_neg h1]
    by_cases h2 : hi < v
    · rw [if_pos h2, if_pos h2]; rfl
    · rw [if_neg h2, if_neg h2]; rfl
theorem inP_or (v lo hi : Int32) : inP v lo hi = 0 ∨ (inP v lo hi = 1 ∧ lo ≤ v ∧ v ≤ hi) := by
  unfold inP
  simp only [Int32.lt_iff_toInt_lt, Int32.le_iff_toInt_le]
  split
  · exact Or.inl rfl
  · split
    · exact Or.inl rfl
    · exact Or.inr ⟨rfl, by omega, by omega⟩
theorem inP_B (v lo hi : Int32) : isB (inP v lo hi) = true := by
  rcases inP_or v lo hi with h | ⟨h, -⟩ <;> rw [h] <;> rfl
/-- between 0 and n - 1 -/
theorem inP_I {v : Int32} {n : Nat} (hn : n ≤ 1000) : inP v 0 (I n - 1) = 0 ∨ (inP v 0 (I n - 1) = 1 ∧ ∃ k, k < n ∧ v = I k) := by
  rcases inP_or v 0 (I n - 1) with h | ⟨h, h1, h2⟩
  · exact Or.inl h
  · refine Or.inr ⟨h, v.toNatClampNeg, ?_, I_of (by rw [Int32.lt_iff_toInt_lt]; rw [Int32.le_iff_toInt_le] at h1; omega)⟩
    have e := I_of (x := v) (by rw [Int32.lt_iff_toInt_lt]; rw [Int32.le_iff_toInt_le] at h1; omega)
    by_cases h0 : n = 0
    · subst h0
      have e2 : (I 0 - 1) = (-1 : Int32) := by decide
      rw [e2] at h2
      rw [Int32.le_iff_toInt_le] at h1 h2
      have z : (0 : Int32).toInt = 0 := rfl
      have z1 : (-1 : Int32).toInt = -1 := rfl
      omega
    · rw [I_pred (by omega)] at h2
      rw [Int32.le_iff_toInt_le, I_int (by omega)] at h2
      have e3 : v.toInt = v.toNatClampNeg := by
        rw [Int32.le_iff_toInt_le] at h1
        have z : (0 : Int32).toInt = 0 := rfl
        unfold Int32.toNatClampNeg
        omega
      omega
def mkP (row : Nat → Int32) (v : Int32) : Int32 := inP v 0 (row 2 - 1)
def piP (row : Nat → Int32) (v : Int32) : Int32 := inP v 0 (row 3 - 1)
theorem mk_x {u : XS} {b : Nat} {row : Nat → Int32} {hd tx : Nat → Option Nat} {im : Int32} (h : XQ u b row hd tx im) (v : Int32) : fX0_isMark b v u = some (mkP row v, u) := by
  unfold fX0_isMark mkP
  rw [h.pb.r2, bn1_s, h.hv.i0, bn1_s, in_x, bnd_s, chk_t (inP_B _ _ _)]
theorem pi_x {u : XS} {b : Nat} {row : Nat → Int32} {hd tx : Nat → Option Nat} {im : Int32} (h : XQ u b row hd tx im) (v : Int32) : fX0_isPicture b v u = some (piP row v, u) := by
  unfold fX0_isPicture piP
  rw [h.pb.r2, bn1_s, h.hv.i1, bn1_s, in_x, bnd_s, chk_t (inP_B _ _ _)]
theorem mk_mm (v : Int32) (S : MS) : fX4_isMark v S = some (mkP (mIA S 0) v, S) := by
  unfold fX4_isMark mkP
  have e : ((2 : Int32)).toNatClampNeg = 2 := rfl
  rw [e, in_m, bnd_s, chk_t (inP_B _ _ _)]
theorem pi_mm (v : Int32) (S : MS) : fX4_isPicture v S = some (piP (mIA S 0) v, S) := by
  unfold fX4_isPicture piP
  have e : ((3 : Int32)).toNatClampNeg = 3 := rfl
  rw [e, in_m, bnd_s, chk_t (inP_B _ _ _)]
theorem mkP_or {row : Nat → Int32} (hI : INV row) (v : Int32) : mkP row v = 0 ∨ (mkP row v = 1 ∧ ∃ k, k < nM row ∧ v = I k) := by
  have h8 := hI.1.2
  have h := inP_I (v := v) (n := nM row) (by omega)
  rw [← hI.1.1] at h
  exact h
theorem piP_or {row : Nat → Int32} (hI : INV row) (v : Int32) : piP row v = 0 ∨ (piP row v = 1 ∧ ∃ k, k < nP row ∧ v = I k) := by
  have h8 := hI.2.1.2.2
  have h := inP_I (v := v) (n := nP row) (by omega)
  rw [← hI.2.1.1] at h
  exact h
/-! what an operation owes -/
def OpR (b : Nat) {α : Type} (X : Option (α × XS)) (M : Option (α × MS)) : Prop := ∃ v u' S', X = some (v, u') ∧ M = some (v, S') ∧ RL b u' S'
def fdS (b : Nat) : Nat → Prop := fun q => q = b + 56
theorem err_op {b : Nat} {u : XS} {S : MS} (h : RL b u S) {e : Nat} (he : e < 7) : ∃ u' S', fX0_finds b (I e) u = some (-1000000000 - I e, u') ∧ fX4_error (-1000000000 - I e) S = some (-1000000000 - I e, S') ∧ RL b u' S' := by
  obtain ⟨hd, tx, hX, hI, ⟨hK, hA, ⟨f, hf, hf2⟩, hT, hS⟩⟩ := h
  have e1 : (-1000000000 : Int32) - (-1000000000 - I e) = I e := by
    rw [Int32.sub_eq_add_neg, Int32.neg_sub, Int32.sub_eq_add_neg, Int32.add_comm, Int32.add_assoc, Int32.add_left_neg, Int32.add_zero]
  refine ⟨xset u (b + 56) (aeI 0 7 (upd f e (f e + 1))), sIA S 4 (upd (mIA S 4) e (mIA S 4 e + 1)), ?_, ?_, hd, tx, ?_, hI, ?_⟩
  · unfold fX0_finds
    rw [hX.pb.r6, bn1_s, aI_of hf he (by decide), bn1_s, sI_of hf he (by decide), bn1_s]
    rfl
  · unfold fX4_error
    rw [e1, nm_s, chk_t (inB_I he (by decide)), chk_t (inB_I he (by decide)), I_nat (by omega), nm_s]
  · obtain ⟨bel, N, R, A, wt, sd, hX⟩ := hX
    obtain ⟨x1, ⟨p, x2⟩, ⟨p2, x3⟩, x4, x5, x6⟩ := hX.xv
    obtain ⟨sg, w, hw⟩ := hX.wv
    have o : ∀ q, q ≠ b + 56 → (xset u (b + 56) (aeI 0 7 (upd f e (f e + 1)))).1 q = u.1 q := fun q hq => xset_ne u _ hq
    exact ⟨bel, N, R, A, wt, sd, ⟨x1.fr (o _ (by omega)), ⟨p, (o _ (by omega)).trans x2⟩, ⟨p2, (o _ (by omega)).trans x3⟩, x4.fr (fun q a c => o q (by omega)), x5.fr (fun q a => o q (by omega)), x6.fr (fun q a => o q (by omega))⟩, (o _ (by omega)).trans hX.ob, hX.nv.fr (fun q a c => o q (by omega)), ⟨sg, w, hw.fr (fun q a => o q (by have := a.1; omega))⟩, (o _ (by omega)).trans hX.rv, (o _ (by omega)).trans hX.av, (o _ (by omega)).trans hX.wv8, (o _ (by omega)).trans hX.sv8⟩
  · have o : ∀ q, q ≠ b + 56 → (xset u (b + 56) (aeI 0 7 (upd f e (f e + 1)))).1 q = u.1 q := fun q hq => xset_ne u _ hq
    refine ⟨?_, ?_, ⟨_, xset_at _ _ _, fun k hk => ?_⟩, ?_, ?_⟩
    · obtain ⟨krow, kd, kt, h1, h2⟩ := hK
      refine ⟨krow, kd, kt, h1.fr (fun q a c => o q (by omega)), fun h0 => ?_⟩
      obtain ⟨a1, a2, a3, a4⟩ := h2 h0
      exact ⟨a1, a2, a3.fr (fun q a => o q (by omega)), a4.fr (fun q a => o q (by omega))⟩
    · obtain ⟨r, hd, t, h⟩ := hA
      exact ⟨r, hd, t, h.fr (fun q a c => o q (by omega))⟩
    · rw [mIA_IA, if_pos rfl]
      by_cases c : k = e
      · rw [c, upd_at, upd_at, hf2 e he]
      · rw [upd_ne _ _ c, upd_ne _ _ c, hf2 k hk]
    · obtain ⟨h1, ⟨f, h2, h3⟩, h4⟩ := hT
      exact ⟨(o _ (by omega)).trans h1, ⟨f, (o _ (by omega)).trans h2, h3⟩, h4⟩
    · obtain ⟨ad, h1, h2, h3⟩ := hS
      refine ⟨ad, (o _ (by omega)).trans h1, fun s hs => ⟨(o _ (by omega)).trans (h2 s hs).1, ?_⟩, h3⟩
      rcases (h2 s hs).2 with h | ⟨q, t, n, f, g1, g2, g3, g4⟩
      · exact Or.inl h
      · exact Or.inr ⟨q, t, n, f, g1, g2, (o _ (by omega)).trans g3, g4⟩
