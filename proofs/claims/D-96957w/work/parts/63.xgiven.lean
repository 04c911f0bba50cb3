/-! GIVEN, WEIGHT, SAID (PictureBlock) -/
def XV (u : XS) (b : Nat) (row : Nat → Int32) (hd tx : Nat → Option Nat) : Prop :=
  PB u b ∧ (∃ p, u.1 (b + 1) = some (aeI 0 60 p)) ∧ (∃ p, u.1 (b + 2) = some (aeI 0 3 p)) ∧ HV u (b + 3) row hd tx ∧ MKv u (b + 76) row hd ∧ TXv u (b + 76) row tx
/-- pile and named alone may change -/
def sc2 (b : Nat) : Nat → Prop := fun q => q = b + 1 ∨ q = b + 2
theorem XV.fr {u v : XS} {b : Nat} {row : Nat → Int32} {hd tx : Nat → Option Nat} {P : Nat → Prop} (h : XV u b row hd tx) (hf : Fr P u v) (hP : ∀ q, P q → ¬ q = b ∧ ¬ (b + 3 ≤ q ∧ q ≤ b + 19) ∧ ¬ b + 76 ≤ q) (h1 : ∃ p, v.1 (b + 1) = some (aeI 0 60 p)) (h2 : ∃ p, v.1 (b + 2) = some (aeI 0 3 p)) : XV v b row hd tx := by
  obtain ⟨g0, g1, g2, g3, g4, g5⟩ := h
  refine ⟨g0.fr (hf.2 _ (fun q => (hP _ q).1 rfl)), h1, h2, g3.fr (fun q a c => hf.2 _ (fun k => (hP _ k).2.1 ⟨a, by omega⟩)), g4.fr (fun q a => hf.2 _ (fun k => (hP _ k).2.2 a)), g5.fr (fun q a => hf.2 _ (fun k => (hP _ k).2.2 a))⟩
theorem held_x (v lo hi : Int32) (S : XS) (h : lo ≤ hi) : fX0_held v lo hi S = some (heldP v lo hi, S) := by
  unfold fX0_held heldP
  rw [Int32.le_iff_toInt_le] at h
  have e : (if lo < (if v < hi then v else hi) then (if v < hi then v else hi) else lo) = (if lo ≤ v then (if v ≤ hi then v else hi) else lo) := by
    simp only [Int32.lt_iff_toInt_lt, Int32.le_iff_toInt_le]
    by_cases h1 : v.toInt < hi.toInt
    · simp only [if_pos h1]
      by_cases h2 : lo.toInt < v.toInt
      · rw [if_pos h2, if_pos (by omega), if_pos (by omega)]
      · rw [if_neg h2]
        by_cases h3 : lo.toInt ≤ v.toInt
        · rw [if_pos h3, if_pos (by omega)]
          exact Int32.toInt_inj.mp (by omega)
        · rw [if_neg h3]
    · simp only [if_neg h1]
      by_cases h3 : lo.toInt ≤ v.toInt
      · rw [if_pos h3]
        by_cases h4 : v.toInt ≤ hi.toInt
        · rw [if_pos h4]
          by_cases h2 : lo.toInt < hi.toInt
          · rw [if_pos h2]; exact Int32.toInt_inj.mp (by omega)
          · rw [if_neg h2]; exact Int32.toInt_inj.mp (by omega)
        · rw [if_neg h4]
          by_cases h2 : lo.toInt < hi.toInt
          · rw [if_pos h2]
          · rw [if_neg h2]; exact Int32.toInt_inj.mp (by omega)
      · omega
  exact congrArg (fun z => some (z, S)) e
section XG
variable {u : XS} {b : Nat} {row : Nat → Int32} {hd tx : Nat → Option Nat}
theorem given_raw (h : XV u b row hd tx) {a use : Nat} (huse : use < 2) (htx : TZ1 u (b + 76) row a (tx use)) (hok : txOK row a) (x y z : Int32) : ∃ u', fX0_given b (I use) x y z u = bX0_given_52 b (I use) (rawG row a x y z) u' ∧ XV u' b row hd tx ∧ Fr (sc2 b) u u' := by
  have hq : aQ u (b + 9) 5 (I use) = some (tx use) := aQ_of h.2.2.2.1.2.2.2.2.2.2.1 huse (by decide)
  rcases htx with ⟨e, e0⟩ | ⟨t, s, v, L, f, g, e, l1, l2, l3, h1, h2, h3, hr, hL1, hL, hfg⟩
  · refine ⟨u, ?_, h, Fr.rfl'⟩
    unfold fX0_given
    rw [h.1.r2, bn1_s, h.2.2.2.1.r13, bn1_s, hq, bn1_s, e, nlc_n']
    unfold rawG
    rw [if_pos (by rw [e0]; decide)]
  · obtain ⟨hB, ⟨p, hp⟩, ⟨n, hn⟩, hH, hM, hT⟩ := id h
    let u1 := xset u (b + 2) (aeI 0 3 (upd n 0 x))
    let u2 := xset u1 (b + 2) (aeI 0 3 (upd (upd n 0 x) 1 y))
    let u3 := xset u2 (b + 2) (aeI 0 3 (upd (upd (upd n 0 x) 1 y) 2 z))
    have s1 : sI u (b + 2) 0 (0 : Int32) x = some u1 := sI_of (k := 0) hn (by decide) (by decide) x
    have a1 : u1.1 (b + 2) = some (aeI 0 3 (upd n 0 x)) := xset_at _ _ _
    have s2 : sI u1 (b + 2) 0 (1 : Int32) y = some u2 := sI_of (k := 1) a1 (by decide) (by decide) y
    have a2 : u2.1 (b + 2) = some (aeI 0 3 (upd (upd n 0 x) 1 y)) := xset_at _ _ _
    have s3 : sI u2 (b + 2) 0 (2 : Int32) z = some u3 := sI_of (k := 2) a2 (by decide) (by decide) z
    have a3 : u3.1 (b + 2) = some (aeI 0 3 (upd (upd (upd n 0 x) 1 y) 2 z)) := xset_at _ _ _
    have o1 : ∀ q, q ≠ b + 2 → u1.1 q = u.1 q := fun q hq => xset_ne u _ hq
    have o2 : ∀ q, q ≠ b + 2 → u2.1 q = u.1 q := fun q hq => (xset_ne u1 _ hq).trans (o1 q hq)
    have o3 : ∀ q, q ≠ b + 2 → u3.1 q = u.1 q := fun q hq => (xset_ne u2 _ hq).trans (o2 q hq)
    have B1 := hB.fr (o1 b (by omega))
    have B2 := hB.fr (o2 b (by omega))
    have B3 := hB.fr (o3 b (by omega))
    have H3 : HV u3 (b + 3) row hd tx := hH.fr (fun q c1 c2 => o3 q (by omega))
    have hq3 : aQ u3 (b + 9) 5 (I use) = some (tx use) := aQ_of H3.2.2.2.2.2.2.1 huse (by decide)
    have hw : wfR row a L = some 1 := by
      obtain ⟨L', hL', hr', hw'⟩ := hok
      rw [hr] at hr'
      have e : L = L' := (I_inj (by omega) (by omega)).mp hr'
      subst e
      exact hw'.resolve_left (by omega)
    have hfc : ∀ i, i < 3 → (upd (upd (upd n 0 x) 1 y) 2 z) i = fcP x y z i := by
      intro i hi
      have hc : i = 0 ∨ i = 1 ∨ i = 2 := by omega
      rcases hc with rfl | rfl | rfl <;> simp [upd, fcP]
    obtain ⟨u', p', w1, w2, w3⟩ := worked_loop (b := b) (t := t) (s := s) (v := v) (row := row) (fc := fcP x y z) (by omega) (by omega) (by omega) hr hL hw hfg L 0 (by omega) FU (by show L < 1000; omega) 0 u3 p B3 ((o3 _ (by omega)).trans hp) a3 ((o3 _ (by omega)).trans h1) ((o3 _ (by omega)).trans h2) ((o3 _ (by omega)).trans h3) hfc rfl trivial
    have F3 : Fr (sc2 b) u u3 := ⟨rfl, fun q hq => o3 q (fun e => hq (Or.inr e))⟩
    have F4 : Fr (sc2 b) u u' := F3.trans (w2.mono fun q hq => Or.inl hq)
    refine ⟨u', ?_, h.fr F4 (fun q hq => by rcases hq with rfl | rfl <;> omega) ⟨p', w3⟩ ⟨_, (w2.2 _ (by omega)).trans a3⟩, F4⟩
    unfold fX0_given
    have w1 : fX0_worked b t u3 = some (rawG row a x y z, u') := by
      unfold fX0_worked rawG
      rw [if_neg (by rw [hr, I_le0 (by omega)]; omega), hr, I_nat (by omega)]
      exact w1
    rw [hB.r2, bn1_s, hH.r13, bn1_s, hq, bn1_s, e, nlc_s', hB.r1, bn1_s, s1, bn1_s, B1.r1, bn1_s, s2, bn1_s, B2.r1, bn1_s, s3, bn1_s, B3.r2, bn1_s, H3.r13, bn1_s, hq3, bn1_s, e, bn1_s, chk_t B3.isP, w1, bnd_s]
theorem givX0 (h : XV u b row hd tx) (hI : INV row) (x y z : Int32) : ∃ u', fX0_given b 0 x y z u = some (givP row 0 x y z, u') ∧ XV u' b row hd tx ∧ Fr (sc2 b) u u' := by
  obtain ⟨u', h1, h2⟩ := given_raw h (use := 0) (by decide) h.2.2.2.2.2.1 hI.2.2.2.2.2.2.1 x y z
  refine ⟨u', h1.trans ?_, h2⟩
  unfold bX0_given_52 bX0_given_75
  rw [if_pos (by decide), held_x _ _ _ _ (by decide), bnd_s, givP, if_pos rfl]
theorem givX1 (h : XV u b row hd tx) (hI : INV row) (x y z : Int32) : ∃ u', fX0_given b 1 x y z u = some (givP row 1 x y z, u') ∧ XV u' b row hd tx ∧ Fr (sc2 b) u u' := by
  obtain ⟨u', h1, h2⟩ := given_raw h (use := 1) (by decide) h.2.2.2.2.2.2 hI.2.2.2.2.2.2.2.1 x y z
  refine ⟨u', h1.trans ?_, h2⟩
  unfold bX0_given_52 bX0_given_75
  rw [if_neg (by decide), held_x _ _ _ _ (by decide), bnd_s, givP, if_neg (by decide)]
theorem w_x (h : XV u b row hd tx) (hI : INV row) {k : Nat} (hk : k < nM row) : ∃ u', fX0_weightOf b (I k) u = some (wP row k, u') ∧ XV u' b row hd tx ∧ Fr (sc2 b) u u' := by
  have h8 := hI.1.2
  obtain ⟨u', h1, h2⟩ := givX0 h hI (wgtP row k) (tcP row k) (r8 row)
  refine ⟨u', ?_, h2⟩
  obtain ⟨m, a1, a2, a3, a4⟩ := at_x h.2.2.2.1 hI h.2.2.2.2.1 hk
  unfold fX0_weightOf
  rw [h.1.r2, bn1_s, chk_t h.2.2.2.1.isH, a1, bnd_s, h.1.r2, bn1_s, kw_x h.2.2.2.1 hI hk a4, bnd_s, h.1.r2, bn1_s, chk_t h.2.2.2.1.isH, touch_x h.2.2.2.1 hI (by omega), bnd_s, h.1.r2, bn1_s, h.2.2.2.1.i2, bn1_s, chk_t h.1.isP]
  have h1 : fX0_given b 0 (wgtP row k) (tcP row k) (row 0 - row 0 / 8 * 8) u = some (wP row k, u') := h1
  rw [h1, bnd_s]
theorem s_x (h : XV u b row hd tx) (hI : INV row) {k : Nat} (hk : k < nM row) : ∃ u', fX0_saidBy b (I k) u = some (sP row k, u') ∧ XV u' b row hd tx ∧ Fr (sc2 b) u u' := by
  have h8 := hI.1.2
  obtain ⟨u', h1, h2⟩ := givX1 h hI (redP row k) (row (8 + 6 * k + 4)) (r8 row)
  refine ⟨u', ?_, h2⟩
  obtain ⟨m, a1, a2, a3, a4⟩ := at_x h.2.2.2.1 hI h.2.2.2.2.1 hk
  unfold fX0_saidBy
  rw [h.1.r2, bn1_s, chk_t h.2.2.2.1.isH, a1, bnd_s, h.1.r2, bn1_s, kr_x h.2.2.2.1 hI hk a4, bnd_s, h.1.r2, bn1_s, h.2.2.2.1.r11, bn1_s, h.2.2.2.1.told (by omega), bn1_s, bn1_s, h.2.2.2.1.i2, bn1_s, chk_t h.1.isP]
  have h1 : fX0_given b 1 (redP row k) (row (8 + 6 * k + 4)) (row 0 - row 0 / 8 * 8) u = some (sP row k, u') := h1
  rw [h1, bnd_s]
end XG
