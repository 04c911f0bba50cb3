/-! TEXTS in PictureBlock's heap; what changes -/
def Fr (P : Nat → Prop) (u v : XS) : Prop := v.2 = u.2 ∧ ∀ q, ¬ P q → v.1 q = u.1 q
theorem Fr.rfl' {P : Nat → Prop} {u : XS} : Fr P u u := ⟨rfl, fun _ _ => rfl⟩
theorem Fr.trans {P : Nat → Prop} {u v w : XS} (h : Fr P u v) (k : Fr P v w) : Fr P u w := ⟨k.1.trans h.1, fun q hq => (k.2 q hq).trans (h.2 q hq)⟩
theorem Fr.mono {P Q : Nat → Prop} {u v : XS} (h : Fr P u v) (hPQ : ∀ q, P q → Q q) : Fr Q u v := ⟨h.1, fun q hq => h.2 q (fun k => hq (hPQ q k))⟩
theorem Fr.set {P : Nat → Prop} {u : XS} {a : Nat} (x : AE) (ha : P a) : Fr P u (xset u a x) := ⟨rfl, fun q hq => xset_ne u x (fun e => hq (e ▸ ha))⟩
theorem HV.fr {u v : XS} {a : Nat} {row : Nat → Int32} {hd tx : Nat → Option Nat} (h : HV u a row hd tx) (hf : ∀ q, a ≤ q → q ≤ a + 16 → v.1 q = u.1 q) : HV v a row hd tx := by
  obtain ⟨h0, h1, h2, h3, h4, h5, h6, h7, h8, h9⟩ := h
  refine ⟨?_, ?_, ?_, ?_, ?_, ?_, ?_, ?_, ?_, fun k hk => ?_⟩
  · rw [hf _ (by omega) (by omega)]; exact h0
  · rw [hf _ (by omega) (by omega)]; exact h1
  · rw [hf _ (by omega) (by omega)]; exact h2
  · rw [hf _ (by omega) (by omega)]; exact h3
  · rw [hf _ (by omega) (by omega)]; exact h4
  · rw [hf _ (by omega) (by omega)]; exact h5
  · rw [hf _ (by omega) (by omega)]; exact h6
  · rw [hf _ (by omega) (by omega)]; exact h7
  · rw [hf _ (by omega) (by omega)]; exact h8
  · rw [hf _ (by omega) (by omega)]; exact h9 k hk
theorem MK1.fr {u v : XS} {lo k : Nat} {row : Nat → Int32} {ad : Option Nat} (h : MK1 u lo row k ad) (hf : ∀ q, lo ≤ q → v.1 q = u.1 q) : MK1 v lo row k ad := by
  obtain ⟨m, e, hl, hm⟩ := h
  exact ⟨m, e, hl, by rw [hf m hl]; exact hm⟩
theorem MKv.fr {u v : XS} {lo : Nat} {row : Nat → Int32} {hd : Nat → Option Nat} (h : MKv u lo row hd) (hf : ∀ q, lo ≤ q → v.1 q = u.1 q) : MKv v lo row hd := fun k hk => (h k hk).fr hf
/-- a text as it lies, of which ad is the address -/
def TZ1 (u : XS) (lo : Nat) (row : Nat → Int32) (a : Nat) (ad : Option Nat) : Prop :=
  (ad = none ∧ row a = I 0) ∨ ∃ t s v L f g, ad = some t ∧ lo ≤ t ∧ lo ≤ s ∧ lo ≤ v ∧ u.1 t = some (aeO 13 [.ref s, .ref v, .int (row a)]) ∧ u.1 s = some (aeI 1 60 f) ∧ u.1 v = some (aeI 2 60 g) ∧ row a = I L ∧ 1 ≤ L ∧ L ≤ 60 ∧ ∀ k, k < L → f k = row (a + 1 + k) ∧ g k = row (a + 61 + k)
theorem TZ1.fr {u v : XS} {lo a : Nat} {row : Nat → Int32} {ad : Option Nat} (h : TZ1 u lo row a ad) (hf : ∀ q, lo ≤ q → v.1 q = u.1 q) : TZ1 v lo row a ad := by
  rcases h with h | ⟨t, s, w, L, f, g, h1, h2, h3, h4, h5, h6, h7, h8⟩
  · exact Or.inl h
  · exact Or.inr ⟨t, s, w, L, f, g, h1, h2, h3, h4, by rw [hf t h2]; exact h5, by rw [hf s h3]; exact h6, by rw [hf w h4]; exact h7, h8⟩
def TXv (u : XS) (lo : Nat) (row : Nat → Int32) (tx : Nat → Option Nat) : Prop := TZ1 u lo row 140 (tx 0) ∧ TZ1 u lo row 261 (tx 1)
theorem TXv.fr {u v : XS} {lo : Nat} {row : Nat → Int32} {tx : Nat → Option Nat} (h : TXv u lo row tx) (hf : ∀ q, lo ≤ q → v.1 q = u.1 q) : TXv v lo row tx := ⟨h.1.fr hf, h.2.fr hf⟩
/-! PictureBlock itself -/
def pbF (b : Nat) (bel : Int64) (im : Int32) : List Value := [.ref (b + 1), .ref (b + 2), .ref (b + 3), .ref (b + 20), .ref (b + 37), .ref (b + 54), .ref (b + 56), .ref (b + 57), .ref (b + 62), .ref (b + 67), .ref (b + 72), .ref (b + 73), .ref (b + 74), .ref (b + 75), .long bel, .int im]
def PB (u : XS) (b : Nat) : Prop := ∃ bel im, u.1 b = some (aeO 0 (pbF b bel im))
section PBr
variable {u : XS} {b : Nat}
theorem PB.isP (h : PB u b) : isC u b 0 = true := by obtain ⟨x, y, h⟩ := h; exact isC_of h
theorem PB.r0 (h : PB u b) : gR u b 0 0 = some (b + 1) := by obtain ⟨x, y, h⟩ := h; exact gR_of h rfl
theorem PB.r1 (h : PB u b) : gR u b 0 1 = some (b + 2) := by obtain ⟨x, y, h⟩ := h; exact gR_of h rfl
theorem PB.r2 (h : PB u b) : gR u b 0 2 = some (b + 3) := by obtain ⟨x, y, h⟩ := h; exact gR_of h rfl
theorem PB.r3 (h : PB u b) : gR u b 0 3 = some (b + 20) := by obtain ⟨x, y, h⟩ := h; exact gR_of h rfl
theorem PB.r4 (h : PB u b) : gR u b 0 4 = some (b + 37) := by obtain ⟨x, y, h⟩ := h; exact gR_of h rfl
theorem PB.r5 (h : PB u b) : gR u b 0 5 = some (b + 54) := by obtain ⟨x, y, h⟩ := h; exact gR_of h rfl
theorem PB.r6 (h : PB u b) : gR u b 0 6 = some (b + 56) := by obtain ⟨x, y, h⟩ := h; exact gR_of h rfl
theorem PB.r7 (h : PB u b) : gR u b 0 7 = some (b + 57) := by obtain ⟨x, y, h⟩ := h; exact gR_of h rfl
theorem PB.r8 (h : PB u b) : gR u b 0 8 = some (b + 62) := by obtain ⟨x, y, h⟩ := h; exact gR_of h rfl
theorem PB.r9 (h : PB u b) : gR u b 0 9 = some (b + 67) := by obtain ⟨x, y, h⟩ := h; exact gR_of h rfl
theorem PB.r10 (h : PB u b) : gR u b 0 10 = some (b + 72) := by obtain ⟨x, y, h⟩ := h; exact gR_of h rfl
theorem PB.r11 (h : PB u b) : gR u b 0 11 = some (b + 73) := by obtain ⟨x, y, h⟩ := h; exact gR_of h rfl
theorem PB.r12 (h : PB u b) : gR u b 0 12 = some (b + 74) := by obtain ⟨x, y, h⟩ := h; exact gR_of h rfl
theorem PB.r13 (h : PB u b) : gR u b 0 13 = some (b + 75) := by obtain ⟨x, y, h⟩ := h; exact gR_of h rfl
theorem PB.fr {v : XS} (h : PB u b) (hf : v.1 b = u.1 b) : PB v b := by obtain ⟨x, y, h⟩ := h; exact ⟨x, y, hf.trans h⟩
end PBr
theorem both_x (s x y : Int32) (S : XS) : fX0_both s x y S = some (twoP s x y, S) := by
  unfold fX0_both twoP bX0_both_155 bX0_both_201 bX0_both_202 bX0_both_143 bX0_both_166 bX0_both_177 bX0_both_188 bX0_both_203 bX0_both_211 bX0_both_216
  by_cases c37 : s = 37
  · rw [if_pos c37, if_pos c37]
    by_cases hy : y = 0
    · rw [if_pos hy, if_pos hy]
    · rw [if_neg hy, if_neg hy, chk_t (ne0_t hy)]
  rw [if_neg c37, if_neg c37]
  by_cases c38 : s = 38
  · rw [if_pos c38, if_pos c38]
    by_cases hx : x = 0
    · rw [if_pos hx, if_pos hx]
    · rw [if_neg hx, if_neg hx]
      by_cases hy : y = 0
      · rw [if_pos hy, if_pos hy]
      · rw [if_neg hy, if_neg hy]
  rw [if_neg c38, if_neg c38]
  by_cases c42 : s = 42
  · rw [if_pos c42, if_pos c42]
  rw [if_neg c42, if_neg c42]
  by_cases c43 : s = 43
  · rw [if_pos c43, if_pos c43]
  rw [if_neg c43, if_neg c43]
  by_cases c45 : s = 45
  · rw [if_pos c45, if_pos c45]
  rw [if_neg c45, if_neg c45]
  by_cases c47 : s = 47
  · rw [if_pos c47, if_pos c47]
    by_cases hy : y = 0
    · rw [if_pos hy, if_pos hy]
    · rw [if_neg hy, if_neg hy, chk_t (ne0_t hy)]
  rw [if_neg c47, if_neg c47]
  by_cases c60 : s = 60
  · rw [if_pos c60, if_pos c60]
    by_cases hy : y ≤ x
    · rw [if_pos hy, if_pos hy]
    · rw [if_neg hy, if_neg hy]
  rw [if_neg c60, if_neg c60]
  by_cases c61 : s = 61
  · rw [if_pos c61, if_pos c61]
    by_cases hy : x = y
    · rw [if_pos hy, if_pos hy]
    · rw [if_neg hy, if_neg hy]
  rw [if_neg c61, if_neg c61]
  by_cases c62 : s = 62
  · rw [if_pos c62, if_pos c62]
    by_cases hy : x ≤ y
    · rw [if_pos hy, if_pos hy]
    · rw [if_neg hy, if_neg hy]
  rw [if_neg c62, if_neg c62]
  by_cases hx : x = 0
  · rw [if_pos hx, if_pos hx]
    by_cases hy : y = 0
    · rw [if_pos hy, if_pos hy]
    · rw [if_neg hy, if_neg hy]
  · rw [if_neg hx, if_neg hx]
theorem worked_loop {row fc : Nat → Int32} {a L b t s v : Nat} {f0 g0 nmd : Nat → Int32} (ht : b + 3 ≤ t) (hs : b + 3 ≤ s) (hv : b + 3 ≤ v) (hrow : row a = I L) (hL : L ≤ 60) (hwf : wfR row a L = some 1) (hfg : ∀ k, k < L → f0 k = row (a + 1 + k) ∧ g0 k = row (a + 61 + k)) : ∀ (j k : Nat), k + j = L → ∀ (f : Nat), j < f → ∀ (n : Nat) (u : XS) (p : Nat → Int32), PB u b → u.1 (b + 1) = some (aeI 0 60 p) → u.1 (b + 2) = some (aeI 0 3 nmd) → u.1 t = some (aeO 13 [.ref s, .ref v, .int (row a)]) → u.1 s = some (aeI 1 60 f0) → u.1 v = some (aeI 2 60 g0) → (∀ i, i < 3 → nmd i = fc i) → wfR row a k = some n → PL p (evR row a fc k) →
    ∃ u' p', lX0_worked_4 f b t (I n) (I k) u = some ((evR row a fc L).headD 0, u') ∧ Fr (fun q => q = b + 1) u u' ∧ u'.1 (b + 1) = some (aeI 0 60 p') := by
  intro j
  induction j with
  | zero =>
    intro k hk f hf n u p hB hp1 hn1 ht1 hs1 hv1 hfc hn hp
    obtain ⟨f, rfl⟩ : ∃ g, f = g + 1 := ⟨f - 1, by omega⟩
    have e : k = L := by omega
    subst e
    refine ⟨u, p, ?_, Fr.rfl', hp1⟩
    show bX0_worked_4 (lX0_worked_4 f) _ _ _ _ _ = _
    unfold bX0_worked_4
    have z0 : aI u (b + 1) 0 (0 : Int32) = some (p 0) := aI_of (k := 0) hp1 (by decide) (by decide)
    rw [gI_of (k := 2) ht1 rfl, bn1_s, hrow, if_pos ((I_le (by omega) (by omega)).mpr (Nat.le_refl _)), hB.r0, bn1_s, z0, bn1_s]
    have hl := evR_len (fc := fc) hwf
    rw [hwf] at hn
    cases hn
    match hst : evR row a fc k, hl with
    | [x], _ =>
      rw [hst] at hp
      simp only [List.headD_cons]
      exact congrArg (fun z => some (z, u)) hp.1
  | succ j ih =>
    intro k hk f hf n u p hB hp1 hn1 ht1 hs1 hv1 hfc hn hp
    obtain ⟨f, rfl⟩ : ∃ g, f = g + 1 := ⟨f - 1, by omega⟩
    obtain ⟨m, hm⟩ := wfR_pre hwf (k + 1) (by omega)
    have hm2 := hm
    unfold wfR at hm2
    rw [hn] at hm2
    have hn60 := wfR_le hn
    have hlen := evR_len (fc := fc) hn
    obtain ⟨ef, eg⟩ := hfg k (by omega)
    have hstep : ∀ (w : Nat) (x : Int32) (u1 : XS), u1 = xset u (b + 1) (aeI 0 60 (upd p w x)) → PL (upd p w x) (evR row a fc (k + 1)) → ∃ u' p', bX0_worked_133 (lX0_worked_4 f) b t (I m) (I k) u1 = some ((evR row a fc L).headD 0, u') ∧ Fr (fun q => q = b + 1) u u' ∧ u'.1 (b + 1) = some (aeI 0 60 p') := by
      intro w x u1 e1 hpl
      unfold bX0_worked_133
      rw [nm_s, I_succ]
      have o : ∀ q, q ≠ b + 1 → u1.1 q = u.1 q := fun q hq => by rw [e1]; exact xset_ne u _ hq
      obtain ⟨u', p', h1, h2, h3⟩ := ih (k + 1) (by omega) f (by omega) m u1 (upd p w x) (hB.fr (o b (by omega))) (by rw [e1]; exact xset_at _ _ _) ((o _ (by omega)).trans hn1) ((o _ (by omega)).trans ht1) ((o _ (by omega)).trans hs1) ((o _ (by omega)).trans hv1) hfc hm hpl
      refine ⟨u', p', h1, Fr.trans ?_ h2, h3⟩
      rw [e1]
      exact Fr.set _ rfl
    have gp : ∀ i, i < 60 → aI u (b + 1) 0 (I i) = some (p i) := fun i hi => aI_of hp1 hi (by decide)
    have sp : ∀ i x, i < 60 → sI u (b + 1) 0 (I i) x = some (xset u (b + 1) (aeI 0 60 (upd p i x))) := fun i x hi => sI_of hp1 hi (by decide) x
    show ∃ u' p', bX0_worked_4 (lX0_worked_4 f) _ _ _ _ _ = _ ∧ _
    unfold bX0_worked_4
    rw [gI_of (k := 2) ht1 rfl, bn1_s, hrow, if_neg (by rw [I_le (by omega) (by omega)]; omega), gR_of (k := 0) ht1 rfl, bn1_s, aI_of hs1 (show k < 60 by omega) (by decide), bn1_s, ef]
    have hev : evR row a fc (k + 1) = ev1 fc (row (a + 1 + k)) (row (a + 61 + k)) (evR row a fc k) := rfl
    simp only [bX0_worked_32, hB.r0, hB.r1, gR_of (k := 1) ht1 rfl, bn1_s, aI_of hv1 (show k < 60 by omega) (by decide), eg]
    by_cases h1 : row (a + 1 + k) = 1
    · simp only [if_pos h1, bX0_worked_63]
      simp only [wf1, if_pos h1, Option.some.injEq] at hm2
      rw [sp n _ (by omega), bn1_s, nm_s, I_succ, hm2]
      refine hstep n _ _ rfl ?_
      rw [hev]
      unfold ev1
      rw [if_pos h1]
      exact ⟨by rw [hlen]; exact upd_at _ _ _, PL_upd (by omega) hp⟩
    · by_cases h2 : row (a + 1 + k) = 2
      · simp only [if_neg h1, if_pos h2, bX0_worked_63]
        simp only [wf1, if_neg h1, if_pos h2] at hm2
        by_cases hw : inB (row (a + 61 + k)) 3 = true
        · rw [if_pos hw, Option.some.injEq] at hm2
          have hw2 : (row (a + 61 + k)).toNatClampNeg < 3 := by
            have h9 := inB_in hw
            unfold vp_in at h9
            omega
          have hw3 : aI u (b + 2) 0 (row (a + 61 + k)) = some (nmd (row (a + 61 + k)).toNatClampNeg) := by
            unfold aI
            rw [xArr_of hn1]
            exact if_pos hw
          rw [hw3, bn1_s, sp n _ (by omega), bn1_s, nm_s, I_succ, hm2]
          refine hstep n _ _ rfl ?_
          rw [hev]
          unfold ev1
          rw [if_neg h1, if_pos h2]
          rw [hfc _ hw2]
          exact ⟨by rw [hlen]; exact upd_at _ _ _, PL_upd (by omega) hp⟩
        · rw [if_neg hw] at hm2; cases hm2
      · by_cases h3 : row (a + 1 + k) = 3
        · simp only [if_neg h1, if_neg h2, if_pos h3, bX0_worked_99]
          simp only [wf1, if_neg h1, if_neg h2, if_pos h3] at hm2
          by_cases hn1 : 1 ≤ n
          · rw [if_pos hn1, Option.some.injEq] at hm2
            subst hm2
            rw [I_pred hn1, gp _ (by omega), bn1_s]
            match hst : evR row a fc k, hlen with
            | x :: r, hlen =>
              simp only [List.length_cons] at hlen
              rw [hst] at hp
              have e0 : n - 1 = r.length := by omega
              have hx : p (n - 1) = x := by rw [e0]; exact hp.1
              have hgoal : ∀ v, v = (if x = 0 then (1 : Int32) else 0) → PL (upd p (n - 1) v) (evR row a fc (k + 1)) := by
                intro v hv
                rw [hev, hst, ev1, if_neg h1, if_neg h2, if_pos h3, ← hv]
                exact ⟨by rw [e0]; exact upd_at _ _ _, PL_upd (by omega) hp.2⟩
              rw [hx]
              by_cases hx0 : x = 0
              · rw [if_pos hx0, sp _ _ (by omega), bn1_s]
                exact hstep (n - 1) 1 _ rfl (hgoal 1 (by rw [if_pos hx0]))
              · rw [if_neg hx0, sp _ _ (by omega), bn1_s]
                exact hstep (n - 1) 0 _ rfl (hgoal 0 (by rw [if_neg hx0]))
            | [], hlen => simp only [List.length_nil] at hlen; omega
          · rw [if_neg hn1] at hm2; cases hm2
        · simp only [if_neg h1, if_neg h2, if_neg h3]
          simp only [wf1, if_neg h1, if_neg h2, if_neg h3] at hm2
          by_cases hn2 : 2 ≤ n
          · rw [if_pos hn2, Option.some.injEq] at hm2
            subst hm2
            rw [nm_s, I_pred2 (by omega), I_pred (by omega), gp _ (by omega), bn1_s, gp _ (by omega), bn1_s, both_x, bnd_s, sp _ _ (by omega), bn1_s]
            match hst : evR row a fc k, hlen with
            | y :: x :: r, hlen =>
              simp only [List.length_cons] at hlen
              rw [hst] at hp
              have e0 : n - 1 = r.length + 1 := by omega
              have e1 : n - 1 - 1 = r.length := by omega
              have hy : p (n - 1) = y := by rw [e0]; exact hp.1
              have hx : p (n - 1 - 1) = x := by rw [e1]; exact hp.2.1
              rw [hx, hy]
              refine hstep (n - 1 - 1) _ _ rfl ?_
              rw [hev, hst, ev1, if_neg h1, if_neg h2, if_neg h3]
              exact ⟨by rw [e1]; exact upd_at _ _ _, PL_upd (by omega) hp.2.2⟩
            | [_], hlen => simp only [List.length_cons, List.length_nil] at hlen; omega
            | [], hlen => simp only [List.length_nil] at hlen; omega
          · rw [if_neg hn2] at hm2; cases hm2
