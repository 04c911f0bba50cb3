/-! isSolved (PictureBlock): the square and what is right of it -/
theorem heldP_b {v lo hi : Int32} (h : lo ≤ hi) : lo ≤ heldP v lo hi ∧ heldP v lo hi ≤ hi := by
  unfold heldP
  simp only [Int32.le_iff_toInt_le] at *
  split
  · split
    · exact ⟨by assumption, by assumption⟩
    · exact ⟨h, by omega⟩
  · exact ⟨by omega, h⟩
theorem wP_b (row : Nat → Int32) (k : Nat) : 1 ≤ (wP row k).toInt ∧ (wP row k).toInt ≤ 4 := by
  unfold wP givP
  rw [if_pos rfl]
  have h := heldP_b (v := rawG row 140 (wgtP row k) (tcP row k) (r8 row)) (lo := 1) (hi := 4) (by decide)
  simp only [Int32.le_iff_toInt_le] at h
  exact h
theorem sP_b (row : Nat → Int32) (k : Nat) : -30 ≤ (sP row k).toInt ∧ (sP row k).toInt ≤ 30 := by
  unfold sP givP
  rw [if_neg (by decide)]
  have h := heldP_b (v := rawG row 261 (redP row k) (row (8 + 6 * k + 4)) (r8 row)) (lo := -30) (hi := 30) (by decide)
  simp only [Int32.le_iff_toInt_le] at h
  exact h
theorem ws_prod (row : Nat → Int32) (k : Nat) : ((wP row k) * (sP row k)).toInt64 = Int64.ofInt ((wP row k).toInt * (sP row k).toInt) := by
  have h1 := wP_b row k
  have h2 := sP_b row k
  generalize wP row k = w at *
  generalize sP row k = s at *
  have hb : (w.toInt * s.toInt).natAbs ≤ 4 * 30 := by
    rw [Int.natAbs_mul]
    exact Nat.mul_le_mul (by omega) (by omega)
  have e : (w * s).toInt = w.toInt * s.toInt := by
    rw [Int32.toInt_mul]
    exact Int.bmod_eq_of_le (by omega) (by omega)
  rw [← Int64.ofInt_int32ToInt, e]
theorem vI_b (row : Nat → Int32) (k i : Nat) : (vI row k i).natAbs ≤ 1 := by
  unfold vI
  split <;> split <;> decide
theorem nrm_b (row : Nat → Int32) (i j : Nat) : ∀ k, (nrm row k i j).natAbs ≤ 4 * k := by
  intro k
  induction k with
  | zero => exact Nat.le_refl _
  | succ k ih =>
    unfold nrm
    split
    · have h1 := wP_b row k
      have h2 := ab_mul (show (wP row k).toInt.natAbs ≤ 4 by omega) (ab_mul (vI_b row k i) (vI_b row k j))
      have h3 := ab_add ih h2
      omega
    · have e : nrm row k i j + 0 = nrm row k i j := Int.add_zero _
      rw [e]; omega
theorem rgt_b (row : Nat → Int32) (i : Nat) : ∀ k, (rgt row k i).natAbs ≤ 120 * k := by
  intro k
  induction k with
  | zero => exact Nat.le_refl _
  | succ k ih =>
    unfold rgt
    split
    · have h1 := wP_b row k
      have h0 := sP_b row k
      have h2 := ab_mul (ab_mul (show (wP row k).toInt.natAbs ≤ 4 by omega) (show (sP row k).toInt.natAbs ≤ 30 by omega)) (vI_b row k i)
      have h3 := ab_add ih h2
      omega
    · have e : rgt row k i + 0 = rgt row k i := Int.add_zero _
      rw [e]; omega
theorem bdd_n {row : Nat → Int32} (h : nM row ≤ 8) : bdd 4 (nwI row) := by
  intro r c hr hc
  have h1 := nrm_b row r c (nM row)
  unfold Bq
  rw [if_neg (by omega)]
  show (nrm row (nM row) r c).natAbs ≤ 32
  omega
theorem bdd_r {row : Nat → Int32} (h : nM row ≤ 8) (p : Nat) : bdd p (rpl (nwI row) p (rtI row)) := by
  intro r c hr hc
  have h1 := nrm_b row r c (nM row)
  have h2 := rgt_b row r (nM row)
  unfold Bq rpl
  split
  · show (rgt row (nM row) r).natAbs ≤ 960
    omega
  · show (nrm row (nM row) r c).natAbs ≤ 32
    omega
/-! the scratch as it lies -/
theorem setM_app (M : Nat → Nat → Int64) (r c : Nat) (x : Int64) (i j : Nat) : setM M r c x i j = if i = r ∧ j = c then x else M i j := by
  unfold setM
  by_cases h1 : i = r
  · subst h1
    rw [if_pos rfl]
    by_cases h2 : j = c
    · subst h2; rw [updL_at, if_pos ⟨rfl, rfl⟩]
    · rw [updL_ne _ _ h2, if_neg (fun q => h2 q.2)]
  · rw [if_neg h1, if_neg (fun q => h1 q.1)]
def scr (b : Nat) : Nat → Prop := fun q => q = b ∨ q = b + 1 ∨ q = b + 2 ∨ (b + 62 ≤ q ∧ q ≤ b + 75)
def NV (u : XS) (b : Nat) (N : Nat → Nat → Int64) : Prop := u.1 (b + 62) = some (aeQ 6 4 (slF (b + 63) 4)) ∧ ∀ i, i < 4 → u.1 (b + 63 + i) = some (aeL 4 (N i))
def XSS (u : XS) (b : Nat) (row : Nat → Int32) (hd tx : Nat → Option Nat) (bel : Int64) (im : Int32) (N : Nat → Nat → Int64) (R A : Nat → Int64) (wt sd : Nat → Int32) : Prop :=
  XV u b row hd tx ∧ u.1 b = some (aeO 0 (pbF b bel im)) ∧ NV u b N ∧ (∃ sg w, WVs u b sg w) ∧ u.1 (b + 72) = some (aeL 4 R) ∧ u.1 (b + 73) = some (aeL 4 A) ∧ u.1 (b + 74) = some (aeI 0 8 wt) ∧ u.1 (b + 75) = some (aeI 0 8 sd)
section XSSp
variable {u : XS} {b : Nat} {row : Nat → Int32} {hd tx : Nat → Option Nat} {bel : Int64} {im : Int32} {N : Nat → Nat → Int64} {R A : Nat → Int64} {wt sd : Nat → Int32}
theorem XSS.xv (h : XSS u b row hd tx bel im N R A wt sd) : XV u b row hd tx := h.1
theorem XSS.ob (h : XSS u b row hd tx bel im N R A wt sd) : u.1 b = some (aeO 0 (pbF b bel im)) := h.2.1
theorem XSS.nv (h : XSS u b row hd tx bel im N R A wt sd) : NV u b N := h.2.2.1
theorem XSS.wv (h : XSS u b row hd tx bel im N R A wt sd) : ∃ sg w, WVs u b sg w := h.2.2.2.1
theorem XSS.rv (h : XSS u b row hd tx bel im N R A wt sd) : u.1 (b + 72) = some (aeL 4 R) := h.2.2.2.2.1
theorem XSS.av (h : XSS u b row hd tx bel im N R A wt sd) : u.1 (b + 73) = some (aeL 4 A) := h.2.2.2.2.2.1
theorem XSS.wv8 (h : XSS u b row hd tx bel im N R A wt sd) : u.1 (b + 74) = some (aeI 0 8 wt) := h.2.2.2.2.2.2.1
theorem XSS.sv8 (h : XSS u b row hd tx bel im N R A wt sd) : u.1 (b + 75) = some (aeI 0 8 sd) := h.2.2.2.2.2.2.2
end XSSp
theorem WVs.fr {u v : XS} {b : Nat} {sg : Nat → Nat} {M : Nat → Nat → Int64} (h : WVs u b sg M) (hf : ∀ q, wkS b q → v.1 q = u.1 q) : WVs v b sg M := by
  obtain ⟨h1, h2, ⟨pf, h3, h4⟩, h5⟩ := h
  refine ⟨h1, h2, ⟨pf, (hf _ ⟨by omega, by omega⟩).trans h3, h4⟩, fun i hi => (hf _ ⟨by omega, ?_⟩).trans (h5 i hi)⟩
  have := h1 i hi
  omega
theorem NV.fr {u v : XS} {b : Nat} {N : Nat → Nat → Int64} (h : NV u b N) (hf : ∀ q, b + 62 ≤ q → q ≤ b + 66 → v.1 q = u.1 q) : NV v b N := ⟨(hf _ (by omega) (by omega)).trans h.1, fun i hi => (hf _ (by omega) (by omega)).trans (h.2 i hi)⟩
theorem XV.set {u : XS} {b : Nat} {row : Nat → Int32} {hd tx : Nat → Option Nat} (h : XV u b row hd tx) {q : Nat} (h1 : b + 62 ≤ q) (h2 : q ≤ b + 75) (x : AE) : XV (xset u q x) b row hd tx := by
  obtain ⟨p, hp⟩ := h.2.1
  obtain ⟨p2, hp2⟩ := h.2.2.1
  refine h.fr (P := fun z => z = q) (Fr.set x rfl) (fun z hz => by omega) ⟨p, (xset_ne u x (by omega)).trans hp⟩ ⟨p2, (xset_ne u x (by omega)).trans hp2⟩
section XSSr
variable {u : XS} {b : Nat} {row : Nat → Int32} {hd tx : Nat → Option Nat} {bel : Int64} {im : Int32} {N : Nat → Nat → Int64} {R A : Nat → Int64} {wt sd : Nat → Int32}
theorem XSS.pb (h : XSS u b row hd tx bel im N R A wt sd) : PB u b := h.xv.1
theorem XSS.hv (h : XSS u b row hd tx bel im N R A wt sd) : HV u (b + 3) row hd tx := h.xv.2.2.2.1
theorem XSS.sc2 {v : XS} (h : XSS u b row hd tx bel im N R A wt sd) (hx : XV v b row hd tx) (hf : Fr (sc2 b) u v) : XSS v b row hd tx bel im N R A wt sd := by
  have o : ∀ q, q = b ∨ b + 62 ≤ q → v.1 q = u.1 q := fun q hq => hf.2 q (fun k => by rcases k with k | k <;> omega)
  obtain ⟨sg, w, hw⟩ := h.wv
  exact ⟨hx, (o _ (Or.inl rfl)).trans h.ob, h.nv.fr (fun q a c => o q (Or.inr a)), ⟨sg, w, hw.fr (fun q a => o q (Or.inr (by have := a.1; omega)))⟩, (o _ (by omega)).trans h.rv, (o _ (by omega)).trans h.av, (o _ (by omega)).trans h.wv8, (o _ (by omega)).trans h.sv8⟩
theorem XSS.work {v : XS} (h : XSS u b row hd tx bel im N R A wt sd) (hf : Fr (wkS b) u v) (hw : ∃ sg w, WVs v b sg w) : XSS v b row hd tx bel im N R A wt sd := by
  have o : ∀ q, q < b + 67 ∨ b + 72 ≤ q → v.1 q = u.1 q := fun q hq => hf.2 q (fun k => by have h1 := k.1; have h2 := k.2; omega)
  obtain ⟨p, hp⟩ := h.xv.2.1
  obtain ⟨p2, hp2⟩ := h.xv.2.2.1
  exact ⟨h.xv.fr hf (fun z hz => by have h1 := hz.1; have h2 := hz.2; omega) ⟨p, (o _ (by omega)).trans hp⟩ ⟨p2, (o _ (by omega)).trans hp2⟩, (o _ (by omega)).trans h.ob, h.nv.fr (fun q a c => o q (by omega)), hw, (o _ (by omega)).trans h.rv, (o _ (by omega)).trans h.av, (o _ (by omega)).trans h.wv8, (o _ (by omega)).trans h.sv8⟩
theorem XSS.rowN (h : XSS u b row hd tx bel im N R A wt sd) {i : Nat} (hi : i < 4) : aR u (b + 62) 6 (I i) = some (b + 63 + i) := aR_of h.nv.1 hi (by decide) (if_pos hi)
theorem XSS.getN (h : XSS u b row hd tx bel im N R A wt sd) {i j : Nat} (hi : i < 4) (hj : j < 4) : aL u (b + 63 + i) (I j) = some (N i j) := aL_of (h.nv.2 i hi) hj (by decide)
theorem XSS.getR (h : XSS u b row hd tx bel im N R A wt sd) {i : Nat} (hi : i < 4) : aL u (b + 72) (I i) = some (R i) := aL_of h.rv hi (by decide)
theorem XSS.getA (h : XSS u b row hd tx bel im N R A wt sd) {i : Nat} (hi : i < 4) : aL u (b + 73) (I i) = some (A i) := aL_of h.av hi (by decide)
theorem XSS.getW (h : XSS u b row hd tx bel im N R A wt sd) {i : Nat} (hi : i < 8) : aI u (b + 74) 0 (I i) = some (wt i) := aI_of h.wv8 hi (by decide)
theorem XSS.getS (h : XSS u b row hd tx bel im N R A wt sd) {i : Nat} (hi : i < 8) : aI u (b + 75) 0 (I i) = some (sd i) := aI_of h.sv8 hi (by decide)
theorem XSS.getB (h : XSS u b row hd tx bel im N R A wt sd) : gL u b 0 14 = some bel := gL_of h.ob rfl
theorem XSS.setN (h : XSS u b row hd tx bel im N R A wt sd) {i j : Nat} (hi : i < 4) (hj : j < 4) (x : Int64) : ∃ v, sL u (b + 63 + i) (I j) x = some v ∧ XSS v b row hd tx bel im (setM N i j x) R A wt sd ∧ Fr (scr b) u v := by
  refine ⟨_, sL_of (h.nv.2 i hi) hj (by decide) x, ?_, Fr.set _ (Or.inr (Or.inr (Or.inr ⟨by omega, by omega⟩)))⟩
  obtain ⟨sg, w, hw⟩ := h.wv
  refine ⟨h.xv.set (by omega) (by omega) _, (xset_ne u _ (by omega)).trans h.ob, ⟨(xset_ne u _ (by omega)).trans h.nv.1, fun k hk => ?_⟩, ⟨sg, w, hw.fr (fun q a => xset_ne u _ (by have := a.1; omega))⟩, (xset_ne u _ (by omega)).trans h.rv, (xset_ne u _ (by omega)).trans h.av, (xset_ne u _ (by omega)).trans h.wv8, (xset_ne u _ (by omega)).trans h.sv8⟩
  unfold setM
  by_cases e : k = i
  · subst e; rw [if_pos rfl]; exact xset_at _ _ _
  · rw [if_neg e]; exact (xset_ne u _ (by omega)).trans (h.nv.2 k hk)
theorem XSS.setR (h : XSS u b row hd tx bel im N R A wt sd) {j : Nat} (hj : j < 4) (x : Int64) : ∃ v, sL u (b + 72) (I j) x = some v ∧ XSS v b row hd tx bel im N (vp_updL R j x) A wt sd ∧ Fr (scr b) u v := by
  refine ⟨_, sL_of h.rv hj (by decide) x, ?_, Fr.set _ (Or.inr (Or.inr (Or.inr ⟨by omega, by omega⟩)))⟩
  obtain ⟨sg, w, hw⟩ := h.wv
  exact ⟨h.xv.set (by omega) (by omega) _, (xset_ne u _ (by omega)).trans h.ob, h.nv.fr (fun q a c => xset_ne u _ (by omega)), ⟨sg, w, hw.fr (fun q a => xset_ne u _ (by have h1 := a.1; have h2 := a.2; omega))⟩, xset_at _ _ _, (xset_ne u _ (by omega)).trans h.av, (xset_ne u _ (by omega)).trans h.wv8, (xset_ne u _ (by omega)).trans h.sv8⟩
theorem XSS.setA (h : XSS u b row hd tx bel im N R A wt sd) {j : Nat} (hj : j < 4) (x : Int64) : ∃ v, sL u (b + 73) (I j) x = some v ∧ XSS v b row hd tx bel im N R (vp_updL A j x) wt sd ∧ Fr (scr b) u v := by
  refine ⟨_, sL_of h.av hj (by decide) x, ?_, Fr.set _ (Or.inr (Or.inr (Or.inr ⟨by omega, by omega⟩)))⟩
  obtain ⟨sg, w, hw⟩ := h.wv
  exact ⟨h.xv.set (by omega) (by omega) _, (xset_ne u _ (by omega)).trans h.ob, h.nv.fr (fun q a c => xset_ne u _ (by omega)), ⟨sg, w, hw.fr (fun q a => xset_ne u _ (by have h1 := a.1; have h2 := a.2; omega))⟩, (xset_ne u _ (by omega)).trans h.rv, xset_at _ _ _, (xset_ne u _ (by omega)).trans h.wv8, (xset_ne u _ (by omega)).trans h.sv8⟩
theorem XSS.setW (h : XSS u b row hd tx bel im N R A wt sd) {j : Nat} (hj : j < 8) (x : Int32) : ∃ v, sI u (b + 74) 0 (I j) x = some v ∧ XSS v b row hd tx bel im N R A (upd wt j x) sd ∧ Fr (scr b) u v := by
  refine ⟨_, sI_of h.wv8 hj (by decide) x, ?_, Fr.set _ (Or.inr (Or.inr (Or.inr ⟨by omega, by omega⟩)))⟩
  obtain ⟨sg, w, hw⟩ := h.wv
  exact ⟨h.xv.set (by omega) (by omega) _, (xset_ne u _ (by omega)).trans h.ob, h.nv.fr (fun q a c => xset_ne u _ (by omega)), ⟨sg, w, hw.fr (fun q a => xset_ne u _ (by have h1 := a.1; have h2 := a.2; omega))⟩, (xset_ne u _ (by omega)).trans h.rv, (xset_ne u _ (by omega)).trans h.av, xset_at _ _ _, (xset_ne u _ (by omega)).trans h.sv8⟩
theorem XSS.setS (h : XSS u b row hd tx bel im N R A wt sd) {j : Nat} (hj : j < 8) (x : Int32) : ∃ v, sI u (b + 75) 0 (I j) x = some v ∧ XSS v b row hd tx bel im N R A wt (upd sd j x) ∧ Fr (scr b) u v := by
  refine ⟨_, sI_of h.sv8 hj (by decide) x, ?_, Fr.set _ (Or.inr (Or.inr (Or.inr ⟨by omega, by omega⟩)))⟩
  obtain ⟨sg, w, hw⟩ := h.wv
  exact ⟨h.xv.set (by omega) (by omega) _, (xset_ne u _ (by omega)).trans h.ob, h.nv.fr (fun q a c => xset_ne u _ (by omega)), ⟨sg, w, hw.fr (fun q a => xset_ne u _ (by have h1 := a.1; have h2 := a.2; omega))⟩, (xset_ne u _ (by omega)).trans h.rv, (xset_ne u _ (by omega)).trans h.av, (xset_ne u _ (by omega)).trans h.wv8, xset_at _ _ _⟩
theorem XSS.setB (h : XSS u b row hd tx bel im N R A wt sd) (x : Int64) : ∃ v, pF u b 0 14 (.long x) = some v ∧ XSS v b row hd tx x im N R A wt sd ∧ Fr (scr b) u v := by
  have e : (pbF b bel im).set 14 (.long x) = pbF b x im := rfl
  refine ⟨_, pF_of h.ob (by show 14 < 16; decide), ?_, Fr.set _ (Or.inl rfl)⟩
  rw [e]
  obtain ⟨sg, w, hw⟩ := h.wv
  obtain ⟨-, ⟨p, hp⟩, ⟨p2, hp2⟩, x4, x5, x6⟩ := h.xv
  exact ⟨⟨⟨x, im, xset_at _ _ _⟩, ⟨p, (xset_ne u _ (by omega)).trans hp⟩, ⟨p2, (xset_ne u _ (by omega)).trans hp2⟩, x4.fr (fun q a c => xset_ne u _ (by omega)), x5.fr (fun q a => xset_ne u _ (by omega)), x6.fr (fun q a => xset_ne u _ (by omega))⟩, xset_at _ _ _, h.nv.fr (fun q a c => xset_ne u _ (by omega)), ⟨sg, w, hw.fr (fun q a => xset_ne u _ (by have h1 := a.1; have h2 := a.2; omega))⟩, (xset_ne u _ (by omega)).trans h.rv, (xset_ne u _ (by omega)).trans h.av, (xset_ne u _ (by omega)).trans h.wv8, (xset_ne u _ (by omega)).trans h.sv8⟩
end XSSr
