/-! ONE ROUND (PictureBlock) -/
theorem mabs (v : Int64) : (if (0 : Int64) < v then v else -v) = absL v := by
  unfold absL
  by_cases h : (0 : Int64) < v
  · rw [if_pos h, if_pos (by rw [Int64.lt_iff_toInt_lt] at h; rw [Int64.le_iff_toInt_le]; omega)]
  · rw [if_neg h]
    by_cases h2 : (0 : Int64) ≤ v
    · rw [if_pos h2]
      have e : v = 0 := by
        rw [Int64.lt_iff_toInt_lt] at h
        rw [Int64.le_iff_toInt_le] at h2
        exact Int64.toInt_inj.mp (by omega)
      rw [e]; rfl
    · rw [if_neg h2]
section XR
variable {u : XS} {b : Nat} {row : Nat → Int32} {hd tx : Nat → Option Nat} {im : Int32}
theorem ms_x (hI : INV row) (hD : xDone u b row hd tx im) {k : Nat} (hk : k < nM row) : fX0_missOf b (I k) u = some (msP row k, u) := by
  have h8 := hI.1.2
  have hP4 := hI.2.1.2.2
  obtain ⟨N, R, A, wt, sd, hX, hA, hws⟩ := hD
  obtain ⟨-, -, hf, ⟨t, htP, ht⟩, -, -⟩ := hI.2.2.1 k hk
  unfold fX0_missOf bX0_missOf_57 msP
  rw [hX.pb.r13, bn1_s, hX.getS (by omega), bn1_s, (hws k hk).2, hX.getB, bn1_s, hX.pb.r11, bn1_s, hX.pb.r2, bn1_s, hX.hv.r10, bn1_s, hX.hv.to (by omega), bn1_s, ht, hX.getA (by omega), bn1_s, hA t htP, bn1_s, hX.hv.r9, bn1_s, hX.hv.from (by omega), bn1_s, I_nat (by omega)]
  rcases hf with hf | ⟨a, haP, hf⟩
  · rw [hf, if_neg (by decide), if_neg (by decide)]
  · rw [hf, if_pos (I_ge0 (by omega)), if_pos (I_ge0 (by omega)), bn1_s, bn1_s, hX.hv.r9, bn1_s, hX.hv.from (by omega), bn1_s, hf, hX.getA (by omega), bn1_s, hA a haP, I_nat (by omega)]
theorem db_x (hI : INV row) (hD : xDone u b row hd tx im) {k : Nat} (hk : k < nM row) : fX0_doubtOf b (I k) u = some (dbP row k, u) := by
  have h8 := hI.1.2
  have e1 := ms_x hI hD hk
  obtain ⟨N, R, A, wt, sd, hX, hA, hws⟩ := hD
  unfold fX0_doubtOf dbP
  rw [hX.pb.r12, bn1_s, hX.getW (by omega), bn1_s, (hws k hk).1, chk_t hX.pb.isP, e1, bnd_s, mabs]
theorem md_xl (hI : INV row) (hD : xDone u b row hd tx im) : ∀ (j k : Nat), k + j = nM row → ∀ f, j < f → lX0_mostDoubted_4 f b (mdP row k) (I k) u = some (mdP row (nM row), u) := by
  have h8 := hI.1.2
  have hD2 := hD
  obtain ⟨N, R, A, wt, sd, hX, hA, hws⟩ := hD2
  intro j
  induction j with
  | zero =>
    intro k hk f hf
    obtain ⟨f, rfl⟩ : ∃ g, f = g + 1 := ⟨f - 1, by omega⟩
    have e : k = nM row := by omega
    show bX0_mostDoubted_4 (lX0_mostDoubted_4 f) _ _ _ _ = _
    unfold bX0_mostDoubted_4
    rw [hX.pb.r2, bn1_s, hX.hv.i0, bn1_s, if_pos (by rw [hI.1.1, I_le (by omega) (by omega)]; omega), e]
  | succ j ih =>
    intro k hk f hf
    obtain ⟨f, rfl⟩ : ∃ g, f = g + 1 := ⟨f - 1, by omega⟩
    show bX0_mostDoubted_4 (lX0_mostDoubted_4 f) _ _ _ _ = _
    unfold bX0_mostDoubted_4 bX0_mostDoubted_47 bX0_mostDoubted_49
    have h := ih (k + 1) (by omega) f (by omega)
    have step : mdP row (k + 1) = if row (8 + 6 * k + 5) = 1 ∧ (mdP row k < 0 ∨ ¬ lg_cmp (dbP row k) (dbP row (mdP row k).toNatClampNeg) ≤ 0) then I k else mdP row k := rfl
    rw [hX.pb.r2, bn1_s, hX.hv.i0, bn1_s, if_neg (by rw [hI.1.1, I_le (by omega) (by omega)]; omega), bn1_s, hX.hv.r12, bn1_s, hX.hv.on (by omega), bn1_s]
    by_cases hon : row (8 + 6 * k + 5) = 1
    · rw [if_pos hon]
      rcases mdP_or row k (by omega) with e | ⟨a, ha, e⟩
      · rw [if_pos e, nm_s, I_succ]
        rw [step, if_pos ⟨hon, Or.inl (by rw [e]; decide)⟩] at h
        exact h
      · rw [if_neg (by rw [e]; exact fun q => I_m1 (show a < 2 ^ 31 by omega) q.symm), chk_t hX.pb.isP, db_x hI hD (by omega), bnd_s, chk_t hX.pb.isP, e, db_x hI hD (by omega), bnd_s]
        rw [e, I_nat (by omega)] at step
        by_cases hc : lg_cmp (dbP row k) (dbP row a) ≤ 0
        · rw [if_pos hc, nm_s, I_succ]
          rw [step, if_neg (fun q => q.2.elim (I_nn (by omega)) (fun z => z hc))] at h
          exact h
        · rw [if_neg hc, nm_s, I_succ]
          rw [step, if_pos ⟨hon, Or.inr hc⟩] at h
          exact h
    · rw [if_neg hon, nm_s, I_succ]
      rw [step, if_neg (fun q => hon q.1)] at h
      exact h
theorem md_x (hI : INV row) (hD : xDone u b row hd tx im) : fX0_mostDoubted b u = some (mdP row (nM row), u) :=
  md_xl hI hD (nM row) 0 (by omega) FU (by have := hI.1.2; show nM row < 1000; omega)
end XR
/-! writing a house -/
def hoI (f : Nat) : Nat := if f = 0 then 2 else if f = 1 then 3 else if f = 2 then 0 else if f = 3 then 4 else if f = 4 then 5 else if f = 5 then 1 else f
theorem hoF_upd {f : Nat} (hf : f < 8) (row : Nat → Int32) (a : Nat) (v : Int32) : (hoF row a).set f (.int v) = hoF (upd row (hoI f) v) a := by
  have h : f = 0 ∨ f = 1 ∨ f = 2 ∨ f = 3 ∨ f = 4 ∨ f = 5 ∨ f = 6 ∨ f = 7 := by omega
  rcases h with rfl | rfl | rfl | rfl | rfl | rfl | rfl | rfl <;> rfl
theorem hoI_lt {f : Nat} (hf : f < 8) : hoI f < 8 := by
  have h : f = 0 ∨ f = 1 ∨ f = 2 ∨ f = 3 ∨ f = 4 ∨ f = 5 ∨ f = 6 ∨ f = 7 := by omega
  rcases h with rfl | rfl | rfl | rfl | rfl | rfl | rfl | rfl <;> decide
theorem col_lo {row : Nat → Int32} {i : Nat} (hi : i < 8) (v : Int32) (w : Nat) : col (upd row i v) w = col row w := by
  funext k
  unfold col
  split
  · rw [upd_ne _ _ (by omega)]
  · rfl
theorem tpF_o {row : Nat → Int32} {i : Nat} (hi : i < 56 ∨ 116 ≤ i) (v : Int32) : tpF (upd row i v) = tpF row := by
  funext k
  unfold tpF
  split
  · rw [upd_ne _ _ (by omega)]
  · rfl
theorem wtF_o {row : Nat → Int32} {i : Nat} (hi : i < 116 ∨ 140 ≤ i) (v : Int32) : wtF (upd row i v) = wtF row := by
  funext k
  unfold wtF
  split
  · rw [upd_ne _ _ (by omega)]
  · rfl
theorem hoF_hi {row : Nat → Int32} {i : Nat} (hi : 8 ≤ i) (v : Int32) (a : Nat) : hoF (upd row i v) a = hoF row a := by
  unfold hoF
  rw [upd_ne _ _ (by omega), upd_ne _ _ (by omega), upd_ne _ _ (by omega), upd_ne _ _ (by omega), upd_ne _ _ (by omega), upd_ne _ _ (by omega), upd_ne _ _ (by omega), upd_ne _ _ (by omega)]
def hous (a : Nat) : Nat → Prop := fun q => a ≤ q ∧ q ≤ a + 16
section HW
variable {u : XS} {a : Nat} {row : Nat → Int32} {hd tx : Nat → Option Nat}
theorem HV.setF (h : HV u a row hd tx) {f : Nat} (hf : f < 8) (v : Int32) : ∃ u', pF u a 1 f (.int v) = some u' ∧ HV u' a (upd row (hoI f) v) hd tx ∧ Fr (fun q => q = a) u u' := by
  refine ⟨_, pF_of h.1 (by show f < 16; omega), ?_, Fr.set _ rfl⟩
  have hl := hoI_lt hf
  obtain ⟨h0, h1, h2, h3, h4, h5, h6, h7, h8, h9⟩ := h
  rw [hoF_upd hf]
  refine ⟨xset_at _ _ _, (xset_ne u _ (by omega)).trans h1, ?_, ?_, ?_, ?_, (xset_ne u _ (by omega)).trans h6, ?_, ?_, fun k hk => (xset_ne u _ (by omega)).trans (h9 k hk)⟩
  · rw [col_lo hl]; exact (xset_ne u _ (by omega)).trans h2
  · rw [col_lo hl]; exact (xset_ne u _ (by omega)).trans h3
  · rw [col_lo hl]; exact (xset_ne u _ (by omega)).trans h4
  · rw [col_lo hl]; exact (xset_ne u _ (by omega)).trans h5
  · rw [tpF_o (by omega)]; exact (xset_ne u _ (by omega)).trans h7
  · rw [wtF_o (by omega)]; exact (xset_ne u _ (by omega)).trans h8
theorem col_ne {w w' : Nat} (hw : w < 6) (hw' : w' < 6) (hne : w ≠ w') {k : Nat} (v : Int32) : col (upd row (8 + 6 * k + w) v) w' = col row w' := by
  funext j
  unfold col
  split
  · rw [upd_ne _ _ (by omega)]
  · rfl
theorem col_eq {w : Nat} (hw : w < 6) {k : Nat} (hk : k < 8) (v : Int32) : col (upd row (8 + 6 * k + w) v) w = upd (col row w) k v := by
  funext j
  unfold col upd
  by_cases e : j = k
  · subst e; rw [if_pos hk, if_pos rfl, if_pos rfl]
  · rw [if_neg e]
    show (if j < 8 then (if 8 + 6 * j + w = 8 + 6 * k + w then v else row (8 + 6 * j + w)) else 0) = if j < 8 then row (8 + 6 * j + w) else 0
    split
    · rw [if_neg (by omega)]
    · rfl
theorem HV.setC (h : HV u a row hd tx) {w k : Nat} (hw : 2 ≤ w) (hw5 : w ≤ 5) (hk : k < 8) (v : Int32) : ∃ u', sI u (a + w) 0 (I k) v = some u' ∧ HV u' a (upd row (8 + 6 * k + w) v) hd tx ∧ Fr (fun q => q = a + w) u u' := by
  obtain ⟨h0, h1, h2, h3, h4, h5, h6, h7, h8, h9⟩ := h
  have hc : u.1 (a + w) = some (aeI 0 8 (col row w)) := by
    have h : w = 2 ∨ w = 3 ∨ w = 4 ∨ w = 5 := by omega
    rcases h with rfl | rfl | rfl | rfl
    · exact h2
    · exact h3
    · exact h4
    · exact h5
  refine ⟨_, sI_of hc hk (by decide) v, ?_, Fr.set _ rfl⟩
  have hs : (xset u (a + w) (aeI 0 8 (upd (col row w) k v))).1 (a + w) = some (aeI 0 8 (col (upd row (8 + 6 * k + w) v) w)) := by
    rw [col_eq (by omega) hk]; exact xset_at _ _ _
  have ho : ∀ w', w' ≠ w → w' < 6 → u.1 (a + w') = some (aeI 0 8 (col row w')) → (xset u (a + w) (aeI 0 8 (upd (col row w) k v))).1 (a + w') = some (aeI 0 8 (col (upd row (8 + 6 * k + w) v) w')) := by
    intro w' hne h6 e
    rw [col_ne (by omega) h6 (Ne.symm hne)]
    exact (xset_ne u _ (by omega)).trans e
  have hx : ∀ w', w' < 6 → u.1 (a + w') = some (aeI 0 8 (col row w')) → (xset u (a + w) (aeI 0 8 (upd (col row w) k v))).1 (a + w') = some (aeI 0 8 (col (upd row (8 + 6 * k + w) v) w')) := by
    intro w' h6 e
    by_cases c : w' = w
    · rw [c]; exact hs
    · exact ho w' c h6 e
  have en : nar 0 v = v := rfl
  rw [en]
  refine ⟨?_, (xset_ne u _ (by omega)).trans h1, hx 2 (by omega) h2, hx 3 (by omega) h3, hx 4 (by omega) h4, hx 5 (by omega) h5, (xset_ne u _ (by omega)).trans h6, ?_, ?_, fun k hk => (xset_ne u _ (by omega)).trans (h9 k hk)⟩
  · rw [hoF_hi (by omega)]; exact (xset_ne u _ (by omega)).trans h0
  · rw [tpF_o (by omega)]; exact (xset_ne u _ (by omega)).trans h7
  · rw [wtF_o (by omega)]; exact (xset_ne u _ (by omega)).trans h8
end HW
theorem MKv.row {u : XS} {lo : Nat} {row row' : Nat → Int32} {hd : Nat → Option Nat} (h : MKv u lo row hd) (h2 : row' 2 = row 2) (hr : ∀ k, k < nM row → row' (8 + 6 * k) = row (8 + 6 * k) ∧ row' (8 + 6 * k + 1) = row (8 + 6 * k + 1)) : MKv u lo row' hd := by
  intro k hk
  have e : nM row' = nM row := by unfold nM; rw [h2]
  rw [e] at hk
  obtain ⟨m, a1, a2, a3⟩ := h k hk
  refine ⟨m, a1, a2, ?_⟩
  unfold kdN
  rw [(hr k hk).1, (hr k hk).2]
  exact a3
theorem TZ1.row {u : XS} {lo a : Nat} {row row' : Nat → Int32} {ad : Option Nat} (h : TZ1 u lo row a ad) (hr : ∀ i, a ≤ i → i ≤ a + 120 → row' i = row i) : TZ1 u lo row' a ad := by
  rcases h with ⟨h1, h2⟩ | ⟨t, s, w, L, f, g, h1, h2, h3, h4, h5, h6, h7, h8, h9, h10, h11⟩
  · exact Or.inl ⟨h1, (hr a (by omega) (by omega)).trans h2⟩
  · refine Or.inr ⟨t, s, w, L, f, g, h1, h2, h3, h4, ?_, h6, h7, (hr a (by omega) (by omega)).trans h8, h9, h10, fun k hk => ?_⟩
    · rw [hr a (by omega) (by omega)]; exact h5
    · rw [hr _ (by omega) (by omega), hr _ (by omega) (by omega)]; exact h11 k hk
theorem TXv.row {u : XS} {lo : Nat} {row row' : Nat → Int32} {tx : Nat → Option Nat} (h : TXv u lo row tx) (hr : ∀ i, 140 ≤ i → row' i = row i) : TXv u lo row' tx := ⟨h.1.row (fun i a _ => hr i (by omega)), h.2.row (fun i a _ => hr i (by omega))⟩
/-! the house in its block -/
def XQ (u : XS) (b : Nat) (row : Nat → Int32) (hd tx : Nat → Option Nat) (im : Int32) : Prop := ∃ bel N R A wt sd, XSS u b row hd tx bel im N R A wt sd
section XQs
variable {u v : XS} {b : Nat} {row row' : Nat → Int32} {hd tx hd' tx' : Nat → Option Nat} {im : Int32}
theorem XQ.xv (h : XQ u b row hd tx im) : XV u b row hd tx := by
  obtain ⟨x1, x2, x3, x4, x5, x6, h⟩ := h; exact h.xv
theorem XQ.pb (h : XQ u b row hd tx im) : PB u b := h.xv.1
theorem XQ.hv (h : XQ u b row hd tx im) : HV u (b + 3) row hd tx := h.xv.2.2.2.1
theorem xDone.q (h : xDone u b row hd tx im) : XQ u b row hd tx im := by
  obtain ⟨N, R, A, wt, sd, h, -⟩ := h; exact ⟨_, N, R, A, wt, sd, h⟩
theorem XQ.house (h : XQ u b row hd tx im) (hf : Fr (fun q => b + 3 ≤ q ∧ q ≤ b + 19) u v) (hv : HV v (b + 3) row' hd' tx') (hm : MKv v (b + 76) row' hd') (ht : TXv v (b + 76) row' tx') : XQ v b row' hd' tx' im := by
  obtain ⟨bel, N, R, A, wt, sd, h⟩ := h
  have o : ∀ q, q < b + 3 ∨ b + 20 ≤ q → v.1 q = u.1 q := fun q hq => hf.2 q (fun k => by omega)
  obtain ⟨x1, ⟨p, x2⟩, ⟨p2, x3⟩, x4, x5, x6⟩ := h.xv
  obtain ⟨sg, w, hw⟩ := h.wv
  exact ⟨bel, N, R, A, wt, sd, ⟨x1.fr (o _ (by omega)), ⟨p, (o _ (by omega)).trans x2⟩, ⟨p2, (o _ (by omega)).trans x3⟩, hv, hm, ht⟩, (o _ (by omega)).trans h.ob, h.nv.fr (fun q c d => o q (by omega)), ⟨sg, w, hw.fr (fun q c => o q (by have := c.1; omega))⟩, (o _ (by omega)).trans h.rv, (o _ (by omega)).trans h.av, (o _ (by omega)).trans h.wv8, (o _ (by omega)).trans h.sv8⟩
/-- only the row changes, neither marks' objects nor texts -/
theorem XQ.hrow (h : XQ u b row hd tx im) (hf : Fr (fun q => b + 3 ≤ q ∧ q ≤ b + 19) u v) (hv : HV v (b + 3) row' hd tx) (h2 : row' 2 = row 2) (hr : ∀ k, k < nM row → row' (8 + 6 * k) = row (8 + 6 * k) ∧ row' (8 + 6 * k + 1) = row (8 + 6 * k + 1)) (ht : ∀ i, 140 ≤ i → row' i = row i) : XQ v b row' hd tx im := by
  have o : ∀ q, b + 76 ≤ q → v.1 q = u.1 q := fun q hq => hf.2 q (fun k => by omega)
  exact h.house hf hv ((h.xv.2.2.2.2.1.fr o).row h2 hr) ((h.xv.2.2.2.2.2.fr o).row ht)
theorem XQ.setF (h : XQ u b row hd tx im) {f : Nat} (hf : f < 8) (hf2 : f ≠ 0) (x : Int32) : ∃ u', pF u (b + 3) 1 f (.int x) = some u' ∧ XQ u' b (upd row (hoI f) x) hd tx im ∧ Fr (fun q => b + 3 ≤ q ∧ q ≤ b + 19) u u' := by
  obtain ⟨u', h1, h2, h3⟩ := h.hv.setF hf x
  have hl := hoI_lt hf
  have h20 : hoI f ≠ 2 := by
    unfold hoI
    rw [if_neg hf2]
    repeat' split
    all_goals omega
  have F := h3.mono (Q := fun q => b + 3 ≤ q ∧ q ≤ b + 19) (fun q e => by omega)
  exact ⟨u', h1, h.hrow F h2 (upd_ne _ _ (Ne.symm h20)) (fun k hk => ⟨upd_ne _ _ (by omega), upd_ne _ _ (by omega)⟩) (fun i hi => upd_ne _ _ (by omega)), F⟩
theorem XQ.setC (h : XQ u b row hd tx im) {w k : Nat} (hw : 2 ≤ w) (hw5 : w ≤ 5) (hk : k < 8) (x : Int32) : ∃ u', sI u (b + 3 + w) 0 (I k) x = some u' ∧ XQ u' b (upd row (8 + 6 * k + w) x) hd tx im ∧ Fr (fun q => b + 3 ≤ q ∧ q ≤ b + 19) u u' := by
  obtain ⟨u', h1, h2, h3⟩ := h.hv.setC hw hw5 hk x
  have F := h3.mono (Q := fun q => b + 3 ≤ q ∧ q ≤ b + 19) (fun q e => by omega)
  exact ⟨u', h1, h.hrow F h2 (upd_ne _ _ (by omega)) (fun k hk => ⟨upd_ne _ _ (by omega), upd_ne _ _ (by omega)⟩) (fun i hi => upd_ne _ _ (by omega)), F⟩
/-- what a round may change -/
def rnd (b : Nat) : Nat → Prop := fun q => scr b q ∨ (b + 3 ≤ q ∧ q ≤ b + 19)
theorem inc_x (h : XQ u b row hd tx im) : ∃ u', bX0_aRound_66 b u = some u' ∧ XQ u' b (incP row) hd tx im ∧ Fr (rnd b) u u' := by
  obtain ⟨u', h1, h2, h3⟩ := h.setF (f := 2) (by decide) (by decide) (row 0 + 1)
  refine ⟨u', ?_, h2, h3.mono (fun q hq => Or.inr hq)⟩
  unfold bX0_aRound_66
  rw [h.pb.r2, bn1_s, h.hv.i2, bn1_s, nm_s, h1, bn1_s]
theorem min9 {d : Nat} (h : d ≤ 9999) : (if I d + 1 < (9999 : Int32) then I d + 1 else (9999 : Int32)) = heldP (I d + 1) 0 9999 := by
  unfold heldP
  rw [I_succ]
  have e : (9999 : Int32) = I 9999 := rfl
  have e0 : (0 : Int32) = I 0 := rfl
  rw [e, e0, if_pos ((I_le (by omega) (by omega)).mpr (by omega))]
  by_cases c : d + 1 < 9999
  · rw [if_pos ((I_lt (by omega) (by omega)).mpr c), if_pos ((I_le (by omega) (by omega)).mpr (by omega))]
  · rw [if_neg (by rw [I_lt (by omega) (by omega)]; exact c)]
    by_cases c2 : d + 1 ≤ 9999
    · rw [if_pos ((I_le (by omega) (by omega)).mpr c2)]
      have e3 : d + 1 = 9999 := by omega
      rw [e3]
    · rw [if_neg (by rw [I_le (by omega) (by omega)]; exact c2)]
theorem round_xx (h : XQ u b row hd tx im) (hI : INV row) : ∃ u', fX0_aRound b u = some u' ∧ XQ u' b (goP row) hd tx im ∧ Fr (rnd b) u u' := by
  have h8 := hI.1.2
  unfold fX0_aRound goP
  by_cases hh : tdP row (onP row) = allP row
  · obtain ⟨bel, N, R, A, wt, sd, hX⟩ := h
    obtain ⟨u1, s1, D1, F1⟩ := solve_yes hX hI hh
    obtain ⟨w1, w2⟩ := wr_ok hI hh
    have F1 : Fr (rnd b) u u1 := F1.mono (fun q hq => Or.inl hq)
    have Q1 := D1.q
    have hbel : gL u1 b 0 14 = some (Int64.ofInt (DP row)) := by
      obtain ⟨N, R, A, wt, sd, hX, -⟩ := D1; exact hX.getB
    rw [if_pos hh, chk_t hX.pb.isP, s1, bnd_s, if_neg (by decide), chk_t Q1.pb.isP, md_x hI D1, bnd_s, chk_t Q1.pb.isP, w1, db_x hI D1 w2, bnd_s, Q1.pb.r2, bn1_s, Q1.hv.i3, bn1_s, hbel, bn1_s]
    by_cases hc : lg_cmp (dbP row (wrP row)) ((row 4).toInt64 * Int64.ofInt (DP row)) ≤ 0
    · rw [if_pos hc, if_pos hc]
      obtain ⟨u', i1, i2, i3⟩ := inc_x Q1
      exact ⟨u', i1, i2, F1.trans i3⟩
    · rw [if_neg hc, if_neg hc]
      obtain ⟨d, hd9, ed⟩ := hI.2.2.2.1
      obtain ⟨u2, t1, t2, t3⟩ := Q1.setC (w := 5) (k := wrP row) (by decide) (by decide) (by omega) 0
      have e5 : upd row (8 + 6 * wrP row + 5) 0 5 = I d := by rw [upd_ne _ _ (by omega)]; exact ed
      obtain ⟨u3, v1, v2, v3⟩ := t2.setF (f := 4) (by decide) (by decide) (heldP (I d + 1) 0 9999)
      obtain ⟨u', i1, i2, i3⟩ := inc_x v2
      refine ⟨u', ?_, ?_, F1.trans ((t3.mono (fun q hq => Or.inr hq)).trans ((v3.mono (fun q hq => Or.inr hq)).trans i3))⟩
      · have t1 : sI u1 (b + 3 + 5) 0 (I (wrP row)) 0 = some u2 := t1
        rw [bn1_s, Q1.hv.r12, bn1_s, t1, bn1_s, t2.pb.r2, bn1_s, bn1_s, t2.hv.i4, bn1_s, nm_s, e5, min9 hd9, v1, bn1_s, i1]
      · unfold dropP
        rw [ed]
        exact i2
  · obtain ⟨u', i1, i2, i3⟩ := inc_x h
    rw [if_neg hh, chk_t h.pb.isP, solve_no h.xv hI hh, bnd_s, if_pos rfl]
    exact ⟨u', i1, i2, i3⟩
end XQs
