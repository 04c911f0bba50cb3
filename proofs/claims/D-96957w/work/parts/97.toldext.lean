/-! what does not depend on what is told -/
theorem evR_ext {row row' : Nat → Int32} {a : Nat} (h : ∀ i, a ≤ i → row' i = row i) (fc : Nat → Int32) : ∀ k, evR row' a fc k = evR row a fc k := by
  intro k
  induction k with
  | zero => rfl
  | succ k ih =>
    unfold evR
    rw [ih, h _ (by omega), h _ (by omega)]
section TLD
variable {row : Nat → Int32} {m : Nat} {v : Int32}
theorem tl_ne (hm : m < 8) {i : Nat} (h : i ≠ 8 + 6 * m + 4) : upd row (8 + 6 * m + 4) v i = row i := upd_ne _ _ h
theorem nM_tl : nM (upd row (8 + 6 * m + 4) v) = nM row := by unfold nM; rw [upd_ne _ _ (by omega)]
theorem nP_tl : nP (upd row (8 + 6 * m + 4) v) = nP row := by unfold nP; rw [upd_ne _ _ (by omega)]
theorem tch_tl (k : Nat) : ∀ i, tchP (upd row (8 + 6 * m + 4) v) k i = tchP row k i := by
  intro i
  induction i with
  | zero => rfl
  | succ i ih =>
    unfold tchP
    rw [ih, upd_ne _ _ (by omega), upd_ne _ _ (by omega), upd_ne _ _ (by omega), upd_ne _ _ (by omega)]
theorem wP_tl (hm : m < 8) (k : Nat) : wP (upd row (8 + 6 * m + 4) v) k = wP row k := by
  have e0 : upd row (8 + 6 * m + 4) v 0 = row 0 := upd_ne _ _ (by omega)
  have ev := fun fc n => evR_ext (row := row) (row' := upd row (8 + 6 * m + 4) v) (a := 140) (fun i hi => upd_ne _ _ (by omega)) fc n
  have e140 : upd row (8 + 6 * m + 4) v 140 = row 140 := upd_ne _ _ (by omega)
  have et : tcP (upd row (8 + 6 * m + 4) v) k = tcP row k := by unfold tcP; rw [nM_tl, tch_tl]
  have ew : wgtP (upd row (8 + 6 * m + 4) v) k = wgtP row k := by
    unfold wgtP
    rw [et, e0, upd_ne _ _ (by omega), upd_ne _ _ (by omega)]
  have er : r8 (upd row (8 + 6 * m + 4) v) = r8 row := by unfold r8; rw [e0]
  unfold wP givP
  rw [if_pos rfl, if_pos rfl, ew, et, er]
  unfold rawG
  rw [e140, ev]
theorem vI_tl (k i : Nat) : vI (upd row (8 + 6 * m + 4) v) k i = vI row k i := by
  unfold vI
  rw [upd_ne _ _ (by omega), upd_ne _ _ (by omega)]
theorem nrm_tl (hm : m < 8) (i j : Nat) : ∀ k, nrm (upd row (8 + 6 * m + 4) v) k i j = nrm row k i j := by
  intro k
  induction k with
  | zero => rfl
  | succ k ih =>
    unfold nrm
    rw [ih, upd_ne _ _ (by omega), wP_tl hm, vI_tl, vI_tl]
theorem DP_tl (hm : m < 8) : DP (upd row (8 + 6 * m + 4) v) = DP row := by
  unfold DP
  rw [nP_tl]
  have e : nwI (upd row (8 + 6 * m + 4) v) = nwI row := by
    funext i j
    unfold nwI
    rw [nM_tl, nrm_tl hm]
  rw [e]
theorem us_tl : ∀ k, usP (upd row (8 + 6 * m + 4) v) k = usP row k := by
  intro k
  induction k with
  | zero => rfl
  | succ k ih =>
    unfold usP
    rw [ih, upd_ne _ _ (by omega)]
theorem tieR_tl (set is : Int32) : ∀ k, tieR (upd row (8 + 6 * m + 4) v) set is k = tieR row set is k := by
  intro k
  induction k with
  | zero => rfl
  | succ k ih =>
    unfold tieR
    rw [ih, upd_ne _ _ (by omega), upd_ne _ _ (by omega)]
theorem tieP_tl (set : Int32) : ∀ q, tieP (upd row (8 + 6 * m + 4) v) set q = tieP row set q := by
  intro q
  induction q with
  | zero => rfl
  | succ q ih =>
    unfold tieP
    rw [ih, nM_tl, tieR_tl]
theorem held_tl : heldQ (upd row (8 + 6 * m + 4) v) ↔ heldQ row := by
  unfold heldQ tdP onP allP
  rw [tieP_tl, nM_tl, us_tl, upd_ne _ _ (by omega)]
end TLD
theorem cmp_J {a c : Nat} (ha : a < 2 ^ 63) (hc : c < 2 ^ 63) : 0 ≤ lg_cmp (J a) (J c) ↔ c ≤ a := by
  unfold lg_cmp
  by_cases h : J a > J c
  · rw [if_pos h]
    have h' : J c < J a := h
    rw [Int64.lt_iff_toInt_lt, J_int ha, J_int hc] at h'
    exact ⟨fun _ => by omega, fun _ => by decide⟩
  · rw [if_neg h]
    have h' : ¬ J c < J a := h
    rw [Int64.lt_iff_toInt_lt, J_int ha, J_int hc] at h'
    by_cases e : J a = J c
    · rw [if_pos e]
      rw [← Int64.toInt_inj, J_int ha, J_int hc] at e
      exact ⟨fun _ => by omega, fun _ => by decide⟩
    · rw [if_neg e]
      rw [← Int64.toInt_inj, J_int ha, J_int hc] at e
      exact ⟨fun q => absurd q (by decide), fun q => by omega⟩
