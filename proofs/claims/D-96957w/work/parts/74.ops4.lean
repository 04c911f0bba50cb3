/-! more of a house's writing; tell, check, loose, pictures, as, untell -/
section HW2
variable {u : XS} {a : Nat} {row : Nat → Int32} {hd tx : Nat → Option Nat}
theorem col_hi {i : Nat} (hi : 56 ≤ i) (v : Int32) {w : Nat} (hw : w < 6) : col (upd row i v) w = col row w := by
  funext k
  unfold col
  split
  · rw [upd_ne _ _ (by omega)]
  · rfl
theorem wtF_at {k : Nat} (hk : k < 24) (v : Int32) : wtF (upd row (116 + k) v) = upd (wtF row) k v := by
  funext j
  show (if j < 24 then upd row (116 + k) v (116 + j) else 0) = if j = k then v else if j < 24 then row (116 + j) else 0
  by_cases e : j = k
  · subst e; rw [if_pos hk, if_pos rfl, upd_at]
  · rw [if_neg e]
    split
    · rw [upd_ne _ _ (by omega)]
    · rfl
theorem tpF_at {k : Nat} (hk : k < 60) (v : Int32) : tpF (upd row (56 + k) v) = upd (tpF row) k v.toInt8.toInt32 := by
  funext j
  show (if j < 60 then (upd row (56 + k) v (56 + j)).toInt8.toInt32 else 0) = if j = k then v.toInt8.toInt32 else if j < 60 then (row (56 + j)).toInt8.toInt32 else 0
  by_cases e : j = k
  · subst e; rw [if_pos hk, if_pos rfl, upd_at]
  · rw [if_neg e]
    split
    · rw [upd_ne _ _ (by omega)]
    · rfl
theorem HV.setW (h : HV u a row hd tx) {k : Nat} (hk : k < 24) (v : Int32) : ∃ u', sI u (a + 8) 0 (I k) v = some u' ∧ HV u' a (upd row (116 + k) v) hd tx ∧ Fr (fun q => q = a + 8) u u' := by
  obtain ⟨h0, h1, h2, h3, h4, h5, h6, h7, h8, h9⟩ := h
  refine ⟨_, sI_of h8 hk (by decide) v, ?_, Fr.set _ rfl⟩
  have en : nar 0 v = v := rfl
  rw [en]
  refine ⟨?_, (xset_ne u _ (by omega)).trans h1, ?_, ?_, ?_, ?_, (xset_ne u _ (by omega)).trans h6, ?_, ?_, fun k hk => (xset_ne u _ (by omega)).trans (h9 k hk)⟩
  · rw [hoF_hi (by omega)]; exact (xset_ne u _ (by omega)).trans h0
  · rw [col_hi (by omega) _ (by decide)]; exact (xset_ne u _ (by omega)).trans h2
  · rw [col_hi (by omega) _ (by decide)]; exact (xset_ne u _ (by omega)).trans h3
  · rw [col_hi (by omega) _ (by decide)]; exact (xset_ne u _ (by omega)).trans h4
  · rw [col_hi (by omega) _ (by decide)]; exact (xset_ne u _ (by omega)).trans h5
  · rw [tpF_o (by omega)]; exact (xset_ne u _ (by omega)).trans h7
  · rw [wtF_at hk]; exact xset_at _ _ _
theorem HV.setT (h : HV u a row hd tx) {k : Nat} (hk : k < 60) {v x : Int32} (hv : v.toInt8.toInt32 = nar 1 x) : ∃ u', sI u (a + 7) 1 (I k) x = some u' ∧ HV u' a (upd row (56 + k) v) hd tx ∧ Fr (fun q => q = a + 7) u u' := by
  obtain ⟨h0, h1, h2, h3, h4, h5, h6, h7, h8, h9⟩ := h
  refine ⟨_, sI_of h7 hk (by decide) x, ?_, Fr.set _ rfl⟩
  refine ⟨?_, (xset_ne u _ (by omega)).trans h1, ?_, ?_, ?_, ?_, (xset_ne u _ (by omega)).trans h6, ?_, ?_, fun k hk => (xset_ne u _ (by omega)).trans (h9 k hk)⟩
  · rw [hoF_hi (by omega)]; exact (xset_ne u _ (by omega)).trans h0
  · rw [col_hi (by omega) _ (by decide)]; exact (xset_ne u _ (by omega)).trans h2
  · rw [col_hi (by omega) _ (by decide)]; exact (xset_ne u _ (by omega)).trans h3
  · rw [col_hi (by omega) _ (by decide)]; exact (xset_ne u _ (by omega)).trans h4
  · rw [col_hi (by omega) _ (by decide)]; exact (xset_ne u _ (by omega)).trans h5
  · rw [tpF_at hk, hv]; exact xset_at _ _ _
  · rw [wtF_o (by omega)]; exact (xset_ne u _ (by omega)).trans h8
theorem HV.setX (h : HV u a row hd tx) {k : Nat} (hk : k < 2) (ad : Option Nat) : ∃ u', sQ u (a + 6) 5 (I k) ad = some u' ∧ HV u' a row hd (va_up tx k ad) ∧ Fr (fun q => q = a + 6) u u' := by
  obtain ⟨h0, h1, h2, h3, h4, h5, h6, h7, h8, h9⟩ := h
  refine ⟨_, sQ_of h6 hk (by decide) ad, ?_, Fr.set _ rfl⟩
  exact ⟨(xset_ne u _ (by omega)).trans h0, (xset_ne u _ (by omega)).trans h1, (xset_ne u _ (by omega)).trans h2, (xset_ne u _ (by omega)).trans h3, (xset_ne u _ (by omega)).trans h4, (xset_ne u _ (by omega)).trans h5, xset_at _ _ _, (xset_ne u _ (by omega)).trans h7, (xset_ne u _ (by omega)).trans h8, fun k hk => (xset_ne u _ (by omega)).trans (h9 k hk)⟩
theorem HV.setS (h : HV u a row hd tx) {k : Nat} (hk : k < 8) (ad : Option Nat) : ∃ u', pF u (a + 9 + k) 2 0 (va_rf ad) = some u' ∧ HV u' a row (va_up hd k ad) tx ∧ Fr (fun q => q = a + 9 + k) u u' := by
  obtain ⟨h0, h1, h2, h3, h4, h5, h6, h7, h8, h9⟩ := h
  refine ⟨_, pF_of (h9 k hk) (by show 0 < 1; decide), ?_, Fr.set _ rfl⟩
  refine ⟨(xset_ne u _ (by omega)).trans h0, (xset_ne u _ (by omega)).trans h1, (xset_ne u _ (by omega)).trans h2, (xset_ne u _ (by omega)).trans h3, (xset_ne u _ (by omega)).trans h4, (xset_ne u _ (by omega)).trans h5, (xset_ne u _ (by omega)).trans h6, (xset_ne u _ (by omega)).trans h7, (xset_ne u _ (by omega)).trans h8, fun j hj => ?_⟩
  by_cases e : j = k
  · subst e; rw [va_up_self]; exact xset_at _ _ _
  · rw [va_up_ne _ _ e]; exact (xset_ne u _ (by omega)).trans (h9 j hj)
theorem HV.wait (h : HV u a row hd tx) {k : Nat} (hk : k < 24) : aI u (a + 8) 0 (I k) = some (row (116 + k)) := by
  rw [aI_of h.2.2.2.2.2.2.2.2.1 hk (by decide)]
  exact congrArg some (if_pos hk)
end HW2
section XQ2
variable {u : XS} {b : Nat} {row : Nat → Int32} {hd tx : Nat → Option Nat} {im : Int32}
theorem XQ.setW (h : XQ u b row hd tx im) (h8 : nM row ≤ 8) {k : Nat} (hk : k < 24) (x : Int32) : ∃ u', sI u (b + 3 + 8) 0 (I k) x = some u' ∧ XQ u' b (upd row (116 + k) x) hd tx im ∧ Fr (fun q => b + 3 ≤ q ∧ q ≤ b + 19) u u' := by
  obtain ⟨u', h1, h2, h3⟩ := h.hv.setW hk x
  have F := h3.mono (Q := fun q => b + 3 ≤ q ∧ q ≤ b + 19) (fun q e => by omega)
  exact ⟨u', h1, h.hrow F h2 (upd_ne _ _ (by omega)) (fun k hk => ⟨upd_ne _ _ (by omega), upd_ne _ _ (by omega)⟩) (fun i hi => upd_ne _ _ (by omega)), F⟩
theorem XQ.setT (h : XQ u b row hd tx im) (h8 : nM row ≤ 8) {k : Nat} (hk : k < 60) {v x : Int32} (hv : v.toInt8.toInt32 = nar 1 x) : ∃ u', sI u (b + 3 + 7) 1 (I k) x = some u' ∧ XQ u' b (upd row (56 + k) v) hd tx im ∧ Fr (fun q => b + 3 ≤ q ∧ q ≤ b + 19) u u' := by
  obtain ⟨u', h1, h2, h3⟩ := h.hv.setT hk hv
  have F := h3.mono (Q := fun q => b + 3 ≤ q ∧ q ≤ b + 19) (fun q e => by omega)
  exact ⟨u', h1, h.hrow F h2 (upd_ne _ _ (by omega)) (fun k hk => ⟨upd_ne _ _ (by omega), upd_ne _ _ (by omega)⟩) (fun i hi => upd_ne _ _ (by omega)), F⟩
end XQ2
section OPS4
variable {b : Nat} {u : XS} {S : MS}
theorem ok_w {k : Nat} (hk : k < 24) (v : Int32) : okU (116 + k) v := Or.inr (Or.inr (Or.inr (Or.inr (Or.inr (Or.inr (Or.inr (Or.inr (Or.inr (Or.inr (Or.inr ⟨by omega, by omega⟩))))))))))
theorem ok_7 {w : Nat} (hw : w ≤ 24) : okU 7 (I w) := Or.inr (Or.inr (Or.inr (Or.inr (Or.inr (Or.inl ⟨rfl, w, hw, rfl⟩)))))
theorem op_tell (h : RL b u S) (x : Int32) : OpR b (fX0_tell b x u) (fX4_tell x S) := by
  have h' := h
  obtain ⟨hd, tx, hX, hI, hO⟩ := h'
  obtain ⟨w, hw, ew⟩ := hI.2.2.2.2.2.1
  have h8 := hI.1.2
  have e7 : mIA S 0 ((7 : Int32)).toNatClampNeg = I w := ew
  have e24 : (24 : Int32) = I 24 := rfl
  unfold fX0_tell fX4_tell
  rw [hX.pb.r2, bn1_s, hX.hv.i7, bn1_s, e7, ew, e24]
  by_cases c : I w = I 24
  · rw [if_pos c, if_pos c]
    obtain ⟨u', S', e1, e2, e3⟩ := err4 h
    exact ⟨_, u', S', by rw [chk_t h.pb.isP, e1, bnd_s], by rw [e2, bnd_s], e3⟩
  · rw [if_neg c, if_neg c]
    rw [I_inj (by omega) (by omega)] at c
    obtain ⟨u1, a1, a2, a3⟩ := hX.setW h8 (k := w) (by omega) x
    obtain ⟨u2, b1, b2, b3⟩ := a2.setF (f := 7) (by decide) (by decide) (I w + 1)
    have b2 : XQ u2 b (upd (upd (mIA S 0) (116 + w) x) 7 (I w + 1)) hd tx (mIF S 3) := b2
    have e116 : (116 : Int32) + I w = I (116 + w) := I_add 116 w
    have n7 : upd (mIA S 0) (116 + w) x 7 = I w := by rw [upd_ne _ _ (by omega)]; exact ew
    refine ⟨I w + 1, u2, sIA (sIA S 0 (upd (mIA S 0) (116 + w) x)) 0 (upd (upd (mIA S 0) (116 + w) x) 7 (I w + 1)), ?_, ?_, RL.row' hO (a3.trans b3) (fun q => hse_oth) ((mKeep.r _).trans (mKeep.r _)) (by rw [mIA_IA, if_pos rfl]) b2 ?_⟩
    · have a1 : sI u (b + 3 + 8) 0 (I w) x = some u1 := a1
      rw [bn1_s, hX.hv.r15, bn1_s, bn1_s, hX.hv.i7, bn1_s, ew, a1, bn1_s, a2.pb.r2, bn1_s, a2.hv.i7, bn1_s, n7, nm_s, b1, bn1_s, b2.pb.r2, bn1_s, b2.hv.i7, bn1_s, upd_at]
    · rw [e116, chk_t (inB_I (by omega) (by decide)), I_nat (by omega), nm_s, nm_s]
      have z7 : ((7 : Int32)).toNatClampNeg = 7 := rfl
      have m0 : mIA (sIA S 0 (upd (mIA S 0) (116 + w) x)) 0 = upd (mIA S 0) (116 + w) x := by rw [mIA_IA, if_pos rfl]
      rw [z7, mIA_IA, if_pos rfl, m0, n7, upd_at]
    · rw [I_succ]
      exact (hI.upd (ok_w (by omega) x)).upd (ok_7 (by omega))
theorem op_check (h : RL b u S) : OpR b (fX0_check b u) (fX4_check S) := by
  obtain ⟨hd, tx, hX, hI, hO⟩ := h
  obtain ⟨w, hw, ew⟩ := hI.2.2.2.2.2.1
  have e7 : mIA S 0 ((7 : Int32)).toNatClampNeg = I w := ew
  have z7 : ((7 : Int32)).toNatClampNeg = 7 := rfl
  obtain ⟨u1, b1, b2, b3⟩ := hX.setF (f := 7) (by decide) (by decide) 0
  have b2 : XQ u1 b (upd (mIA S 0) 7 0) hd tx (mIF S 3) := b2
  have hI1 : INV (upd (mIA S 0) 7 0) := hI.upd (ok_7 (w := 0) (by decide))
  have R1 : RL b u1 (sIA S 0 (upd (mIA S 0) 7 0)) := RL.row' hO b3 (fun q => hse_oth) (mKeep.r _) (by rw [mIA_IA, if_pos rfl]) b2 hI1
  unfold fX0_check fX4_check
  rw [hX.pb.r2, bn1_s, hX.hv.i7, bn1_s, ew, bn1_s, b1, bn1_s, e7, nm_s, nm_s, z7]
  have key : ∀ (j k : Nat), k + j = w → ∀ f, j < f → ∀ (u : XS) (S : MS), RL b u S → OpR b (lX0_check_18 f b (I w) (I k) u) (lX4_check_18 f (I w) (I k) S) := by
    intro j
    induction j with
    | zero =>
      intro k hk f hf u S h
      obtain ⟨f, rfl⟩ : ∃ g, f = g + 1 := ⟨f - 1, by omega⟩
      refine ⟨0, u, S, ?_, ?_, h⟩
      · show bX0_check_18 (lX0_check_18 f) _ _ _ _ = _
        unfold bX0_check_18 bX0_check_54 bX0_check_66
        rw [if_pos (by rw [I_le (by omega) (by omega)]; omega), if_pos (by rw [I_inj (by omega) (by omega)]; omega)]
      · show bX4_check_18 (lX4_check_18 f) _ _ _ = _
        unfold bX4_check_18
        rw [if_pos (by rw [I_le (by omega) (by omega)]; omega)]
    | succ j ih =>
      intro k hk f hf u S h
      obtain ⟨f, rfl⟩ : ∃ g, f = g + 1 := ⟨f - 1, by omega⟩
      have h' := h
      obtain ⟨hd, tx, hX, hI, hO⟩ := h'
      have h8 := hI.1.2
      have eX : lX0_check_18 (f + 1) b (I w) (I k) u = bX0_check_18 (lX0_check_18 f) b (I w) (I k) u := rfl
      have eM : lX4_check_18 (f + 1) (I w) (I k) S = bX4_check_18 (lX4_check_18 f) (I w) (I k) S := rfl
      rw [eX, eM]
      unfold bX0_check_18 bX4_check_18 bX0_check_54 bX0_check_66 bX4_check_48
      rw [if_neg (by rw [I_le (by omega) (by omega)]; omega), if_neg (by rw [I_le (by omega) (by omega)]; omega), chk_t h.pb.isP, mk_x hX, bnd_s, mk_mm, bnd_s]
      rcases mkP_or hI (I k) with c | ⟨c, k', hk', ek⟩
      · rw [if_pos c, if_pos c, if_neg (by rw [I_inj (by omega) (by omega)]; omega)]
        exact ⟨_, u, S, rfl, rfl, h⟩
      · have ek : k = k' := (I_inj (by omega) (by omega)).mp ek
        subst ek
        obtain ⟨u', h1, h2, h3⟩ := s_x hX.xv hI hk'
        obtain ⟨S', g1, g2⟩ := s_m hI hk'
        have e116 : (116 : Int32) + I k = I (116 + k) := I_add 116 k
        have R2 : RL b u' S' := RL.row' hO h3 (fun q => sc2_oth) g2.keep g2.row (hX.sc2 h2 h3) hI
        rw [if_neg (by rw [c]; decide), if_neg (by rw [c]; decide), hX.pb.r2, bn1_s, hX.hv.r15, bn1_s, hX.hv.wait (by omega), bn1_s, chk_t h.pb.isP, h1, bnd_s, e116, chk_t (inB_I (by omega) (by decide)), g1, bnd_s, I_nat (by omega)]
        by_cases q : mIA S 0 (116 + k) = sP (mIA S 0) k
        · rw [if_pos q, if_pos q, nm_s, nm_s, I_succ]
          exact ih (k + 1) (by omega) f (by omega) u' S' R2
        · rw [if_neg q, if_neg q, if_neg (by rw [I_inj (by omega) (by omega)]; omega)]
          exact ⟨_, u', S', rfl, rfl, R2⟩
  exact key w 0 (by omega) FU (by show w < 1000; omega) u1 _ R1
end OPS4
