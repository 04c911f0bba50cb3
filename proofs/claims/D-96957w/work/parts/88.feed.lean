/-! feed -/
theorem byte_id (y : Int64) : ((y &&& (255 : Int64)).toInt32).toInt8 = (y.toInt32).toInt8 := by
  rw [Int64.toInt8_toInt32, Int64.toInt8_toInt32, Int64.toInt8_and]
  have e : (255 : Int64).toInt8 = -1 := by decide
  rw [e, Int8.and_neg_one]
theorem byte_c (y : Int64) : ∃ c, c ≤ 255 ∧ (y &&& (255 : Int64)).toInt32 = I c := by
  have h1 : (y &&& (255 : Int64)).toBitVec.toNat ≤ 255 := by
    rw [Int64.toBitVec_and, BitVec.toNat_and]
    exact Nat.and_le_right
  have h2 : (y &&& (255 : Int64)) = Int64.ofNat (y &&& (255 : Int64)).toBitVec.toNat := by
    apply Int64.toBitVec_inj.mp
    rw [Int64.toBitVec_ofNat', BitVec.ofNat_toNat, BitVec.setWidth_eq]
  refine ⟨_, h1, ?_⟩
  generalize hc : (y &&& (255 : Int64)).toBitVec.toNat = c at h1 h2
  rw [h2, Int64.toInt32_ofNat']
  rfl
theorem ok_6 {t : Nat} (ht : t ≤ 60) : okU 6 (I t) := Or.inr (Or.inr (Or.inr (Or.inr (Or.inl ⟨rfl, t, ht, rfl⟩))))
theorem ok_tp {k : Nat} (hk : k < 60) {c : Nat} (hc : c ≤ 255) : okU (56 + k) (I c) := Or.inr (Or.inr (Or.inr (Or.inr (Or.inr (Or.inr (Or.inr (Or.inr (Or.inr (Or.inr (Or.inl ⟨by omega, by omega, c, hc, rfl⟩))))))))))
section FEED
variable {b : Nat} {u : XS} {S : MS}
theorem op_feed (h : RL b u S) (w : Int64) (x : Int32) : OpR b (fX0_feed b w x u) (fX4_feed w x S) := by
  unfold fX0_feed fX4_feed
  rw [in_x, bnd_s, in_m, bnd_s]
  have z6 : ((6 : Int32)).toNatClampNeg = 6 := rfl
  by_cases c : inP x 1 8 = 0
  · rw [if_pos c, if_pos c]
    obtain ⟨u', S', e1, e2, e3⟩ := err1 h
    exact ⟨_, u', S', by rw [chk_t h.pb.isP, e1, bnd_s], by rw [e2, bnd_s], e3⟩
  · rw [if_neg c, if_neg c]
    obtain ⟨n, n1, n2, rfl⟩ := in_lo (lo := 1) (hi := 8) (by decide) (by decide) c
    have i6 : gI u (b + 3) 1 6 = some (mIA S 0 6) := by obtain ⟨hd, tx, hX, -⟩ := h; exact hX.hv.i6
    obtain ⟨t, ht, et⟩ := h.inv.2.2.2.2.1
    rw [h.pb.r2, bn1_s, i6, bn1_s, z6, et]
    have e60 : (60 : Int32) = I 60 := rfl
    by_cases d : I t + I n ≤ 60
    · rw [if_pos d, if_pos d]
      rw [I_add, e60, I_le (by omega) (by omega)] at d
      have key : ∀ (j k : Nat), k + j = n → ∀ f, j < f → ∀ (u : XS) (S : MS) (t : Nat), RL b u S → mIA S 0 6 = I t → t + j ≤ 60 → OpR b (lX0_feed_39 f b w (I n) (I k) u) (lX4_feed_41 f w (I n) (I k) S) := by
        intro j
        induction j with
        | zero =>
          intro k hk f hf u S t h et htj
          obtain ⟨f, rfl⟩ : ∃ g, f = g + 1 := ⟨f - 1, by omega⟩
          have i6 : gI u (b + 3) 1 6 = some (mIA S 0 6) := by obtain ⟨hd, tx, hX, -⟩ := h; exact hX.hv.i6
          have le : I n ≤ I k := by rw [I_le (by omega) (by omega)]; omega
          refine ⟨mIA S 0 6, u, S, ?_, ?_, h⟩
          · show bX0_feed_39 (lX0_feed_39 f) _ _ _ _ _ = _
            unfold bX0_feed_39
            rw [if_pos le, h.pb.r2, bn1_s, i6, bn1_s]
          · show bX4_feed_41 (lX4_feed_41 f) _ _ _ _ = _
            unfold bX4_feed_41
            rw [if_pos le, z6]
        | succ j ih =>
          intro k hk f hf u S t h et htj
          obtain ⟨f, rfl⟩ : ∃ g, f = g + 1 := ⟨f - 1, by omega⟩
          have h' := h
          obtain ⟨hd, tx, hX, hI, hO⟩ := h'
          have h8 := hI.1.2
          have le : ¬ I n ≤ I k := by rw [I_le (by omega) (by omega)]; omega
          generalize hy : w >>> ((((8 : Int32) * I k)).toInt64 &&& 63) = y
          obtain ⟨cc, hcc, ecc⟩ := byte_c y
          have hv : (I cc).toInt8.toInt32 = nar 1 (y.toInt32.toInt8.toInt32) := by rw [nar8, ← ecc, byte_id]
          obtain ⟨u1, a1, a2, a3⟩ := hX.setT h8 (k := t) (by omega) hv
          have n6 : upd (mIA S 0) (56 + t) (I cc) 6 = I t := by rw [upd_ne _ _ (by omega)]; exact et
          obtain ⟨u2, b1, b2, b3⟩ := a2.setF (f := 6) (by decide) (by decide) (I t + 1)
          have b2 : XQ u2 b (upd (upd (mIA S 0) (56 + t) (I cc)) 6 (I t + 1)) hd tx (mIF S 3) := b2
          have e56 : (56 : Int32) + I t = I (56 + t) := I_add 56 t
          have R2 : RL b u2 (sIA S 0 (upd (upd (mIA S 0) (56 + t) (I cc)) 6 (I t + 1))) := RL.row' hO (a3.trans b3) (fun q => hse_oth) (mKeep.r _) (m00 _ _) b2 (by rw [I_succ]; exact (hI.upd (ok_tp (by omega) hcc)).upd (ok_6 (by omega)))
          have eX : lX0_feed_39 (f + 1) b w (I n) (I k) u = lX0_feed_39 f b w (I n) (I (k + 1)) u2 := by
            show bX0_feed_39 (lX0_feed_39 f) _ _ _ _ _ = _
            unfold bX0_feed_39
            have a1 : sI u (b + 3 + 7) 1 (I t) (y.toInt32.toInt8.toInt32) = some u1 := a1
            rw [if_neg le, hX.pb.r2, bn1_s, hX.hv.r14, bn1_s, bn1_s, hX.hv.i6, bn1_s, et, hy, a1, bn1_s, a2.pb.r2, bn1_s, a2.hv.i6, bn1_s, n6, nm_s, b1, bn1_s, nm_s, I_succ]
          have eM : lX4_feed_41 (f + 1) w (I n) (I k) S = lX4_feed_41 f w (I n) (I (k + 1)) (sIA S 0 (upd (upd (mIA S 0) (56 + t) (I cc)) 6 (I t + 1))) := by
            show bX4_feed_41 (lX4_feed_41 f) _ _ _ _ = _
            unfold bX4_feed_41
            rw [if_neg le, z6, et, e56, chk_t (inB_I (by omega) (by decide)), I_nat (by omega), hy, ecc, nm_s, nm_s, m00, n6, sIA_IA, nm_s, I_succ]
          rw [eX, eM]
          exact ih (k + 1) (by omega) f (by omega) u2 _ (t + 1) R2 (by rw [m00, upd_at, I_succ]) (by omega)
      exact key n 0 (by omega) FU (by show n < 1000; omega) u S t h et (by omega)
    · rw [if_neg d, if_neg d]
      obtain ⟨u', S', e1, e2, e3⟩ := err4 h
      exact ⟨_, u', S', by rw [chk_t h.pb.isP, e1, bnd_s], by rw [e2, bnd_s], e3⟩
end FEED
