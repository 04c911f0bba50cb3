/-! voices: the trace -/
section RAN
variable {b : Nat} {u : XS} {S : MS}
theorem RL.ran (h : RL b u S) {x : Int32} (hx : x.toInt8.toInt32 = x) : ∃ u' S', fX3_ran (b + 54) x u = some u' ∧ fX4_begins x S = some S' ∧ RL b u' S' ∧ mIA S' 0 = mIA S 0 ∧ Fr (fun q => q = b + 54 ∨ q = b + 55) u u' ∧ (∀ k, k ≠ 22 → mIF S' k = mIF S k) := by
  have h' := h
  obtain ⟨hd, tx, hX, hI, ⟨hK, hA, hF, ⟨hT1, ⟨f, hT2, hT3⟩, t, ht30, hT4⟩, hS⟩⟩ := h'
  have g1 : gI u (b + 54) 3 1 = some (mIF S 22) := gI_of hT1 rfl
  have g0 : gR u (b + 54) 3 0 = some (b + 55) := gR_of hT1 rfl
  have e30 : (30 : Int32) = I 30 := rfl
  unfold fX3_ran fX4_begins bX3_ran_27 bX4_begins_29
  rw [g1, bn1_s, hT4, e30]
  by_cases c : I 30 ≤ I t
  · rw [if_pos c, if_pos c]
    exact ⟨u, S, rfl, rfl, h, rfl, Fr.rfl', fun _ _ => rfl⟩
  · rw [if_neg c, if_neg c]
    rw [I_le (by omega) (by omega)] at c
    have o54 : pF u (b + 54) 3 1 (.int (I t + 1)) = some (xset u (b + 54) (aeO 3 [.ref (b + 55), .int (I t + 1)])) := pF_of hT1 (by show 1 < 2; decide)
    have c55 : (xset u (b + 54) (aeO 3 [.ref (b + 55), .int (I t + 1)])).1 (b + 55) = some (aeI 1 30 f) := (xset_ne u _ (by omega)).trans hT2
    have o55 := sI_of (k := t) c55 (by omega) (by decide) (x.toInt8.toInt32)
    have en : nar 1 (x.toInt8.toInt32) = x := by rw [nar8, hx]
    rw [en] at o55
    have o : ∀ q, q ≠ b + 54 → q ≠ b + 55 → (xset (xset u (b + 54) (aeO 3 [.ref (b + 55), .int (I t + 1)])) (b + 55) (aeI 1 30 (upd f t x))).1 q = u.1 q := fun q q1 q2 => (xset_ne _ _ q2).trans (xset_ne _ _ q1)
    have eI : ∀ k, k ≠ 21 → mIA (sIF (sIA S 21 (upd (mIA S 21) t x)) 22 (I t + 1)) k = mIA S k := fun k hk => by rw [mIA_IF, mIA_IA, if_neg hk]
    have eF : ∀ k, k ≠ 22 → mIF (sIF (sIA S 21 (upd (mIA S 21) t x)) 22 (I t + 1)) k = mIF S k := fun k hk => by rw [mIF_IF, if_neg hk]; rfl
    have e22 : mIF (sIF (sIA S 21 (upd (mIA S 21) t x)) 22 (I t + 1)) 22 = I t + 1 := by rw [mIF_IF, if_pos rfl]
    refine ⟨xset (xset u (b + 54) (aeO 3 [.ref (b + 55), .int (I t + 1)])) (b + 55) (aeI 1 30 (upd f t x)), sIF (sIA S 21 (upd (mIA S 21) t x)) 22 (I t + 1), by rw [g0, bn1_s, bn1_s, nm_s, o54, bn1_s, o55, bn1_s], ?_, ⟨hd, tx, ?_, ?_, ?_⟩, eI 0 (by decide), ⟨rfl, fun q hq => o q (fun e => hq (Or.inl e)) (fun e => hq (Or.inr e))⟩, eF⟩
    · rw [chk_t (inB_I (by omega) (by decide)), I_nat (by omega), nm_s, nm_s, mIF_IA, hT4]
    · rw [eI 0 (by decide), eF 3 (by decide)]
      exact hX.mid (fun q hq => o q (by omega) (by omega))
    · rw [eI 0 (by decide)]; exact hI
    · refine ⟨?_, ?_, ?_, ⟨?_, ⟨upd f t x, xset_at _ _ _, fun k hk => ?_⟩, t + 1, by omega, by rw [e22, I_succ]⟩, ?_⟩
      · obtain ⟨krow, kd, kt, k1, k2⟩ := hK
        refine ⟨krow, kd, kt, k1.fr (fun q a c => o q (by omega) (by omega)), fun z => ?_⟩
        rw [eF 3 (by decide)] at z
        obtain ⟨c1, c2, c3, c4⟩ := k2 z
        exact ⟨fun i hi => by rw [eI 1 (by decide)]; exact c1 i hi, c2, c3.fr (fun q a => o q (by omega) (by omega)), c4.fr (fun q a => o q (by omega) (by omega))⟩
      · obtain ⟨r, hh, tt, z⟩ := hA
        exact ⟨r, hh, tt, z.fr (fun q a c => o q (by omega) (by omega))⟩
      · obtain ⟨ff, z1, z2⟩ := hF
        exact ⟨ff, (o _ (by omega) (by omega)).trans z1, fun k hk => by rw [eI 4 (by decide)]; exact z2 k hk⟩
      · rw [e22]
        exact (xset_ne _ _ (by omega)).trans (xset_at _ _ _)
      · rw [mIA_IF, mIA_IA, if_pos rfl]
        by_cases z : k = t
        · rw [z, upd_at, upd_at]
        · rw [upd_ne _ _ z, upd_ne _ _ z]; exact hT3 k hk
      · obtain ⟨ad, z1, z2, z3⟩ := hS
        refine ⟨ad, (o _ (by omega) (by omega)).trans z1, fun s hs => ⟨(o _ (by omega) (by omega)).trans (z2 s hs).1, ?_⟩, z3⟩
        rcases (z2 s hs).2 with ⟨y1, y2⟩ | ⟨q, t', n, f', y1, y2, y3, y4, y5, y6, y7⟩
        · exact Or.inl ⟨y1, by rw [eI 5 (by decide)]; exact y2⟩
        · exact Or.inr ⟨q, t', n, f', y1, y2, (o _ (by omega) (by omega)).trans y3, by rw [eI 5 (by decide)]; exact y4, by rw [eI 6 (by decide)]; exact y5, y6, fun k hk => by rw [eI 7 (by decide)]; exact y7 k hk⟩
end RAN
