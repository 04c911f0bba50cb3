/-! sheet -/
section SH9
variable {b : Nat} {u : XS} {S : MS}
theorem RL.nsheet {v : XS} {T : MS} (h : RL b u S) {s : Nat} (hs : s < 4) {ad' : Option Nat} (hv : v = xset u (b + 58 + s) (aeO 2 [va_rf ad'])) (hT : ∀ k, k ≠ 5 → k ≠ 6 → k ≠ 7 → mIA T k = mIA S k) (hF : ∀ k, mIF T k = mIF S k) (h5 : ∀ i, i < 4 → i ≠ s → mIA T 5 i = mIA S 5 i ∧ mIA T 6 i = mIA S 6 i) (h7 : ∀ i, i < 96 → ¬ (24 * s ≤ i ∧ i < 24 * s + 24) → mIA T 7 i = mIA S 7 i) (hn : SH1 v (b + 76) T s ad') (hf : ∀ q, ad' = some q → ∀ s', s' < 4 → s' ≠ s → gQ u (b + 58 + s') 2 0 ≠ some (some q)) : RL b v T := by
  obtain ⟨hd, tx, hX, hI, ⟨⟨krow, kd, kt, k1, k2⟩, ⟨r, hh, tt, hA⟩, ⟨ff, f1, f2⟩, ⟨t1, ⟨gg, t2, t3⟩, t4⟩, ⟨ad, s1, s2, s3⟩⟩⟩ := h
  have o : ∀ z, z ≠ b + 58 + s → v.1 z = u.1 z := fun z hz => by rw [hv]; exact xset_ne u _ hz
  refine ⟨hd, tx, by rw [hT 0 (by decide) (by decide) (by decide), hF 3]; exact hX.mid (fun q hq => o q (by omega)), by rw [hT 0 (by decide) (by decide) (by decide)]; exact hI, ⟨krow, kd, kt, k1.fr (fun z a c => o z (by omega)), fun h0 => ?_⟩, ⟨r, hh, tt, hA.fr (fun z a c => o z (by omega))⟩, ⟨ff, (o _ (by omega)).trans f1, fun k hk => by rw [hT 4 (by decide) (by decide) (by decide)]; exact f2 k hk⟩, ⟨by rw [hF 22]; exact (o _ (by omega)).trans t1, ⟨gg, (o _ (by omega)).trans t2, fun k hk => by rw [hT 21 (by decide) (by decide) (by decide)]; exact t3 k hk⟩, by rw [hF 22]; exact t4⟩, ⟨va_up ad s ad', (o _ (by omega)).trans s1, fun s' hs' => ?_, fun i j q hi hj ei ej => ?_⟩⟩
  · rw [hF 3] at h0
    obtain ⟨c1, c2, c3, c4⟩ := k2 h0
    exact ⟨fun i hi => by rw [hT 1 (by decide) (by decide) (by decide)]; exact c1 i hi, c2, c3.fr (fun z a => o z (by omega)), c4.fr (fun z a => o z (by omega))⟩
  · by_cases c : s' = s
    · subst c
      rw [va_up_self]
      exact ⟨by rw [hv]; exact xset_at _ _ _, hn⟩
    · rw [va_up_ne _ _ c]
      refine ⟨(o _ (by omega)).trans (s2 s' hs').1, ?_⟩
      rcases (s2 s' hs').2 with ⟨z1, z2⟩ | ⟨q', t', n', f', z1, z2, z3, z4, z5, z6, z7⟩
      · exact Or.inl ⟨z1, by rw [(h5 s' hs' c).1]; exact z2⟩
      · exact Or.inr ⟨q', t', n', f', z1, z2, (o _ (by omega)).trans z3, by rw [(h5 s' hs' c).1]; exact z4, by rw [(h5 s' hs' c).2]; exact z5, z6, fun k hk => by rw [h7 _ (by omega) (by omega)]; exact z7 k hk⟩
  · have gq : ∀ j, j < 4 → gQ u (b + 58 + j) 2 0 = some (ad j) := fun j hj => gQ_of (s2 j hj).1 rfl
    by_cases ci : i = s
    · by_cases cj : j = s
      · omega
      · rw [ci, va_up_self] at ei
        rw [va_up_ne _ _ cj] at ej
        exact absurd (by rw [gq j hj, ej]) (hf q ei j hj cj)
    · by_cases cj : j = s
      · rw [cj, va_up_self] at ej
        rw [va_up_ne _ _ ci] at ei
        exact absurd (by rw [gq i hi, ei]) (hf q ej i hi ci)
      · rw [va_up_ne _ _ ci] at ei
        rw [va_up_ne _ _ cj] at ej
        exact s3 i j q hi hj ei ej
theorem zer_m {s : Nat} (hs : s < 4) : ∀ (j k : Nat), k + j = 24 → ∀ f, j < f → ∀ S : MS, ∃ g, lX4_sheet_93 f (I s) (I k) S = some (1, sIA S 7 g) ∧ (∀ i, 24 * s + k ≤ i → i < 24 * s + 24 → g i = 0) ∧ ∀ i, ¬ (24 * s + k ≤ i ∧ i < 24 * s + 24) → g i = mIA S 7 i := by
  intro j
  have e24 : (24 : Int32) = I 24 := rfl
  induction j with
  | zero =>
    intro k hk f hf S
    obtain ⟨f, rfl⟩ : ∃ g, f = g + 1 := ⟨f - 1, by omega⟩
    refine ⟨mIA S 7, ?_, fun i h1 h2 => by omega, fun i _ => rfl⟩
    show bX4_sheet_93 (lX4_sheet_93 f) _ _ _ = _
    unfold bX4_sheet_93
    have le : I 24 ≤ I k := by rw [I_le (by omega) (by omega)]; omega
    rw [e24, if_pos le, sIA_self]
  | succ j ih =>
    intro k hk f hf S
    obtain ⟨f, rfl⟩ : ∃ g, f = g + 1 := ⟨f - 1, by omega⟩
    obtain ⟨g, h1, h2, h3⟩ := ih (k + 1) (by omega) f (by omega) (sIA S 7 (upd (mIA S 7) (24 * s + k) 0))
    rw [sIA_IA] at h1
    refine ⟨g, ?_, fun i a1 a2 => ?_, fun i a1 => ?_⟩
    · show bX4_sheet_93 (lX4_sheet_93 f) _ _ _ = _
      unfold bX4_sheet_93
      have le : ¬ I 24 ≤ I k := by rw [I_le (by omega) (by omega)]; omega
      have ix : (24 : Int32) * I s + I k = I (24 * s + k) := ix24 s k
      rw [e24, if_neg le, ← e24, ix, chk_t (inB_I (by omega) (by decide)), nm_s, nm_s, I_nat (by omega), I_succ]
      exact h1
    · by_cases c : i = 24 * s + k
      · rw [h3 i (by omega), mIA_IA, if_pos rfl, c, upd_at]
      · exact h2 i (by omega) a2
    · rw [h3 i (by omega), mIA_IA, if_pos rfl, upd_ne _ _ (by omega)]
theorem sh68_m {s : Nat} (hs : s < 4) (x2 x3 : Int32) (S : MS) : ∃ g, bX4_sheet_68 (I s) x2 x3 S = some (1, sIA (sIA (sIA S 5 (upd (mIA S 5) s x2)) 6 (upd (mIA S 6) s (if x2 = 0 then 0 else x3))) 7 g) ∧ (∀ i, 24 * s ≤ i → i < 24 * s + 24 → g i = 0) ∧ ∀ i, ¬ (24 * s ≤ i ∧ i < 24 * s + 24) → g i = mIA S 7 i := by
  have st : ∀ t2, ∃ g, bX4_sheet_89 (I s) (I s) t2 (sIA S 5 (upd (mIA S 5) s x2)) = some (1, sIA (sIA (sIA S 5 (upd (mIA S 5) s x2)) 6 (upd (mIA S 6) s t2)) 7 g) ∧ (∀ i, 24 * s ≤ i → i < 24 * s + 24 → g i = 0) ∧ ∀ i, ¬ (24 * s ≤ i ∧ i < 24 * s + 24) → g i = mIA S 7 i := by
    intro t2
    have e6 : mIA (sIA S 5 (upd (mIA S 5) s x2)) 6 = mIA S 6 := by rw [mIA_IA, if_neg (by decide)]
    obtain ⟨g, h1, h2, h3⟩ := zer_m hs 24 0 (by omega) FU (by decide) (sIA (sIA S 5 (upd (mIA S 5) s x2)) 6 (upd (mIA S 6) s t2))
    refine ⟨g, ?_, fun i a c => h2 i (by omega) c, fun i a => ?_⟩
    · unfold bX4_sheet_89
      rw [chk_t (inB_I hs (by decide)), nm_s, I_nat (by omega), e6]
      exact h1
    · rw [h3 i (by omega), mIA_IA, if_neg (by decide), mIA_IA, if_neg (by decide)]
  unfold bX4_sheet_68
  rw [chk_t (inB_I hs (by decide)), nm_s, I_nat (by omega)]
  by_cases c : x2 = 0
  · rw [if_pos c, if_pos c]; exact st 0
  · rw [if_neg c, if_neg c]; exact st x3
end SH9
