/-! copies; image, restore; what is thought, and put back -/
theorem sIA_self (S : MS) (k : Nat) : sIA S k (mIA S k) = S := by
  unfold sIA mIA
  have e : va_up S.1 k (S.1 k) = S.1 := by
    funext j
    by_cases c : j = k
    · subst c; exact va_up_self _ _ _
    · exact va_up_ne _ _ c
  rw [e]
theorem cpl_01 : ∀ (j k : Nat), k + j = 382 → ∀ f, j < f → ∀ S : MS, ∃ g, lX4_copyAll_0_1_2 f (I k) S = some (sIA S 1 g) ∧ (∀ i, k ≤ i → i < 382 → g i = mIA S 0 i) ∧ ∀ i, i < k ∨ 382 ≤ i → g i = mIA S 1 i := by
  intro j
  induction j with
  | zero =>
    intro k hk f hf S
    obtain ⟨f, rfl⟩ : ∃ g, f = g + 1 := ⟨f - 1, by omega⟩
    refine ⟨mIA S 1, ?_, fun i h1 h2 => by omega, fun i _ => rfl⟩
    show bX4_copyAll_0_1_2 (lX4_copyAll_0_1_2 f) _ _ = _
    unfold bX4_copyAll_0_1_2
    have e : (382 : Int32) = I 382 := rfl
    rw [e, if_pos (by rw [I_le (by omega) (by omega)]; omega), sIA_self]
  | succ j ih =>
    intro k hk f hf S
    obtain ⟨f, rfl⟩ : ∃ g, f = g + 1 := ⟨f - 1, by omega⟩
    obtain ⟨g, h1, h2, h3⟩ := ih (k + 1) (by omega) f (by omega) (sIA S 1 (upd (mIA S 1) k (mIA S 0 k)))
    rw [sIA_IA] at h1
    refine ⟨g, ?_, fun i a1 a2 => ?_, fun i a1 => ?_⟩
    · show bX4_copyAll_0_1_2 (lX4_copyAll_0_1_2 f) _ _ = _
      unfold bX4_copyAll_0_1_2
      have e : (382 : Int32) = I 382 := rfl
      rw [e, if_neg (by rw [I_le (by omega) (by omega)]; omega), chk_t (inB_I (by omega) (by decide)), chk_t (inB_I (by omega) (by decide)), nm_s, nm_s, I_nat (by omega), I_succ]
      exact h1
    · by_cases c : i = k
      · rw [h3 i (by omega), mIA_IA, if_pos rfl, c, upd_at]
      · rw [h2 i (by omega) a2, mIA_IA, if_neg (by decide)]
    · rw [h3 i (by omega), mIA_IA, if_pos rfl, upd_ne _ _ (by omega)]
theorem cp_01 (S : MS) : ∃ g, fX4_copyAll_0_1 S = some (sIA S 1 g) ∧ ∀ i, i < 382 → g i = mIA S 0 i := by
  obtain ⟨g, h1, h2, -⟩ := cpl_01 382 0 (by omega) FU (by decide) S
  exact ⟨g, h1, fun i hi => h2 i (by omega) hi⟩
theorem cpl_10 : ∀ (j k : Nat), k + j = 382 → ∀ f, j < f → ∀ S : MS, ∃ g, lX4_copyAll_1_0_2 f (I k) S = some (sIA S 0 g) ∧ (∀ i, k ≤ i → i < 382 → g i = mIA S 1 i) ∧ ∀ i, i < k ∨ 382 ≤ i → g i = mIA S 0 i := by
  intro j
  induction j with
  | zero =>
    intro k hk f hf S
    obtain ⟨f, rfl⟩ : ∃ g, f = g + 1 := ⟨f - 1, by omega⟩
    refine ⟨mIA S 0, ?_, fun i h1 h2 => by omega, fun i _ => rfl⟩
    show bX4_copyAll_1_0_2 (lX4_copyAll_1_0_2 f) _ _ = _
    unfold bX4_copyAll_1_0_2
    have e : (382 : Int32) = I 382 := rfl
    rw [e, if_pos (by rw [I_le (by omega) (by omega)]; omega), sIA_self]
  | succ j ih =>
    intro k hk f hf S
    obtain ⟨f, rfl⟩ : ∃ g, f = g + 1 := ⟨f - 1, by omega⟩
    obtain ⟨g, h1, h2, h3⟩ := ih (k + 1) (by omega) f (by omega) (sIA S 0 (upd (mIA S 0) k (mIA S 1 k)))
    rw [sIA_IA] at h1
    refine ⟨g, ?_, fun i a1 a2 => ?_, fun i a1 => ?_⟩
    · show bX4_copyAll_1_0_2 (lX4_copyAll_1_0_2 f) _ _ = _
      unfold bX4_copyAll_1_0_2
      have e : (382 : Int32) = I 382 := rfl
      rw [e, if_neg (by rw [I_le (by omega) (by omega)]; omega), chk_t (inB_I (by omega) (by decide)), chk_t (inB_I (by omega) (by decide)), nm_s, nm_s, I_nat (by omega), I_succ]
      exact h1
    · by_cases c : i = k
      · rw [h3 i (by omega), mIA_IA, if_pos rfl, c, upd_at]
      · rw [h2 i (by omega) a2, mIA_IA, if_neg (by decide)]
    · rw [h3 i (by omega), mIA_IA, if_pos rfl, upd_ne _ _ (by omega)]
theorem cp_10 (S : MS) : ∃ g, fX4_copyAll_1_0 S = some (sIA S 0 g) ∧ ∀ i, i < 382 → g i = mIA S 1 i := by
  obtain ⟨g, h1, h2, -⟩ := cpl_10 382 0 (by omega) FU (by decide) S
  exact ⟨g, h1, fun i hi => h2 i (by omega) hi⟩
theorem cpl_02 : ∀ (j k : Nat), k + j = 382 → ∀ f, j < f → ∀ S : MS, ∃ g, lX4_copyAll_0_2_2 f (I k) S = some (sIA S 2 g) ∧ (∀ i, k ≤ i → i < 382 → g i = mIA S 0 i) ∧ ∀ i, i < k ∨ 382 ≤ i → g i = mIA S 2 i := by
  intro j
  induction j with
  | zero =>
    intro k hk f hf S
    obtain ⟨f, rfl⟩ : ∃ g, f = g + 1 := ⟨f - 1, by omega⟩
    refine ⟨mIA S 2, ?_, fun i h1 h2 => by omega, fun i _ => rfl⟩
    show bX4_copyAll_0_2_2 (lX4_copyAll_0_2_2 f) _ _ = _
    unfold bX4_copyAll_0_2_2
    have e : (382 : Int32) = I 382 := rfl
    rw [e, if_pos (by rw [I_le (by omega) (by omega)]; omega), sIA_self]
  | succ j ih =>
    intro k hk f hf S
    obtain ⟨f, rfl⟩ : ∃ g, f = g + 1 := ⟨f - 1, by omega⟩
    obtain ⟨g, h1, h2, h3⟩ := ih (k + 1) (by omega) f (by omega) (sIA S 2 (upd (mIA S 2) k (mIA S 0 k)))
    rw [sIA_IA] at h1
    refine ⟨g, ?_, fun i a1 a2 => ?_, fun i a1 => ?_⟩
    · show bX4_copyAll_0_2_2 (lX4_copyAll_0_2_2 f) _ _ = _
      unfold bX4_copyAll_0_2_2
      have e : (382 : Int32) = I 382 := rfl
      rw [e, if_neg (by rw [I_le (by omega) (by omega)]; omega), chk_t (inB_I (by omega) (by decide)), chk_t (inB_I (by omega) (by decide)), nm_s, nm_s, I_nat (by omega), I_succ]
      exact h1
    · by_cases c : i = k
      · rw [h3 i (by omega), mIA_IA, if_pos rfl, c, upd_at]
      · rw [h2 i (by omega) a2, mIA_IA, if_neg (by decide)]
    · rw [h3 i (by omega), mIA_IA, if_pos rfl, upd_ne _ _ (by omega)]
theorem cp_02 (S : MS) : ∃ g, fX4_copyAll_0_2 S = some (sIA S 2 g) ∧ ∀ i, i < 382 → g i = mIA S 0 i := by
  obtain ⟨g, h1, h2, -⟩ := cpl_02 382 0 (by omega) FU (by decide) S
  exact ⟨g, h1, fun i hi => h2 i (by omega) hi⟩
theorem cpl_20 : ∀ (j k : Nat), k + j = 382 → ∀ f, j < f → ∀ S : MS, ∃ g, lX4_copyAll_2_0_2 f (I k) S = some (sIA S 0 g) ∧ (∀ i, k ≤ i → i < 382 → g i = mIA S 2 i) ∧ ∀ i, i < k ∨ 382 ≤ i → g i = mIA S 0 i := by
  intro j
  induction j with
  | zero =>
    intro k hk f hf S
    obtain ⟨f, rfl⟩ : ∃ g, f = g + 1 := ⟨f - 1, by omega⟩
    refine ⟨mIA S 0, ?_, fun i h1 h2 => by omega, fun i _ => rfl⟩
    show bX4_copyAll_2_0_2 (lX4_copyAll_2_0_2 f) _ _ = _
    unfold bX4_copyAll_2_0_2
    have e : (382 : Int32) = I 382 := rfl
    rw [e, if_pos (by rw [I_le (by omega) (by omega)]; omega), sIA_self]
  | succ j ih =>
    intro k hk f hf S
    obtain ⟨f, rfl⟩ : ∃ g, f = g + 1 := ⟨f - 1, by omega⟩
    obtain ⟨g, h1, h2, h3⟩ := ih (k + 1) (by omega) f (by omega) (sIA S 0 (upd (mIA S 0) k (mIA S 2 k)))
    rw [sIA_IA] at h1
    refine ⟨g, ?_, fun i a1 a2 => ?_, fun i a1 => ?_⟩
    · show bX4_copyAll_2_0_2 (lX4_copyAll_2_0_2 f) _ _ = _
      unfold bX4_copyAll_2_0_2
      have e : (382 : Int32) = I 382 := rfl
      rw [e, if_neg (by rw [I_le (by omega) (by omega)]; omega), chk_t (inB_I (by omega) (by decide)), chk_t (inB_I (by omega) (by decide)), nm_s, nm_s, I_nat (by omega), I_succ]
      exact h1
    · by_cases c : i = k
      · rw [h3 i (by omega), mIA_IA, if_pos rfl, c, upd_at]
      · rw [h2 i (by omega) a2, mIA_IA, if_neg (by decide)]
    · rw [h3 i (by omega), mIA_IA, if_pos rfl, upd_ne _ _ (by omega)]
theorem cp_20 (S : MS) : ∃ g, fX4_copyAll_2_0 S = some (sIA S 0 g) ∧ ∀ i, i < 382 → g i = mIA S 2 i := by
  obtain ⟨g, h1, h2, -⟩ := cpl_20 382 0 (by omega) FU (by decide) S
  exact ⟨g, h1, fun i hi => h2 i (by omega) hi⟩

section EXT382
variable {u v : XS} {a b lo : Nat} {row row' : Nat → Int32} {hd tx : Nat → Option Nat}
theorem INV.e382 (h : INV row) (e : ∀ i, i < 382 → row' i = row i) : INV row' :=
  h.tx (fun i hi => e i (by omega)) (txOK_ext2 (fun i h1 h2 => e i (by omega)) h.2.2.2.2.2.2.1) (txOK_ext2 (fun i h1 h2 => e i (by omega)) h.2.2.2.2.2.2.2.1)
theorem HV.e382 (h : HV u a row hd tx) (e : ∀ i, i < 382 → row' i = row i) : HV u a row' hd tx := h.rext (fun i hi => e i (by omega)) (fun k w hk h2 h5 => e _ (by omega)) (fun i h1 h2 => e i (by omega))
theorem MKv.e382 (h : MKv u lo row hd) (h8 : nM row ≤ 8) (e : ∀ i, i < 382 → row' i = row i) : MKv u lo row' hd := h.row (e 2 (by omega)) (fun k hk => ⟨e _ (by omega), e _ (by omega)⟩)
theorem TXv.e382 (h : TXv u lo row tx) (e : ∀ i, i < 382 → row' i = row i) : TXv u lo row' tx := ⟨h.1.row (fun i h1 h2 => e i (by omega)), h.2.row (fun i h1 h2 => e i (by omega))⟩
theorem TXv.tx2 {tx' : Nat → Option Nat} (h : TXv u lo row tx) (h0 : tx' 0 = tx 0) (h1 : tx' 1 = tx 1) : TXv u lo row tx' := ⟨by rw [h0]; exact h.1, by rw [h1]; exact h.2⟩
theorem TXv.fol (h : TXv u lo row tx) (hl : a + 17 ≤ lo) : ∀ i, i < 2 → tx i = none ∨ ∃ y fs, tx i = some y ∧ u.1 y = some (aeO 13 fs) ∧ ¬ hous a y := by
  have g : ∀ (x : Nat) (ad : Option Nat), TZ1 u lo row x ad → ad = none ∨ ∃ y fs, ad = some y ∧ u.1 y = some (aeO 13 fs) ∧ ¬ hous a y := by
    intro x ad h
    rcases h with ⟨h, -⟩ | ⟨t, s, w, L, f, g, h1, h2, h3, h4, h5, h6, h7, h8⟩
    · exact Or.inl h
    · exact Or.inr ⟨t, _, h1, h5, fun k => by have := k.2; omega⟩
  intro i hi
  have hc : i = 0 ∨ i = 1 := by omega
  rcases hc with rfl | rfl
  · exact g _ _ h.1
  · exact g _ _ h.2
end EXT382
section MID
variable {b : Nat} {u v : XS} {S T : MS} {row : Nat → Int32} {hd tx : Nat → Option Nat} {im : Int32}
theorem XQ.mid (h : XQ u b row hd tx im) (o : ∀ q, q < b + 20 ∨ b + 62 ≤ q → v.1 q = u.1 q) : XQ v b row hd tx im := by
  obtain ⟨bel, N, R, A, wt, sd, hX⟩ := h
  obtain ⟨x1, ⟨p, x2⟩, ⟨p2, x3⟩, x4, x5, x6⟩ := hX.xv
  obtain ⟨sg, w, hw⟩ := hX.wv
  exact ⟨bel, N, R, A, wt, sd, ⟨x1.fr (o _ (by omega)), ⟨p, (o _ (by omega)).trans x2⟩, ⟨p2, (o _ (by omega)).trans x3⟩, x4.fr (fun q a c => o q (by omega)), x5.fr (fun q a => o q (by omega)), x6.fr (fun q a => o q (by omega))⟩, (o _ (by omega)).trans hX.ob, hX.nv.fr (fun q a c => o q (by omega)), ⟨sg, w, hw.fr (fun q a => o q (by have := a.1; omega))⟩, (o _ (by omega)).trans hX.rv, (o _ (by omega)).trans hX.av, (o _ (by omega)).trans hX.wv8, (o _ (by omega)).trans hX.sv8⟩
theorem XQ.imv (h : XQ u b row hd tx im) : gI u b 0 15 = some im := by
  obtain ⟨bel, N, R, A, wt, sd, hX⟩ := h
  exact gI_of hX.ob rfl
theorem XQ.setI (h : XQ u b row hd tx im) (y : Int32) : ∃ u', pF u b 0 15 (.int y) = some u' ∧ XQ u' b row hd tx y ∧ Fr (fun q => q = b) u u' := by
  obtain ⟨bel, N, R, A, wt, sd, hX⟩ := h
  refine ⟨_, pF_of hX.ob (by show 15 < 16; decide), ?_, Fr.set _ rfl⟩
  obtain ⟨x1, ⟨p, x2⟩, ⟨p2, x3⟩, x4, x5, x6⟩ := hX.xv
  obtain ⟨sg, w, hw⟩ := hX.wv
  have e : (pbF b bel im).set 15 (.int y) = pbF b bel y := rfl
  rw [e]
  have o : ∀ q, q ≠ b → (xset u b (aeO 0 (pbF b bel y))).1 q = u.1 q := fun q hq => xset_ne u _ hq
  exact ⟨bel, N, R, A, wt, sd, ⟨⟨bel, y, xset_at _ _ _⟩, ⟨p, (o _ (by omega)).trans x2⟩, ⟨p2, (o _ (by omega)).trans x3⟩, x4.fr (fun q a c => o q (by omega)), x5.fr (fun q a => o q (by omega)), x6.fr (fun q a => o q (by omega))⟩, xset_at _ _ _, hX.nv.fr (fun q a c => o q (by omega)), ⟨sg, w, hw.fr (fun q a => o q (by have := a.1; omega))⟩, (o _ (by omega)).trans hX.rv, (o _ (by omega)).trans hX.av, (o _ (by omega)).trans hX.wv8, (o _ (by omega)).trans hX.sv8⟩
/-- the aside house is another one -/
theorem RO.asd (h : RO b u S) (hf : Fr (hous (b + 37)) u v) {r : Nat → Int32} {hh t : Nat → Option Nat} (hv : HV v (b + 37) r hh t) (hm : mKeep S T) : RO b v T := by
  have o : ∀ q, q < b + 37 ∨ b + 54 ≤ q → v.1 q = u.1 q := fun q hq => hf.2 q (fun k => by have h1 := k.1; have h2 := k.2; omega)
  obtain ⟨⟨krow, kd, kt, k1, k2⟩, -, ⟨f, f1, f2⟩, ⟨t1, ⟨g, t2, t3⟩, t4⟩, ⟨ad, s1, s2, s3⟩⟩ := h
  refine ⟨⟨krow, kd, kt, k1.fr (fun q a c => o q (by omega)), fun h0 => ?_⟩, ⟨r, hh, t, hv⟩, ⟨f, (o _ (by omega)).trans f1, fun k hk => by rw [hm.1 4 (by omega)]; exact f2 k hk⟩, ⟨?_, ⟨g, (o _ (by omega)).trans t2, fun k hk => by rw [hm.1 21 (by omega)]; exact t3 k hk⟩, by rw [hm.2.2]; exact t4⟩, ⟨ad, (o _ (by omega)).trans s1, fun s hs => ⟨(o _ (by omega)).trans (s2 s hs).1, (s2 s hs).2.fr (fun q a => o q (by omega)) hm⟩, s3⟩⟩
  · rw [hm.2.1] at h0
    obtain ⟨c1, c2, c3, c4⟩ := k2 h0
    exact ⟨fun i hi => by rw [hm.1 1 (by omega)]; exact c1 i hi, c2, c3.fr (fun q a => o q (by omega)), c4.fr (fun q a => o q (by omega))⟩
  · rw [hm.2.2]; exact (o _ (by omega)).trans t1
/-- what is kept aside, in both -/
def AsQ (b : Nat) (u : XS) (S : MS) (r : Nat → Int32) (hd tx : Nat → Option Nat) : Prop := HV u (b + 37) r hd tx ∧ MKv u (b + 76) r hd ∧ TXv u (b + 76) r tx ∧ INV r ∧ ∀ i, i < 382 → mIA S 2 i = r i
theorem AsQ.fr {r : Nat → Int32} (h : AsQ b u S r hd tx) (hf : ∀ q, oth b q → v.1 q = u.1 q) (hm : mIA T 2 = mIA S 2) : AsQ b v T r hd tx := by
  obtain ⟨h1, h2, h3, h4, h5⟩ := h
  exact ⟨h1.fr (fun q a c => hf q (Or.inl ⟨by omega, by omega⟩)), h2.fr (fun q a => hf q (Or.inr a)), h3.fr (fun q a => hf q (Or.inr a)), h4, by rw [hm]; exact h5⟩
theorem RL.think (h : RL b u S) : ∃ u1 S1 hd tx, fX1_follows (b + 37) (b + 3) u = some u1 ∧ fX4_thinks S = some S1 ∧ RL b u1 S1 ∧ AsQ b u1 S1 (mIA S 0) hd tx ∧ mIA S1 0 = mIA S 0 ∧ Fr (hous (b + 37)) u u1 := by
  obtain ⟨hd, tx, hX, hI, hO⟩ := h
  obtain ⟨r, hh, t, hA⟩ := hO.2.1
  obtain ⟨u1, tx', h1, h2, h3, h4, h5⟩ := fol_x (a := b + 37) (c := b + 3) (Or.inr (by omega)) hA hX.hv (hX.xv.2.2.2.2.2.fol (by omega))
  obtain ⟨g, g1, g2⟩ := cp_02 S
  have o : ∀ q, q < b + 37 ∨ b + 54 ≤ q → u1.1 q = u.1 q := fun q hq => h5.2 q (fun k => by have h1 := k.1; have h2 := k.2; omega)
  have e0 : mIA (sIA S 2 g) 0 = mIA S 0 := by rw [mIA_IA, if_neg (by decide)]
  have hk : mKeep S (sIA S 2 g) := mKeep.ia 2 g (by omega)
  refine ⟨u1, sIA S 2 g, hd, tx', h1, by unfold fX4_thinks; rw [g1, bn1_s], ⟨hd, tx, ?_, by rw [e0]; exact hI, hO.asd h5 h2 hk⟩, ⟨h2, hX.xv.2.2.2.2.1.fr (fun q a => o q (by omega)), (hX.xv.2.2.2.2.2.fr (fun q a => o q (by omega))).tx2 h3 h4, hI, fun i hi => by rw [mIA_IA, if_pos rfl]; exact g2 i hi⟩, e0, h5⟩
  rw [e0]
  exact hX.mid (fun q hq => o q (by omega))
theorem RL.back (h : RL b u S) {r : Nat → Int32} {hd tx : Nat → Option Nat} (hq : AsQ b u S r hd tx) : ∃ u1 S1, fX1_follows (b + 3) (b + 37) u = some u1 ∧ fX4_putsBack S = some S1 ∧ RL b u1 S1 ∧ AsQ b u1 S1 r hd tx ∧ (∀ i, i < 382 → mIA S1 0 i = r i) ∧ Fr (hous (b + 3)) u u1 ∧ mKeep S S1 := by
  obtain ⟨hd0, tx0, hX, hI, hO⟩ := h
  obtain ⟨q1, q2, q3, q4, q5⟩ := hq
  obtain ⟨u1, tx', h1, h2, h3, h4, h5⟩ := fol_x (a := b + 3) (c := b + 37) (Or.inl (by omega)) hX.hv q1 (q3.fol (by omega))
  obtain ⟨g, g1, g2⟩ := cp_20 S
  have eg : ∀ i, i < 382 → g i = r i := fun i hi => (g2 i hi).trans (q5 i hi)
  have F : Fr (fun q => b + 3 ≤ q ∧ q ≤ b + 19) u u1 := h5.mono (fun q e => by have h1 := e.1; have h2 := e.2; omega)
  have o : ∀ q, b + 20 ≤ q → u1.1 q = u.1 q := fun q hq => F.2 q (fun k => by omega)
  have e0 : mIA (sIA S 0 g) 0 = g := m00 _ _
  refine ⟨u1, sIA S 0 g, h1, by unfold fX4_putsBack; rw [g1, bn1_s], RL.row' hO F (fun q => hse_oth) (mKeep.r _) e0 (hX.house F (h2.e382 eg) ((q2.fr (fun q a => o q (by omega))).e382 q4.1.2 eg) (((q3.fr (fun q a => o q (by omega))).tx2 h3 h4).e382 eg)) (q4.e382 eg), ⟨q1.fr (fun q a c => o q (by omega)), q2.fr (fun q a => o q (by omega)), q3.fr (fun q a => o q (by omega)), q4, fun i hi => by rw [mIA_IA, if_neg (by decide)]; exact q5 i hi⟩, fun i hi => by rw [e0]; exact eg i hi, h5, mKeep.r _⟩
theorem op_image (h : RL b u S) : OpR b (fX0_image b u) (fX4_image S) := by
  obtain ⟨hd, tx, hX, hI, ⟨⟨krow, kd, kt, k1, -⟩, hA, hF, hT, hS⟩⟩ := h
  obtain ⟨u1, tx', h1, h2, h3, h4, h5⟩ := fol_x (a := b + 20) (c := b + 3) (Or.inr (by omega)) k1 hX.hv (hX.xv.2.2.2.2.2.fol (by omega))
  obtain ⟨g, g1, g2⟩ := cp_01 S
  have o : ∀ q, q < b + 20 ∨ b + 37 ≤ q → u1.1 q = u.1 q := fun q hq => h5.2 q (fun k => by have h1 := k.1; have h2 := k.2; omega)
  have X1 : XQ u1 b (mIA S 0) hd tx (mIF S 3) := hX.mid (fun q hq => o q (by omega))
  obtain ⟨u2, i1, i2, i3⟩ := X1.setI (mIF S 3 + 1)
  have o2 : ∀ q, q ≠ b → u2.1 q = u1.1 q := fun q hq => i3.2 q hq
  have hH : isC u (b + 20) 1 = true := k1.isH
  have e3 : mIF (sIF (sIA S 1 g) 3 (mIF S 3 + 1)) 3 = mIF S 3 + 1 := by rw [mIF_IF, if_pos rfl]
  have e22 : mIF (sIF (sIA S 1 g) 3 (mIF S 3 + 1)) 22 = mIF S 22 := by rw [mIF_IF, if_neg (by decide)]; rfl
  have eI : ∀ k, k ≠ 1 → mIA (sIF (sIA S 1 g) 3 (mIF S 3 + 1)) k = mIA S k := fun k hk => by rw [mIA_IF, mIA_IA, if_neg hk]
  refine ⟨mIF S 3 + 1, u2, sIF (sIA S 1 g) 3 (mIF S 3 + 1), ?_, ?_, ⟨hd, tx, by rw [eI 0 (by decide), e3]; exact i2, by rw [eI 0 (by decide)]; exact hI, ?_⟩⟩
  · unfold fX0_image
    rw [hX.pb.r3, bn1_s, hX.pb.r2, bn1_s, chk_t hH, h1, bn1_s, X1.imv, bn1_s, nm_s, i1, bn1_s, i2.imv, bn1_s]
  · unfold fX4_image
    rw [g1, bn1_s, nm_s, mIF_IA, e3]
  · refine ⟨⟨mIA S 0, hd, tx', h2.fr (fun q a c => o2 q (by omega)), fun _ => ⟨fun i hi => ?_, hI, ?_, ?_⟩⟩, ?_, ?_, ?_, ?_⟩
    · rw [mIA_IF, mIA_IA, if_pos rfl]; exact g2 i hi
    · exact (hX.xv.2.2.2.2.1.fr (fun q a => o q (by omega))).fr (fun q a => o2 q (by omega))
    · exact ((hX.xv.2.2.2.2.2.fr (fun q a => o q (by omega))).fr (fun q a => o2 q (by omega))).tx2 h3 h4
    · obtain ⟨r, hh, t, h⟩ := hA
      exact ⟨r, hh, t, h.fr (fun q a c => (o2 q (by omega)).trans (o q (by omega)))⟩
    · obtain ⟨f, f1, f2⟩ := hF
      exact ⟨f, (o2 _ (by omega)).trans ((o _ (by omega)).trans f1), fun k hk => by rw [eI 4 (by decide)]; exact f2 k hk⟩
    · obtain ⟨t1, ⟨g, t2, t3⟩, t4⟩ := hT
      refine ⟨?_, ⟨g, (o2 _ (by omega)).trans ((o _ (by omega)).trans t2), fun k hk => by rw [eI 21 (by decide)]; exact t3 k hk⟩, by rw [e22]; exact t4⟩
      rw [e22]
      exact (o2 _ (by omega)).trans ((o _ (by omega)).trans t1)
    · obtain ⟨ad, s1, s2, s3⟩ := hS
      refine ⟨ad, (o2 _ (by omega)).trans ((o _ (by omega)).trans s1), fun s hs => ⟨(o2 _ (by omega)).trans ((o _ (by omega)).trans (s2 s hs).1), ?_⟩, s3⟩
      rcases (s2 s hs).2 with ⟨h1, h2⟩ | ⟨q, t, n, f, z1, z2, z3, z4, z5, z6, z7⟩
      · exact Or.inl ⟨h1, by rw [eI 5 (by decide)]; exact h2⟩
      · exact Or.inr ⟨q, t, n, f, z1, z2, (o2 _ (by omega)).trans ((o _ (by omega)).trans z3), by rw [eI 5 (by decide)]; exact z4, by rw [eI 6 (by decide)]; exact z5, z6, fun k hk => by rw [eI 7 (by decide)]; exact z7 k hk⟩
theorem op_restore (h : RL b u S) : OpR b (fX0_restore b u) (fX4_restore S) := by
  have h' := h
  obtain ⟨hd, tx, hX, hI, hO⟩ := h'
  unfold fX0_restore fX4_restore
  rw [hX.imv, bn1_s]
  by_cases c : mIF S 3 = 0
  · rw [if_pos c, if_pos c]
    obtain ⟨u', S', e1, e2, e3⟩ := err2 h
    exact ⟨_, u', S', by rw [chk_t h.pb.isP, e1, bnd_s], by rw [e2, bnd_s], e3⟩
  · rw [if_neg c, if_neg c]
    obtain ⟨krow, kd, kt, k1, k2⟩ := hO.1
    obtain ⟨c1, c2, c3, c4⟩ := k2 c
    obtain ⟨u1, tx', h1, h2, h3, h4, h5⟩ := fol_x (a := b + 3) (c := b + 20) (Or.inl (by omega)) hX.hv k1 (c4.fol (by omega))
    obtain ⟨g, g1, g2⟩ := cp_10 S
    have eg : ∀ i, i < 382 → g i = krow i := fun i hi => (g2 i hi).trans (c1 i hi)
    have F : Fr (fun q => b + 3 ≤ q ∧ q ≤ b + 19) u u1 := h5.mono (fun q e => by have h1 := e.1; have h2 := e.2; omega)
    have o : ∀ q, b + 20 ≤ q → u1.1 q = u.1 q := fun q hq => F.2 q (fun k => by omega)
    have X1 := hX.house F (h2.e382 eg) ((c3.fr (fun q a => o q (by omega))).e382 c2.1.2 eg) (((c4.fr (fun q a => o q (by omega))).tx2 h3 h4).e382 eg)
    refine ⟨g 0, u1, sIA S 0 g, ?_, ?_, RL.row' hO F (fun q => hse_oth) (mKeep.r _) (m00 _ _) X1 (c2.e382 eg)⟩
    · rw [hX.pb.r2, bn1_s, hX.pb.r3, bn1_s, chk_t hX.hv.isH, h1, bn1_s, X1.pb.r2, bn1_s, X1.hv.i2, bn1_s]
    · rw [g1, bn1_s, m00]
      rfl
end MID
