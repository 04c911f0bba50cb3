/-! pictures, untell -/
theorem inv_pic {row : Nat → Int32} (h : INV row) {n : Nat} (hn1 : 1 ≤ n) (hn4 : n ≤ 4) (hm : ∀ k, k < nM row → (row (8 + 6 * k + 2) = -1 ∨ ∃ a, a < n ∧ row (8 + 6 * k + 2) = I a) ∧ ∃ a, a < n ∧ row (8 + 6 * k + 3) = I a) : INV (upd row 3 (I n)) := by
  obtain ⟨⟨h1, h2⟩, ⟨h3, h4, h5⟩, h6, h7, h8', h9, h10, h11, h12⟩ := h
  have e2 : upd row 3 (I n) 2 = row 2 := upd_ne _ _ (by decide)
  have eM : nM (upd row 3 (I n)) = nM row := by unfold nM; rw [e2]
  have eP : nP (upd row 3 (I n)) = n := by unfold nP; rw [upd_at, I_nat (by omega)]
  refine ⟨⟨by rw [e2, eM]; exact h1, by omega⟩, ⟨by rw [eP, upd_at], by omega, by omega⟩, ?_, ?_, ?_, ?_, ?_, ?_, ?_⟩
  · intro k hk
    rw [eM] at hk
    obtain ⟨g1, g2, g3, g4, g5, g6⟩ := h6 k hk
    unfold mkOK
    rw [eP, upd_ne _ _ (by omega), upd_ne _ _ (by omega), upd_ne _ _ (by omega), upd_ne _ _ (by omega), upd_ne _ _ (by omega)]
    exact ⟨g1, g2, (hm k hk).1, (hm k hk).2, g5, g6⟩
  · rw [upd_ne _ _ (by decide)]; exact h7
  · rw [upd_ne _ _ (by decide)]; exact h8'
  · rw [upd_ne _ _ (by decide)]; exact h9
  · exact txOK_ext (fun i hi => upd_ne _ _ (by omega)) h10
  · exact txOK_ext (fun i hi => upd_ne _ _ (by omega)) h11
  · intro k hk'
    rw [upd_ne _ _ (by omega)]; exact h12 k hk'
theorem wfR_ext2 {row row' : Nat → Int32} {a : Nat} (h : ∀ i, a ≤ i → i ≤ a + 120 → row' i = row i) : ∀ k, k ≤ 60 → wfR row' a k = wfR row a k := by
  intro k
  induction k with
  | zero => intro _; rfl
  | succ k ih =>
    intro hk
    unfold wfR
    rw [ih (by omega), h _ (by omega) (by omega), h _ (by omega) (by omega)]
theorem txOK_ext2 {row row' : Nat → Int32} {a : Nat} (h : ∀ i, a ≤ i → i ≤ a + 120 → row' i = row i) (q : txOK row a) : txOK row' a := by
  obtain ⟨L, hL, hr, hw⟩ := q
  exact ⟨L, hL, by rw [h a (Nat.le_refl _) (by omega)]; exact hr, by rw [wfR_ext2 h _ hL]; exact hw⟩
theorem INV.tx {row row' : Nat → Int32} (h : INV row) (hlo : ∀ i, i < 140 → row' i = row i) (h1 : txOK row' 140) (h2 : txOK row' 261) : INV row' := by
  obtain ⟨⟨g1, g2⟩, ⟨g3, g4, g5⟩, g6, g7, g8, g9, g10, g11, g12⟩ := h
  have eM : nM row' = nM row := by unfold nM; rw [hlo 2 (by decide)]
  have eP : nP row' = nP row := by unfold nP; rw [hlo 3 (by decide)]
  refine ⟨⟨by rw [hlo 2 (by decide), eM]; exact g1, by omega⟩, ⟨by rw [hlo 3 (by decide), eP]; exact g3, by omega, by omega⟩, ?_, ?_, ?_, ?_, h1, h2, ?_⟩
  · intro k hk
    rw [eM] at hk
    have := g6 k hk
    unfold mkOK at this ⊢
    rw [eP, hlo _ (by omega), hlo _ (by omega), hlo _ (by omega), hlo _ (by omega), hlo _ (by omega)]
    exact this
  · rw [hlo _ (by decide)]; exact g7
  · rw [hlo _ (by decide)]; exact g8
  · rw [hlo _ (by decide)]; exact g9
  · intro k hk
    rw [hlo _ (by omega)]; exact g12 k hk
section OPS8
variable {b : Nat} {u : XS} {S : MS}
theorem pic_0 {n : Int32} : ∀ (j k : Nat) (S : MS), INV (mIA S 0) → k + j = nM (mIA S 0) → ∀ f, j < f → lX4_pictures_20 f n 0 (I k) S = bnd (fX4_error (-1000000003) S) fun v6 S5 => bX4_pictures_85 v6 S5 := by
  intro j
  induction j with
  | zero =>
    intro k S hI hk f hf
    have h8 := hI.1.2
    obtain ⟨f, rfl⟩ : ∃ g, f = g + 1 := ⟨f - 1, by omega⟩
    show bX4_pictures_20 (lX4_pictures_20 f) _ _ _ _ = _
    unfold bX4_pictures_20
    rw [if_pos (by show mIA S 0 2 ≤ _; rw [hI.1.1, I_le (by omega) (by omega)]; omega), if_pos rfl]
  | succ j ih =>
    intro k S hI hk f hf
    have h8 := hI.1.2
    obtain ⟨f, rfl⟩ : ∃ g, f = g + 1 := ⟨f - 1, by omega⟩
    show bX4_pictures_20 (lX4_pictures_20 f) _ _ _ _ = _
    unfold bX4_pictures_20 bX4_pictures_58 bX4_pictures_59
    rw [if_neg (by show ¬ mIA S 0 2 ≤ _; rw [hI.1.1, I_le (by omega) (by omega)]; omega), if_pos rfl, nm_s, I_succ]
    exact ih (k + 1) S hI (by omega) f (by omega)
theorem op_pictures (h : RL b u S) (x : Int32) : OpR b (fX0_pictures b x u) (fX4_pictures x S) := by
  have h' := h
  obtain ⟨hd, tx, hX, hI, hO⟩ := h'
  have h8 := hI.1.2
  have hH := hX.hv
  unfold fX0_pictures fX4_pictures
  rw [in_x, bnd_s, in_m, bnd_s]
  by_cases c : inP x 1 4 = 0
  · rw [if_pos c, if_pos c]
    obtain ⟨u', S', e1, e2, e3⟩ := err1 h
    exact ⟨_, u', S', by rw [chk_t h.pb.isP, e1, bnd_s], by rw [e2, bnd_s], e3⟩
  · rw [if_neg c, if_neg c]
    obtain ⟨n, n1, n2, rfl⟩ := in_lo (lo := 1) (hi := 4) (by decide) (by decide) c
    have key : ∀ (j k : Nat), k + j = nM (mIA S 0) → (∀ i, i < k → (mIA S 0 (8 + 6 * i + 2) = -1 ∨ ∃ a, a < n ∧ mIA S 0 (8 + 6 * i + 2) = I a) ∧ ∃ a, a < n ∧ mIA S 0 (8 + 6 * i + 3) = I a) → ∀ f, j < f → OpR b (lX0_pictures_17 f b (I n) (I k) u) (lX4_pictures_20 f (I n) 1 (I k) S) := by
      intro j
      induction j with
      | zero =>
        intro k hk ok f hf
        obtain ⟨f, rfl⟩ : ∃ g, f = g + 1 := ⟨f - 1, by omega⟩
        have eX : lX0_pictures_17 (f + 1) b (I n) (I k) u = bX0_pictures_17 (lX0_pictures_17 f) b (I n) (I k) u := rfl
        have eM : lX4_pictures_20 (f + 1) (I n) 1 (I k) S = bX4_pictures_20 (lX4_pictures_20 f) (I n) 1 (I k) S := rfl
        rw [eX, eM]
        unfold bX0_pictures_17 bX4_pictures_20 bX4_pictures_85
        obtain ⟨u', h1, h2, h3⟩ := hH.setF (f := 1) (by decide) (I n)
        have h2 : HV u' (b + 3) (upd (mIA S 0) 3 (I n)) hd tx := h2
        have F := h3.mono (Q := fun q => b + 3 ≤ q ∧ q ≤ b + 19) (fun q e => by omega)
        have hI' : INV (upd (mIA S 0) 3 (I n)) := inv_pic hI n1 n2 (fun i hi => ok i (by omega))
        have e3 : (3 : Int32) = I 3 := rfl
        rw [hX.pb.r2, bn1_s, hH.i0, bn1_s, if_pos (by rw [hI.1.1, I_le (by omega) (by omega)]; omega), if_pos (by show mIA S 0 2 ≤ _; rw [hI.1.1, I_le (by omega) (by omega)]; omega), if_neg (by decide), bn1_s, hH.i1, bn1_s, bn1_s, h1, bn1_s, e3, bec_m (by decide), bnd_s]
        exact ⟨_, u', _, rfl, rfl, RL.row' hO F (fun q => hse_oth) (mKeep.r _) (m00 _ _) (hX.hrow F h2 (upd_ne _ _ (by decide)) (fun k hk => ⟨upd_ne _ _ (by omega), upd_ne _ _ (by omega)⟩) (fun i hi => upd_ne _ _ (by omega))) hI'⟩
      | succ j ih =>
        intro k hk ok f hf
        obtain ⟨f, rfl⟩ : ∃ g, f = g + 1 := ⟨f - 1, by omega⟩
        have eX : lX0_pictures_17 (f + 1) b (I n) (I k) u = bX0_pictures_17 (lX0_pictures_17 f) b (I n) (I k) u := rfl
        have eM : lX4_pictures_20 (f + 1) (I n) 1 (I k) S = bX4_pictures_20 (lX4_pictures_20 f) (I n) 1 (I k) S := rfl
        have bad : OpR b (bX0_pictures_54 b u) (bX4_pictures_58 (lX4_pictures_20 f) (I n) (I k) S) := by
          unfold bX0_pictures_54 bX4_pictures_58 bX4_pictures_59
          rw [nm_s, I_succ, pic_0 j (k + 1) S hI (by omega) f (by omega)]
          obtain ⟨u', S', e1, e2, e3⟩ := err3 h
          exact ⟨_, u', S', by rw [chk_t h.pb.isP, e1, bnd_s], by rw [e2, bnd_s]; rfl, e3⟩
        obtain ⟨-, -, hfr, ⟨t, htP, ht⟩, -, -⟩ := hI.2.2.1 k (by omega)
        have hP4 := hI.2.1.2.2
        rw [eX, eM]
        unfold bX0_pictures_17 bX4_pictures_20
        rw [hX.pb.r2, bn1_s, hH.i0, bn1_s, if_neg (by rw [hI.1.1, I_le (by omega) (by omega)]; omega), if_neg (by show ¬ mIA S 0 2 ≤ _; rw [hI.1.1, I_le (by omega) (by omega)]; omega), if_neg (by decide), bn1_s, hH.r9, bn1_s, hH.from (by omega), bn1_s, of_2 (by omega), bnd_s]
        by_cases d : I n ≤ mIA S 0 (8 + 6 * k + 2)
        · rw [if_pos d, if_pos d]; exact bad
        · rw [if_neg d, if_neg d, bn1_s, hH.r10, bn1_s, hH.to (by omega), bn1_s, of_3 (by omega), bnd_s]
          by_cases e : mIA S 0 (8 + 6 * k + 3) < I n
          · have e' : ¬ I n ≤ mIA S 0 (8 + 6 * k + 3) := by rw [Int32.lt_iff_toInt_lt] at e; rw [Int32.le_iff_toInt_le]; omega
            rw [if_pos e, if_neg e']
            unfold bX4_pictures_59
            rw [nm_s, nm_s, I_succ]
            refine ih (k + 1) (by omega) (fun i hi => ?_) f (by omega)
            by_cases z : i = k
            · subst z
              refine ⟨?_, t, ?_, ht⟩
              · rcases hfr with hfr | ⟨a, ha, hfr⟩
                · exact Or.inl hfr
                · refine Or.inr ⟨a, ?_, hfr⟩
                  rw [hfr, I_le (by omega) (by omega)] at d
                  omega
              · rw [ht, I_lt (by omega) (by omega)] at e
                exact e
            · exact ok i (by omega)
          · have e' : I n ≤ mIA S 0 (8 + 6 * k + 3) := by rw [Int32.lt_iff_toInt_lt] at e; rw [Int32.le_iff_toInt_le]; omega
            rw [if_neg e, if_pos e']
            exact bad
    exact key (nM (mIA S 0)) 0 (by omega) (fun i hi => by omega) FU (by show nM _ < 1000; omega)
theorem op_untell (h : RL b u S) (x : Int32) : OpR b (fX0_untell b x u) (fX4_untell x S) := by
  have h' := h
  obtain ⟨hd, tx, hX, hI, hO⟩ := h'
  have h8 := hI.1.2
  have hH := hX.hv
  unfold fX0_untell fX4_untell bX4_untell_37
  rw [use_x, bnd_s, in_m, bnd_s]
  by_cases c : inP x 0 1 = 0
  · rw [if_pos c, if_pos c]
    obtain ⟨u', S', e1, e2, e3⟩ := err1 h
    exact ⟨_, u', S', by rw [chk_t h.pb.isP, e1, bnd_s], by rw [e2, bnd_s], e3⟩
  · rw [if_neg c, if_neg c]
    have key : ∀ (us a : Nat), (us = 0 ∧ a = 140) ∨ (us = 1 ∧ a = 261) → TZ1 u (b + 76) (mIA S 0) a (tx us) → OpR b (bn1 (gR u b 0 2) fun a12 => bn1 (gR u a12 1 13) fun a14 => bn1 (aQ u a14 5 (I us)) fun a16 => nlc a16 (bX0_untell_30 b (I us) (0 : Int32) u) fun a17 => bX0_untell_30 b (I us) (1 : Int32) u) (bnd (fX4_becomes (I a) (0 : Int32) S) fun v7 S6 => (if v7 ≤ 0 then some (0, S6) else some (1, S6))) := by
      intro us a hus htz
      have hu2 : us < 2 := by omega
      obtain ⟨u', h1, h2, h3⟩ := hH.setX (k := us) hu2 none
      have F := h3.mono (Q := fun q => b + 3 ≤ q ∧ q ≤ b + 19) (fun q e => by omega)
      have o : ∀ q, b + 76 ≤ q → u'.1 q = u.1 q := fun q hq => F.2 q (fun k => by omega)
      have lo : ∀ i, i < 140 → upd (mIA S 0) a 0 i = mIA S 0 i := fun i hi => upd_ne _ _ (by omega)
      have z0 : txOK (upd (mIA S 0) a 0) a := ⟨0, by decide, upd_at _ _ _, Or.inl rfl⟩
      have t140 := hI.2.2.2.2.2.2.1
      have t261 := hI.2.2.2.2.2.2.2.1
      have hI' : INV (upd (mIA S 0) a 0) := by
        rcases hus with ⟨-, rfl⟩ | ⟨-, rfl⟩
        · exact hI.tx lo z0 (txOK_ext2 (fun i h1 h2 => upd_ne _ _ (by omega)) t261)
        · exact hI.tx lo (txOK_ext2 (fun i h1 h2 => upd_ne _ _ (by omega)) t140) z0
      have hT := hX.xv.2.2.2.2.2.fr o
      have y0 : TZ1 u' (b + 76) (upd (mIA S 0) a 0) a none := Or.inl ⟨rfl, upd_at _ _ _⟩
      have hT' : TXv u' (b + 76) (upd (mIA S 0) a 0) (va_up tx us none) := by
        rcases hus with ⟨rfl, rfl⟩ | ⟨rfl, rfl⟩
        · refine ⟨by rw [va_up_self]; exact y0, ?_⟩
          rw [va_up_ne _ _ (by decide)]
          exact hT.2.row (fun i h1 h2 => upd_ne _ _ (by omega))
        · refine ⟨?_, by rw [va_up_self]; exact y0⟩
          rw [va_up_ne _ _ (by decide)]
          exact hT.1.row (fun i h1 h2 => upd_ne _ _ (by omega))
      have hM' : MKv u' (b + 76) (upd (mIA S 0) a 0) hd := (hX.xv.2.2.2.2.1.fr o).row (lo 2 (by decide)) (fun k hk => ⟨lo _ (by omega), lo _ (by omega)⟩)
      have R' : RL b u' (sIA S 0 (upd (mIA S 0) a 0)) := RL.row' hO F (fun q => hse_oth) (mKeep.r _) (m00 _ _) (hX.house F (h2.rext (fun i hi => lo i (by omega)) (fun k w hk _ _ => lo _ (by omega)) (fun i _ hi => lo i hi)) hM' hT') hI'
      have hq : aQ u (b + 3 + 6) 5 (I us) = some (tx us) := aQ_of hH.2.2.2.2.2.2.1 hu2 (by decide)
      have cont : ∀ v, bX0_untell_30 b (I us) v u = some (v, u') := by
        intro v
        unfold bX0_untell_30
        rw [hX.pb.r2, bn1_s, hH.r13, bn1_s, h1, bn1_s]
      rw [hX.pb.r2, bn1_s, hH.r13, bn1_s, hq, bn1_s, bec_m (by omega), bnd_s]
      rcases htz with ⟨g1, g2⟩ | ⟨t, s, v, L, f, g, g1, g2, g3, g4, g5, g6, g7, g8, g9, g10, g11⟩
      · rw [g1, nlc_n', g2, if_pos (by decide)]
        exact ⟨0, u', _, cont 0, rfl, R'⟩
      · rw [g1, nlc_s', g8, if_neg (by rw [I_le0 (by omega)]; omega)]
        exact ⟨1, u', _, cont 1, rfl, R'⟩
    rcases in01 c with rfl | rfl
    · exact key 0 140 (Or.inl ⟨rfl, rfl⟩) hX.xv.2.2.2.2.2.1
    · exact key 1 261 (Or.inr ⟨rfl, rfl⟩) hX.xv.2.2.2.2.2.2
end OPS8
