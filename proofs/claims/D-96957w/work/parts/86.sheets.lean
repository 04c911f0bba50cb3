/-! put, tells, judge -/
section SHT
variable {b : Nat} {u : XS} {S : MS}
theorem RL.sheet (h : RL b u S) {s : Nat} (hs : s < 4) : ∃ ad, gR u b 0 7 = some (b + 57) ∧ aR u (b + 57) 4 (I s) = some (b + 58 + s) ∧ gQ u (b + 58 + s) 2 0 = some ad ∧ SH1 u (b + 76) S s ad := by
  obtain ⟨hd, tx, hX, hI, hO⟩ := h
  obtain ⟨ad, s1, s2, s3⟩ := hO.2.2.2.2
  exact ⟨ad s, hX.pb.r7, aR_of s1 hs (by decide) (if_pos hs), gQ_of (s2 s hs).1 rfl, (s2 s hs).2⟩
theorem not_m {s : Nat} (hs : s < 4) (S : MS) : fX4_notThere (I s) S = some (if mIA S 5 s = 0 then -1000000002 else 0, S) := by
  unfold fX4_notThere bX4_notThere_27
  have e : inP (I s) 0 3 = 1 := by
    have hc : s = 0 ∨ s = 1 ∨ s = 2 ∨ s = 3 := by omega
    rcases hc with rfl | rfl | rfl | rfl <;> decide
  rw [sh_m, bnd_s, e, if_neg (by decide), chk_t (inB_I hs (by decide)), I_nat (by omega)]
  by_cases c : mIA S 5 s = 0
  · rw [if_pos c, if_pos c]
  · rw [if_neg c, if_neg c]
theorem not_b {x : Int32} (hx : inP x 0 3 = 0) (S : MS) : fX4_notThere x S = some (-1000000001, S) := by
  unfold fX4_notThere bX4_notThere_27
  rw [sh_m, bnd_s, if_pos hx]
/-- which bits a sheet has -/
theorem SH1.yes {lo s : Nat} {q : Nat} (h : SH1 u lo S s (some q)) : ∃ t n f, t ≤ 2 ∧ lo ≤ q ∧ u.1 q = some (aeI t n f) ∧ ((t = 0 ∧ mIA S 5 s = 32) ∨ (t = 1 ∧ mIA S 5 s = 8) ∨ (t = 2 ∧ mIA S 5 s = 16)) ∧ mIA S 6 s = I n ∧ n ≤ 24 ∧ (∀ k, k < n → f k = mIA S 7 (24 * s + k)) ∧ ¬ mIA S 5 s = 0 := by
  rcases h with ⟨h1, -⟩ | ⟨q', t, n, f, h1, h2, h3, h4, h5, h6, h7⟩
  · cases h1
  · cases h1
    refine ⟨t, n, f, by omega, h2, h3, h4, h5, h6, h7, ?_⟩
    rcases h4 with ⟨-, e⟩ | ⟨-, e⟩ | ⟨-, e⟩ <;> (rw [e]; decide)
theorem SH1.no {lo s : Nat} (h : SH1 u lo S s none) : mIA S 5 s = 0 := by
  rcases h with ⟨-, h⟩ | ⟨q', t, n, f, h1, -⟩
  · exact h
  · cases h1
theorem ix24 (s k : Nat) : ((24 : Int32) * I s) + I k = I (24 * s + k) := by
  have e : (24 : Int32) = I 24 := rfl
  rw [e, I_mul, I_add]
/-- a small array is written: marks and texts stay -/
theorem MKv.sm {lo q t n : Nat} {f : Nat → Int32} {row : Nat → Int32} {hd : Nat → Option Nat} (h : MKv u lo row hd) (hq : u.1 q = some (aeI t n f)) (y : AE) : MKv (xset u q y) lo row hd := by
  intro k hk
  obtain ⟨m, a1, a2, a3⟩ := h k hk
  refine ⟨m, a1, a2, (xset_ne u _ (fun e => ?_)).trans a3⟩
  rw [e, hq] at a3
  cases a3
theorem TZ1.sm {lo q t n a : Nat} {f : Nat → Int32} {row : Nat → Int32} {ad : Option Nat} (h : TZ1 u lo row a ad) (hq : u.1 q = some (aeI t n f)) (hn : n ≤ 24) (y : AE) : TZ1 (xset u q y) lo row a ad := by
  rcases h with h | ⟨t', s, w, L, f', g, h1, h2, h3, h4, h5, h6, h7, h8⟩
  · exact Or.inl h
  · refine Or.inr ⟨t', s, w, L, f', g, h1, h2, h3, h4, (xset_ne u _ (fun e => ?_)).trans h5, (xset_ne u _ (fun e => ?_)).trans h6, (xset_ne u _ (fun e => ?_)).trans h7, h8⟩
    · rw [e, hq] at h5; cases h5
    · rw [e, hq] at h6
      have e2 : (t, n, f) = (1, 60, f') := Sum.inl.inj (Option.some.inj h6)
      have e3 : n = 60 := congrArg (fun z => z.2.1) e2
      omega
    · rw [e, hq] at h7
      have e2 : (t, n, f) = (2, 60, g) := Sum.inl.inj (Option.some.inj h7)
      have e3 : n = 60 := congrArg (fun z => z.2.1) e2
      omega
theorem TXv.sm {lo q t n : Nat} {f : Nat → Int32} {row : Nat → Int32} {tx : Nat → Option Nat} (h : TXv u lo row tx) (hq : u.1 q = some (aeI t n f)) (hn : n ≤ 24) (y : AE) : TXv (xset u q y) lo row tx := ⟨h.1.sm hq hn y, h.2.sm hq hn y⟩
theorem XQ.sm {q t n : Nat} {f : Nat → Int32} {row : Nat → Int32} {hd tx : Nat → Option Nat} {im : Int32} (h : XQ u b row hd tx im) (hq : u.1 q = some (aeI t n f)) (hb : b + 76 ≤ q) (hn : n ≤ 24) (y : AE) : XQ (xset u q y) b row hd tx im := by
  obtain ⟨bel, N, R, A, wt, sd, hX⟩ := h
  obtain ⟨x1, ⟨p, x2⟩, ⟨p2, x3⟩, x4, x5, x6⟩ := hX.xv
  obtain ⟨sg, w, hw⟩ := hX.wv
  have o : ∀ z, z < b + 76 → (xset u q y).1 z = u.1 z := fun z hz => xset_ne u _ (by omega)
  exact ⟨bel, N, R, A, wt, sd, ⟨x1.fr (o _ (by omega)), ⟨p, (o _ (by omega)).trans x2⟩, ⟨p2, (o _ (by omega)).trans x3⟩, x4.fr (fun q a c => o q (by omega)), x5.sm hq y, x6.sm hq hn y⟩, (o _ (by omega)).trans hX.ob, hX.nv.fr (fun q a c => o q (by omega)), ⟨sg, w, hw.fr (fun q a => o q (by have := a.2; omega))⟩, (o _ (by omega)).trans hX.rv, (o _ (by omega)).trans hX.av, (o _ (by omega)).trans hX.wv8, (o _ (by omega)).trans hX.sv8⟩
/-- the numbers of one sheet become others -/
theorem RL.wsheet (h : RL b u S) {s q t n : Nat} {f g : Nat → Int32} {c7 : Nat → Int32} (hs : s < 4) (hsl : gQ u (b + 58 + s) 2 0 = some (some q)) (hb : b + 76 ≤ q) (hq : u.1 q = some (aeI t n f)) (hn : n ≤ 24) (hg : ∀ k, k < n → g k = c7 (24 * s + k)) (ho : ∀ i, i < 96 → ¬ (24 * s ≤ i ∧ i < 24 * s + 24) → c7 i = mIA S 7 i) : RL b (xset u q (aeI t n g)) (sIA S 7 c7) := by
  obtain ⟨hd, tx, hX, hI, ⟨⟨krow, kd, kt, k1, k2⟩, ⟨r, hh, tt, hA⟩, ⟨ff, f1, f2⟩, ⟨t1, ⟨gg, t2, t3⟩, t4⟩, ⟨ad, s1, s2, s3⟩⟩⟩ := h
  have o : ∀ z, z < b + 76 → (xset u q (aeI t n g)).1 z = u.1 z := fun z hz => xset_ne u _ (by omega)
  have e0 : ∀ k, k ≠ 7 → mIA (sIA S 7 c7) k = mIA S k := fun k hk => by rw [mIA_IA, if_neg hk]
  have e7 : mIA (sIA S 7 c7) 7 = c7 := by rw [mIA_IA, if_pos rfl]
  have hads : ad s = some q := by
    have q1 := gQ_of (k := 0) (v := ad s) (s2 s hs).1 rfl
    rw [hsl] at q1
    exact (Option.some.inj q1).symm
  refine ⟨hd, tx, by rw [e0 0 (by decide)]; exact hX.sm hq hb hn _, by rw [e0 0 (by decide)]; exact hI, ⟨krow, kd, kt, k1.fr (fun z a c => o z (by omega)), fun h0 => ?_⟩, ⟨r, hh, tt, hA.fr (fun z a c => o z (by omega))⟩, ⟨ff, (o _ (by omega)).trans f1, fun k hk => by rw [e0 4 (by decide)]; exact f2 k hk⟩, ⟨(o _ (by omega)).trans t1, ⟨gg, (o _ (by omega)).trans t2, fun k hk => by rw [e0 21 (by decide)]; exact t3 k hk⟩, t4⟩, ⟨ad, (o _ (by omega)).trans s1, fun s' hs' => ⟨(o _ (by omega)).trans (s2 s' hs').1, ?_⟩, s3⟩⟩
  · obtain ⟨c1, c2, c3, c4⟩ := k2 h0
    exact ⟨fun i hi => by rw [e0 1 (by decide)]; exact c1 i hi, c2, c3.sm hq _, c4.sm hq hn _⟩
  · by_cases c : s' = s
    · subst c
      rcases (s2 s' hs').2 with ⟨z1, z2⟩ | ⟨q', t', n', f', z1, z2, z3, z4, z5, z6, z7⟩
      · rw [hads] at z1; cases z1
      · have eq : q' = q := by rw [hads] at z1; exact (Option.some.inj z1).symm
        subst eq
        rw [hq] at z3
        have e2 : (t, n, f) = (t', n', f') := Sum.inl.inj (Option.some.inj z3)
        have e3 : n = n' := congrArg (fun z => z.2.1) e2
        have e4 : t = t' := congrArg (fun z => z.1) e2
        subst e3; subst e4
        exact Or.inr ⟨q', t, n, g, z1, z2, xset_at _ _ _, by rw [e0 5 (by decide)]; exact z4, by rw [e0 6 (by decide)]; exact z5, z6, fun k hk => by rw [e7]; exact hg k hk⟩
    · rcases (s2 s' hs').2 with ⟨z1, z2⟩ | ⟨q', t', n', f', z1, z2, z3, z4, z5, z6, z7⟩
      · exact Or.inl ⟨z1, by rw [e0 5 (by decide)]; exact z2⟩
      · refine Or.inr ⟨q', t', n', f', z1, z2, (xset_ne u _ (fun e => c (s3 s' s q hs' hs (by rw [z1, e]) hads))).trans z3, by rw [e0 5 (by decide)]; exact z4, by rw [e0 6 (by decide)]; exact z5, z6, fun k hk => ?_⟩
        rw [e7, ho _ (by omega) (by omega)]
        exact z7 k hk
theorem op_judge (h : RL b u S) (x : Int32) : OpR b (fX0_judge b x u) (fX4_judge x S) := by
  unfold fX0_judge fX4_judge
  rw [sh_x, bnd_s]
  by_cases c : inP x 0 3 = 0
  · rw [if_pos c, not_b c, bnd_s, if_neg (by decide)]
    obtain ⟨u', S', e1, e2, e3⟩ := err1 h
    exact ⟨_, u', S', by rw [chk_t h.pb.isP, e1, bnd_s], by rw [e2, bnd_s], e3⟩
  · obtain ⟨s, -, s2, rfl⟩ := in_lo (lo := 0) (hi := 3) (by decide) (by decide) c
    obtain ⟨ad, a1, a2, a3, a4⟩ := h.sheet (s := s) (by omega)
    rw [if_neg c, not_m (by omega), bnd_s, a1, bn1_s, a2, bn1_s, a3, bn1_s]
    cases ad with
    | none =>
      rw [nlc_n', if_pos a4.no, if_neg (by decide)]
      obtain ⟨u', S', e1, e2, e3⟩ := err2 h
      exact ⟨_, u', S', by rw [chk_t h.pb.isP, e1, bnd_s], by rw [e2, bnd_s], e3⟩
    | some q =>
      obtain ⟨t, n, f, y1, y2, y3, y4, y5, y6, y7, y8⟩ := a4.yes
      rw [nlc_s', if_neg y8, if_pos rfl]
      have h' := h
      obtain ⟨hd, tx, hX, hI, hO⟩ := h'
      have h8 := hI.1.2
      have key : ∀ (j k : Nat), k + j = n → ∀ f', j < f' → OpR b (lX0_judge_35 f' b (some q) (I k) u) (lX4_judge_18 f' (I s) (I k) S) := by
        intro j
        induction j with
        | zero =>
          intro k hk f' hf
          obtain ⟨f', rfl⟩ : ∃ g, f' = g + 1 := ⟨f' - 1, by omega⟩
          have eX : lX0_judge_35 (f' + 1) b (some q) (I k) u = bX0_judge_35 (lX0_judge_35 f') b (some q) (I k) u := rfl
          have eM : lX4_judge_18 (f' + 1) (I s) (I k) S = bX4_judge_18 (lX4_judge_18 f') (I s) (I k) S := rfl
          rw [eX, eM]
          unfold bX0_judge_35 bX4_judge_18 bX0_judge_74 bX4_judge_64
          have le : I n ≤ I k := by rw [I_le (by omega) (by omega)]; omega
          rw [bn1_s, size_x y3 y1, bnd_s, if_pos le, chk_t (inB_I (by omega) (by decide)), I_nat (by omega), y5, if_pos le]
          exact ⟨_, u, S, rfl, rfl, h⟩
        | succ j ih =>
          intro k hk f' hf
          obtain ⟨f', rfl⟩ : ∃ g, f' = g + 1 := ⟨f' - 1, by omega⟩
          have eX : lX0_judge_35 (f' + 1) b (some q) (I k) u = bX0_judge_35 (lX0_judge_35 f') b (some q) (I k) u := rfl
          have eM : lX4_judge_18 (f' + 1) (I s) (I k) S = bX4_judge_18 (lX4_judge_18 f') (I s) (I k) S := rfl
          rw [eX, eM]
          unfold bX0_judge_35 bX4_judge_18 bX0_judge_74 bX4_judge_64
          have le : ¬ I n ≤ I k := by rw [I_le (by omega) (by omega)]; omega
          have z2 : mIA S 0 ((2 : Int32)).toNatClampNeg = mIA S 0 2 := rfl
          rw [bn1_s, size_x y3 y1, bnd_s, if_neg le, chk_t (inB_I (by omega) (by decide)), I_nat (by omega), y5, if_neg le, chk_t h.pb.isP, mk_x hX, bnd_s, z2]
          rcases mkP_or hI (I k) with d | ⟨d, k', hk', ek⟩
          · have nk : mIA S 0 2 ≤ I k := by
              rw [hI.1.1, I_le (by omega) (by omega)]
              by_cases w : k < nM (mIA S 0)
              · unfold mkP inP at d
                rw [if_neg (I_nn (by omega)), hI.1.1, I_pred (by omega), if_neg (by rw [I_lt (by omega) (by omega)]; omega)] at d
                exact absurd d (by decide)
              · omega
            rw [if_pos d, if_pos nk]
            exact ⟨_, u, S, rfl, rfl, h⟩
          · have ek : k = k' := (I_inj (by omega) (by omega)).mp ek
            subst ek
            have d' : ¬ mkP (mIA S 0) (I k) = 0 := by rw [d]; decide
            have nk : ¬ mIA S 0 2 ≤ I k := by rw [hI.1.1, I_le (by omega) (by omega)]; omega
            rw [if_neg d', if_neg nk, numb_x y3 y1 y6 (by omega), bnd_s, h.pb.r2, bn1_s, h.rtold, bn1_s, hX.hv.told (by omega), bn1_s, ix24, chk_t (inB_I (by omega) (by decide)), of_4 (by omega), bnd_s, I_nat (by omega), y7 k (by omega)]
            by_cases w : mIA S 7 (24 * s + k) = mIA S 0 (8 + 6 * k + 4)
            · rw [if_pos w, if_pos w, nm_s, nm_s, I_succ]
              exact ih (k + 1) (by omega) f' (by omega)
            · rw [if_neg w, if_neg w]
              exact ⟨_, u, S, rfl, rfl, h⟩
      exact key n 0 (by omega) FU (by show n < 1000; omega)
end SHT
