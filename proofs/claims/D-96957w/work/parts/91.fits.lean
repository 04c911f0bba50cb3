/-! fits -/
section FIT
variable {b : Nat} {u v : XS} {S T : MS}
theorem AsQ.pw {r : Nat → Int32} {hd tx : Nat → Option Nat} (h : AsQ b u S r hd tx) (e : ∀ q x, u.1 q = some x → ¬ (b + 3 ≤ q ∧ q ≤ b + 19) → v.1 q = some x) (h2 : mIA T 2 = mIA S 2) : AsQ b v T r hd tx := by
  obtain ⟨⟨h0, h1, h2', h3, h4, h5, h6, h7, h8, h9⟩, m, ⟨t1, t2⟩, i, r5⟩ := h
  have tz : ∀ a ad, TZ1 u (b + 76) r a ad → TZ1 v (b + 76) r a ad := by
    intro a ad ht
    rcases ht with h | ⟨t, s, w, L, f, g, g1, g2, g3, g4, g5, g6, g7, g8⟩
    · exact Or.inl h
    · exact Or.inr ⟨t, s, w, L, f, g, g1, g2, g3, g4, e _ _ g5 (by omega), e _ _ g6 (by omega), e _ _ g7 (by omega), g8⟩
  refine ⟨⟨e _ _ h0 (by omega), e _ _ h1 (by omega), e _ _ h2' (by omega), e _ _ h3 (by omega), e _ _ h4 (by omega), e _ _ h5 (by omega), e _ _ h6 (by omega), e _ _ h7 (by omega), e _ _ h8 (by omega), fun k hk => e _ _ (h9 k hk) (by omega)⟩, fun k hk => ?_, ⟨tz _ _ t1, tz _ _ t2⟩, i, by rw [h2]; exact r5⟩
  obtain ⟨z, z1, z2, z3⟩ := m k hk
  exact ⟨z, z1, z2, e _ _ z3 (by omega)⟩
theorem rnd_lt {q : Nat} (h : rnd b q) : q < b + 76 := by
  rcases h with (h | h | h | h) | h <;> omega
theorem fits_in {s q t n w : Nat} {f : Nat → Int32} (hs : s < 4) (ht : t ≤ 2) (hn : n ≤ 24) (hq : b + 76 ≤ q) {x2 x3 x5 x6 x7 : Int32} (k82 : Nat → Int32 → Int32 → Option Nat → Int32 → Int32 → Int32 → XS → Option (Int32 × XS)) {r : Nat → Int32} {hd tx : Nat → Option Nat} : ∀ (j k : Nat), k + j = n → ∀ f', j < f' → ∀ (u : XS) (S : MS) (fl : Int32), (fl = 0 ∨ fl = 1) → RL b u S → AsQ b u S r hd tx → fin u → u.1 q = some (aeI t n f) → mIA S 6 s = I n → (∀ k, k < n → f k = mIA S 7 (24 * s + k)) →
    ∃ u' S' is, lX0_fits_115 k82 f' b x2 x3 (some q) x5 x6 x7 fl (I k) u = bX0_fits_190 k82 b x2 x3 (some q) x5 x7 x6 (if is = 0 then (0 : Int32) else ((1 : Int32) <<< (x7 &&& 31))) u' ∧ lX4_isSo_4 f' (I s) fl (I k) S = some (is, S') ∧ RL b u' S' ∧ AsQ b u' S' r hd tx ∧ fin u' ∧ u'.1 q = some (aeI t n f) ∧ mKeep S S' ∧ ∀ i, i < 382 → mIA S' 0 i = r i := by
  -- the end: all is put back
  have fin1 : ∀ (u : XS) (S : MS) (fl : Int32), (fl = 0 ∨ fl = 1) → RL b u S → AsQ b u S r hd tx → fin u → u.1 q = some (aeI t n f) → ∃ u' S', bX0_fits_164 k82 b x2 x3 (some q) x5 x6 x7 fl u = bX0_fits_190 k82 b x2 x3 (some q) x5 x7 x6 (if fl = 0 then (0 : Int32) else ((1 : Int32) <<< (x7 &&& 31))) u' ∧ bX4_isSo_52 fl S = some (fl, S') ∧ RL b u' S' ∧ AsQ b u' S' r hd tx ∧ fin u' ∧ u'.1 q = some (aeI t n f) ∧ mKeep S S' ∧ ∀ i, i < 382 → mIA S' 0 i = r i := by
    intro u S fl hfl h hA hf hqc
    obtain ⟨u2, S2, p1, p2, p3, p4, p5, p6, p7⟩ := h.back hA
    have hB : isB fl = true := by rcases hfl with e | e <;> (rw [e]; rfl)
    refine ⟨u2, S2, ?_, ?_, p3, p4, hf.fr (b := b) p6 (fun z hz => by have := hz.2; omega) (h.top hf), (p6.2 q (fun z => by have := z.2; omega)).trans hqc, p7, p5⟩
    · unfold bX0_fits_164
      rw [h.pb.r2, bn1_s, h.r4, bn1_s, chk_t h.isH, p1, bn1_s]
      by_cases c : fl = 0
      · rw [if_pos c, if_pos c]
      · rw [if_neg c, if_neg c]
    · unfold bX4_isSo_52
      rw [p2, bn1_s, chk_t hB]
  intro j
  induction j with
  | zero =>
    intro k hk f' hf' u S fl hfl h hA hf hqc h6 h7
    obtain ⟨f', rfl⟩ : ∃ g, f' = g + 1 := ⟨f' - 1, by omega⟩
    obtain ⟨u', S', e1, e2, e3⟩ := fin1 u S fl hfl h hA hf hqc
    refine ⟨u', S', fl, ?_, ?_, e3⟩
    · show bX0_fits_115 k82 (lX0_fits_115 k82 f') _ _ _ _ _ _ _ _ _ _ = _
      unfold bX0_fits_115
      have le : I n ≤ I k := by rw [I_le (by omega) (by omega)]; omega
      rw [bn1_s, size_x hqc ht, bnd_s, if_pos le, e1]
    · show bX4_isSo_4 (lX4_isSo_4 f') _ _ _ _ = _
      unfold bX4_isSo_4
      have le : I n ≤ I k := by rw [I_le (by omega) (by omega)]; omega
      rw [chk_t (inB_I hs (by decide)), I_nat (by omega), h6, if_pos le, e2]
  | succ j ih =>
    intro k hk f' hf' u S fl hfl h hA hf hqc h6 h7
    obtain ⟨f', rfl⟩ : ∃ g, f' = g + 1 := ⟨f' - 1, by omega⟩
    have le : ¬ I n ≤ I k := by rw [I_le (by omega) (by omega)]; omega
    rcases hfl with hfl | hfl
    · obtain ⟨u', S', e1, e2, e3⟩ := fin1 u S fl (Or.inl hfl) h hA hf hqc
      refine ⟨u', S', fl, ?_, ?_, e3⟩
      · show bX0_fits_115 k82 (lX0_fits_115 k82 f') _ _ _ _ _ _ _ _ _ _ = _
        unfold bX0_fits_115
        rw [bn1_s, size_x hqc ht, bnd_s, if_neg le, if_pos hfl, e1]
      · show bX4_isSo_4 (lX4_isSo_4 f') _ _ _ _ = _
        unfold bX4_isSo_4
        rw [chk_t (inB_I hs (by decide)), I_nat (by omega), h6, if_neg le, if_pos hfl, e2]
    · have hfl' : ¬ fl = 0 := by rw [hfl]; decide
      obtain ⟨u2, T2, p1, p2, p3, p4, p5, p6⟩ := h.go
      have f2 : fin u2 := hf.fr (b := b) p5 (fun z hz => rnd_lt hz) (h.top hf)
      have c2 : u2.1 q = some (aeI t n f) := (p5.2 q (fun z => by have := rnd_lt z; omega)).trans hqc
      have k2 := p6.keep
      obtain ⟨nf, nfd⟩ : ∃ nf : Int32, nf = if mIA S 7 (24 * s + k) = onP (mIA S 0) then 1 else 0 := ⟨_, rfl⟩
      have hnf : nf = 0 ∨ nf = 1 := by rw [nfd]; split <;> simp
      obtain ⟨u', S', is, e1, e2, e3, e4, e5, e6, e7, e8⟩ := ih (k + 1) (by omega) f' (by omega) u2 T2 nf hnf p3 (hA.go p5 p6) f2 c2 (by rw [k2.1 6 (by omega)]; exact h6) (fun k hk => by rw [k2.1 7 (by omega)]; exact h7 k hk)
      refine ⟨u', S', is, ?_, ?_, e3, e4, e5, e6, k2.trans e7, e8⟩
      · show bX0_fits_115 k82 (lX0_fits_115 k82 f') _ _ _ _ _ _ _ _ _ _ = _
        unfold bX0_fits_115 bX0_fits_152
        rw [bn1_s, size_x hqc ht, bnd_s, if_neg le, if_neg hfl', numb_x hqc ht hn (by omega), bnd_s, h.pb.r2, bn1_s, chk_t h.isH, h.used, bnd_s, h7 k (by omega), chk_t h.pb.isP, p1, bn1_s, nm_s, bn1_s, nm_s, I_succ]
        by_cases c : mIA S 7 (24 * s + k) = onP (mIA S 0)
        · rw [if_pos c] at nfd ⊢
          rw [nfd] at e1
          exact e1
        · rw [if_neg c] at nfd ⊢
          rw [nfd] at e1
          rw [chk_t h.pb.isP]
          exact e1
      · show bX4_isSo_4 (lX4_isSo_4 f') _ _ _ _ = _
        unfold bX4_isSo_4 bX4_isSo_41
        rw [chk_t (inB_I hs (by decide)), I_nat (by omega), h6, if_neg le, if_neg hfl', ix24, chk_t (inB_I (by omega) (by decide)), on_m h.inv, bnd_s, I_nat (by omega), p2, bn1_s, nm_s, bn1_s, nm_s, I_succ]
        by_cases c : mIA S 7 (24 * s + k) = onP (mIA S 0)
        · rw [if_pos c] at nfd ⊢
          rw [nfd] at e2
          exact e2
        · rw [if_neg c] at nfd ⊢
          rw [nfd] at e2
          exact e2
theorem op_fits (h : RL b u S) (hf : fin u) (x y z : Int32) : OpR b (fX0_fits b x y z u) (fX4_fits x y z S) := by
  have h' := h
  obtain ⟨hd0, tx0, hX, hI, hO⟩ := h'
  have h8 := hI.1.2
  have er : ∀ (X : Option (Int32 × XS)) (M : Option (Int32 × MS)), X = bX0_fits_24 b u → M = bX4_fits_24 S → OpR b X M := by
    intro X M e1 e2
    obtain ⟨u', S', g1, g2, g3⟩ := err1 h
    exact ⟨_, u', S', by rw [e1]; unfold bX0_fits_24; rw [chk_t h.pb.isP, g1, bnd_s], by rw [e2]; unfold bX4_fits_24; rw [g2, bnd_s], g3⟩
  unfold fX0_fits fX4_fits
  rw [sh_x, bnd_s, sh_m, bnd_s]
  by_cases c : inP x 0 3 = 0
  · rw [if_pos c, if_pos c]; exact er _ _ rfl rfl
  · obtain ⟨s, -, s2, rfl⟩ := in_lo (lo := 0) (hi := 3) (by decide) (by decide) c
    rw [if_neg c, if_neg c, chk_t h.pb.isP, mk_x hX, bnd_s, mk_mm, bnd_s]
    rcases mkP_or hI y with d | ⟨d, m, hm, rfl⟩
    · rw [if_pos d, if_pos d]; exact er _ _ rfl rfl
    · have d' : ¬ mkP (mIA S 0) (I m) = 0 := by rw [d]; decide
      rw [if_neg d', if_neg d', in_x, bnd_s, in_m, bnd_s]
      by_cases e : inP z 0 1 = 0
      · rw [if_pos e, if_pos e]; exact er _ _ rfl rfl
      · rw [if_neg e, if_neg e, chk_t (inB_I (by omega) (by decide)), I_nat (by omega)]
        obtain ⟨ad, a1, a2, a3, a4⟩ := h.sheet (s := s) (by omega)
        rw [a1, bn1_s, a2, bn1_s, a3, bn1_s]
        cases ad with
        | none =>
          rw [nlc_n', if_pos a4.no]
          obtain ⟨u', S', e1, e2, e3⟩ := err2 h
          exact ⟨_, u', S', by rw [chk_t h.pb.isP, e1, bnd_s], by rw [e2, bnd_s], e3⟩
        | some q =>
          obtain ⟨t, n, f, y1, y2, y3, y4, y5, y6, y7, y8⟩ := a4.yes
          obtain ⟨mm, g1, g2, g3, g4⟩ := at_x hX.hv hI hX.xv.2.2.2.2.1 hm
          obtain ⟨k1, k6⟩ := kd_ok hI hm
          obtain ⟨-, ⟨mv, hmv, emv⟩, -⟩ := hI.2.2.1 m hm
          obtain ⟨u1, S1, hd, tx, t1, t2, t3, t4, t5, t6⟩ := h.think
          have kp : mKeep S S1 := by
            unfold fX4_thinks at t2
            obtain ⟨g, q1, -⟩ := cp_02 S
            rw [q1, bn1_s] at t2
            rw [← Option.some.inj t2]
            exact mKeep.ia 2 g (by omega)
          have fin1 : fin u1 := hf.fr (b := b) t6 (fun w hw => by have := hw.2; omega) (h.top hf)
          have qc1 : u1.1 q = some (aeI t n f) := (t6.2 q (fun w => by have := w.2; omega)).trans y3
          rw [nlc_s', if_neg y8, h.pb.r2, bn1_s, chk_t hX.hv.isH, g1, bnd_s, gIM_of g4 (by omega) rfl, bn1_s, h.r4, bn1_s, h.pb.r2, bn1_s, chk_t h.isA, t1, bn1_s, t2, bn1_s, emv]
          have e6 : (6 : Int32) = I 6 := rfl
          have key : ∀ (j w : Nat), w + j = 7 → ∀ fx fm, fx = j + 1 → j < fm → ∀ (acc : Nat) (u : XS) (S : MS) (r : Nat → Int32), acc < 2 ^ w → RL b u S → AsQ b u S r hd tx → fin u → u.1 q = some (aeI t n f) → mIA S 6 s = I n → (∀ k, k < n → f k = mIA S 7 (24 * s + k)) → m < nM r → r (8 + 6 * m + 1) = I mv → (∀ i, i < 382 → mIA S 0 i = r i) → OpR b (lX0_fits_82 fx b (I m) z (some q) (I mv) (I acc) (I w) u) (lX4_fits_57 fm (I s) (I m) z (I acc) (I w) S) := by
            intro j
            induction j with
            | zero =>
              intro w hw fx fm hfx hfm acc u S r hacc h hA hf hqc h6 h7 hmr hmv' hr
              obtain ⟨fm, rfl⟩ : ∃ g, fm = g + 1 := ⟨fm - 1, by omega⟩
              have ew : w = 7 := by omega
              subst ew
              subst hfx
              have eX : lX0_fits_82 (0 + 1) b (I m) z (some q) (I mv) (I acc) (I 7) u = bX0_fits_82 (lX0_fits_82 0) b (I m) z (some q) (I mv) (I acc) (I 7) u := rfl
              have eM : lX4_fits_57 (fm + 1) (I s) (I m) z (I acc) (I 7) S = bX4_fits_57 (lX4_fits_57 fm) (I s) (I m) z (I acc) (I 7) S := rfl
              rw [eX, eM]
              unfold bX0_fits_82 bX4_fits_57 bX0_fits_213 bX4_fits_113
              have lt : (6 : Int32) < I 7 := by decide
              have a256 : acc < 256 := by have : (2 : Nat) ^ 7 = 128 := rfl; omega
              rw [if_pos lt, if_pos lt]
              by_cases z0 : z = 0
              · rw [if_pos z0, if_pos z0]; exact ⟨_, u, S, rfl, rfl, h⟩
              · rw [if_neg z0, if_neg z0, bc_x, bnd_s, bc_m a256, bnd_s]; exact ⟨_, u, S, rfl, rfl, h⟩
            | succ j ih =>
              intro w hw fx fm hfx hfm acc u S r hacc h hA hf hqc h6 h7 hmr hmv' hr
              obtain ⟨fm, rfl⟩ : ∃ g, fm = g + 1 := ⟨fm - 1, by omega⟩
              subst hfx
              have eX : lX0_fits_82 (j + 1 + 1) b (I m) z (some q) (I mv) (I acc) (I w) u = bX0_fits_82 (lX0_fits_82 (j + 1)) b (I m) z (some q) (I mv) (I acc) (I w) u := rfl
              have eM : lX4_fits_57 (fm + 1) (I s) (I m) z (I acc) (I w) S = bX4_fits_57 (lX4_fits_57 fm) (I s) (I m) z (I acc) (I w) S := rfl
              rw [eX, eM]
              unfold bX0_fits_82 bX4_fits_57
              have lt : ¬ (6 : Int32) < I w := by rw [e6, I_lt (by omega) (by omega)]; omega
              have hmN : m < nM (mIA S 0) := by
                have e0 : nM (mIA S 0) = nM r := by unfold nM; rw [hr 2 (by decide)]
                rw [e0]; exact hmr
              have hm8 : m < 8 := by have := h.inv.1.2; omega
              obtain ⟨v1, v2, n1, n2, n3, n4, n5, n6, n7, n8⟩ := h.newmark hf hmN (show w ≤ 6 by omega) hmv (y := I mv) rfl
              have htop := h.top hf
              have sim : RL b v2 (sIA S 0 (upd (mIA S 0) (8 + 6 * m) (I w))) := by
                refine n6.sim ((mKeep.r _).both (mKeep.r _)) (fun i hi => ?_)
                rw [m00, m00]
                by_cases q1 : i = 8 + 6 * m
                · rw [q1, upd_at, upd_at]
                · rw [upd_ne _ _ q1, upd_ne _ _ q1]
                  by_cases q2 : i = 8 + 6 * m + 1
                  · rw [q2, upd_at, hr _ (by omega), hmv']
                  · rw [upd_ne _ _ q2]
              have pw : ∀ qq x, u.1 qq = some x → ¬ (b + 3 ≤ qq ∧ qq ≤ b + 19) → v2.1 qq = some x := by
                intro qq x e1 e2
                have := n7.2 qq (fun k => by
                  rcases k with k | k
                  · exact e2 k
                  · have := hf qq x e1; omega)
                exact (show v2.1 qq = u.1 qq from this).trans e1
              have A2 : AsQ b v2 (sIA S 0 (upd (mIA S 0) (8 + 6 * m) (I w))) r hd tx := hA.pw pw (by rw [mIA_IA, if_neg (by decide)])
              obtain ⟨u3, S3, is, p1, p2, p3, p4, p5, p6, p7, p8⟩ := fits_in (x2 := I m) (x3 := z) (x5 := I mv) (x6 := I acc) (x7 := I w) (w := 0) (show s < 4 by omega) y1 y6 y2 (lX0_fits_82 (j + 1)) n 0 (by omega) FU (by show n < 1000; omega) v2 _ 1 (Or.inr rfl) sim A2 n5 (pw _ _ hqc (by omega)) (by rw [mIA_IA, if_neg (by decide)]; exact h6) (fun k hk => by rw [mIA_IA, if_neg (by decide)]; exact h7 k hk)
              have p1 : lX0_fits_115 (lX0_fits_82 (j + 1)) FU b (I m) z (some q) (I mv) (I acc) (I w) 1 0 v2 = _ := p1
              have p2 : fX4_isSo (I s) (sIA S 0 (upd (mIA S 0) (8 + 6 * m) (I w))) = some (is, S3) := p2
              have slot : aR u (b + 3 + 1) 4 (I m) = some (b + 3 + 9 + m) := by obtain ⟨a, c, hX, -⟩ := h; exact hX.hv.slot hm8
              have r8' : gR u (b + 3) 1 8 = some (b + 3 + 1) := by obtain ⟨a, c, hX, -⟩ := h; exact hX.hv.r8
              have dd := us_dec w (by omega) acc hacc
              have pw2 : 2 ^ (w + 1) = 2 ^ w + 2 ^ w := by rw [Nat.pow_succ]; omega
              have kp3 : mKeep S S3 := (mKeep.r _).trans p7
              rw [if_neg lt, if_neg lt, h.pb.r2, bn1_s, r8', bn1_s, slot, bn1_s, n1, bnd_s, n4, bn1_s, p1, puts0 hm8, bn1_s, p2, bnd_s]
              unfold bX0_fits_190 bX4_fits_90
              by_cases i0 : is = 0
              · rw [if_pos i0, if_pos i0, nm_s, nm_s, nm_s, nm_s, I_succ, Int32.or_zero]
                exact ih (w + 1) (by omega) (j + 1) fm rfl (by omega) acc u3 S3 r (by omega) p3 p4 p5 p6 (by rw [kp3.1 6 (by omega)]; exact h6) (fun k hk => by rw [kp3.1 7 (by omega)]; exact h7 k hk) hmr hmv' p8
              · rw [if_neg i0, if_neg i0, nm_s, nm_s, nm_s, nm_s, I_succ, dd.2]
                exact ih (w + 1) (by omega) (j + 1) fm rfl (by omega) (acc + 2 ^ w) u3 S3 r (by omega) p3 p4 p5 p6 (by rw [kp3.1 6 (by omega)]; exact h6) (fun k hk => by rw [kp3.1 7 (by omega)]; exact h7 k hk) hmr hmv' p8
          exact key 7 0 (by omega) 8 FU rfl (by decide) 0 u1 S1 _ (by decide) t3 t4 fin1 qc1 (by rw [kp.1 6 (by omega)]; exact y5) (fun k hk => by rw [kp.1 7 (by omega)]; exact y7 k hk) hm emv (fun i hi => by rw [t5])
end FIT
