/-! mark, pictures, untell -/
def mkR (row : Nat → Int32) (N : Nat) (kd m fr to tl : Int32) : Nat → Int32 := upd (upd (upd (upd (upd (upd (upd row 2 (I N + 1)) (8 + 6 * N) kd) (8 + 6 * N + 1) m) (8 + 6 * N + 2) fr) (8 + 6 * N + 3) to) (8 + 6 * N + 4) tl) (8 + 6 * N + 5) 1
section MKR
variable {row : Nat → Int32} {N : Nat} {kd m fr to tl : Int32}
theorem mkR_o {i : Nat} (h2 : i ≠ 2) (h : i < 8 + 6 * N ∨ 8 + 6 * N + 5 < i) : mkR row N kd m fr to tl i = row i := by
  unfold mkR
  rw [upd_ne _ _ (by omega), upd_ne _ _ (by omega), upd_ne _ _ (by omega), upd_ne _ _ (by omega), upd_ne _ _ (by omega), upd_ne _ _ (by omega), upd_ne _ _ h2]
theorem mkR_2 : mkR row N kd m fr to tl 2 = I N + 1 := by
  unfold mkR
  rw [upd_ne _ _ (by omega), upd_ne _ _ (by omega), upd_ne _ _ (by omega), upd_ne _ _ (by omega), upd_ne _ _ (by omega), upd_ne _ _ (by omega), upd_at]
theorem mkR_k : mkR row N kd m fr to tl (8 + 6 * N) = kd := by
  unfold mkR
  rw [upd_ne _ _ (by omega), upd_ne _ _ (by omega), upd_ne _ _ (by omega), upd_ne _ _ (by omega), upd_ne _ _ (by omega), upd_at]
theorem mkR_m : mkR row N kd m fr to tl (8 + 6 * N + 1) = m := by
  unfold mkR
  rw [upd_ne _ _ (by omega), upd_ne _ _ (by omega), upd_ne _ _ (by omega), upd_ne _ _ (by omega), upd_at]
theorem mkR_f : mkR row N kd m fr to tl (8 + 6 * N + 2) = fr := by
  unfold mkR
  rw [upd_ne _ _ (by omega), upd_ne _ _ (by omega), upd_ne _ _ (by omega), upd_at]
theorem mkR_t : mkR row N kd m fr to tl (8 + 6 * N + 3) = to := by
  unfold mkR
  rw [upd_ne _ _ (by omega), upd_ne _ _ (by omega), upd_at]
theorem mkR_l : mkR row N kd m fr to tl (8 + 6 * N + 4) = tl := by
  unfold mkR
  rw [upd_ne _ _ (by omega), upd_at]
theorem mkR_1 : mkR row N kd m fr to tl (8 + 6 * N + 5) = 1 := by
  unfold mkR
  rw [upd_at]
end MKR
theorem INV.mk {row : Nat → Int32} (h : INV row) {N : Nat} (hN : nM row = N) (h8 : N < 8) {kd m : Nat} (hk : kd ≤ 6) (hm : m ≤ 9) {fr to tl : Int32} (hf : fr = -1 ∨ ∃ a, a < nP row ∧ fr = I a) (ht : ∃ a, a < nP row ∧ to = I a) (hne : fr ≠ to) : INV (mkR row N (I kd) (I m) fr to tl) ∧ nM (mkR row N (I kd) (I m) fr to tl) = N + 1 := by
  obtain ⟨⟨h1, h2⟩, ⟨h3, h4, h5⟩, h6, h7, h8', h9, h10, h11, h12⟩ := h
  have eM : nM (mkR row N (I kd) (I m) fr to tl) = N + 1 := by
    unfold nM
    rw [mkR_2, I_succ, I_nat (by omega)]
  have e3 : mkR row N (I kd) (I m) fr to tl 3 = row 3 := mkR_o (by decide) (by omega)
  have eP : nP (mkR row N (I kd) (I m) fr to tl) = nP row := by unfold nP; rw [e3]
  refine ⟨⟨⟨?_, by omega⟩, ⟨by rw [e3, eP]; exact h3, by omega, by omega⟩, ?_, ?_, ?_, ?_, ?_, ?_, ?_⟩, eM⟩
  · rw [eM, mkR_2, I_succ]
  · intro k hk'
    rw [eM] at hk'
    unfold mkOK
    rw [eP]
    by_cases c : k = N
    · subst c
      rw [mkR_k, mkR_m, mkR_f, mkR_t, mkR_1]
      exact ⟨⟨kd, hk, rfl⟩, ⟨m, hm, rfl⟩, hf, ht, hne, Or.inr rfl⟩
    · have := h6 k (by omega)
      unfold mkOK at this
      rw [mkR_o (by omega) (by omega), mkR_o (by omega) (by omega), mkR_o (by omega) (by omega), mkR_o (by omega) (by omega), mkR_o (by omega) (by omega)]
      exact this
  · rw [mkR_o (by decide) (by omega)]; exact h7
  · rw [mkR_o (by decide) (by omega)]; exact h8'
  · rw [mkR_o (by decide) (by omega)]; exact h9
  · exact txOK_ext (fun i hi => mkR_o (by omega) (by omega)) h10
  · exact txOK_ext (fun i hi => mkR_o (by omega) (by omega)) h11
  · intro k hk'
    rw [mkR_o (by omega) (by omega)]; exact h12 k hk'
theorem fr_or {x : Int32} {n : Nat} (hn1 : 1 ≤ n) (hn : n ≤ 4) : (x = -1 ∧ inP x (-1) (I n - 1) = 1) ∨ (x ≠ -1 ∧ inP x (-1) (I n - 1) = inP x 0 (I n - 1)) := by
  by_cases c : x = -1
  · refine Or.inl ⟨c, ?_⟩
    subst c
    unfold inP
    rw [if_neg (by decide), I_pred hn1, if_neg (by
      rw [Int32.lt_iff_toInt_lt, I_int (by omega)]
      have e : (-1 : Int32).toInt = -1 := rfl
      omega)]
  · refine Or.inr ⟨c, ?_⟩
    unfold inP
    have e : x < -1 ↔ x < 0 := by
      rw [Int32.lt_iff_toInt_lt, Int32.lt_iff_toInt_lt]
      have e1 : (-1 : Int32).toInt = -1 := rfl
      have e0 : (0 : Int32).toInt = 0 := rfl
      rw [← Int32.toInt_inj] at c
      omega
    simp only [e]
section OPS7
variable {b : Nat} {u : XS} {S : MS}
theorem op_mark (h : RL b u S) (hf : fin u) (x fr to tl : Int32) : OpR b (fX0_mark b x fr to tl u) (fX4_mark x fr to tl S) := by
  have htop := h.top hf
  have h' := h
  obtain ⟨hd, tx, hX, hI, hO⟩ := h'
  have h8 := hI.1.2
  have hP1 := hI.2.1.2.1
  have hP4 := hI.2.1.2.2
  have hH := hX.hv
  have er : ∀ (X : Option (Int32 × XS)) (M : Option (Int32 × MS)), X = bX0_mark_55 b u → M = bX4_mark_45 S → OpR b X M := by
    intro X M e1 e2
    obtain ⟨u', S', g1, g2, g3⟩ := err1 h
    exact ⟨_, u', S', by rw [e1]; unfold bX0_mark_55; rw [chk_t h.pb.isP, g1, bnd_s], by rw [e2]; unfold bX4_mark_45; rw [g2, bnd_s], g3⟩
  unfold fX0_mark fX4_mark
  rw [km_m, bnd_s]
  rcases km_or x with ⟨q, q2⟩ | ⟨q, q0, q6, kd, m, hkd, hm, ekd, em⟩
  · rw [if_pos q]
    rcases q2 with q2 | ⟨q2, q3⟩
    · rw [if_pos q2]; exact er _ _ rfl rfl
    · rw [if_neg q2, if_pos (by rw [Int32.lt_iff_toInt_lt]; rw [Int32.le_iff_toInt_le] at q3; omega)]; exact er _ _ rfl rfl
  · have q' : ¬ inP x 0 69 = 0 := by rw [q]; decide
    rw [if_neg q', if_neg q0, if_neg (by rw [Int32.lt_iff_toInt_lt]; rw [Int32.le_iff_toInt_le] at q6; omega), hX.pb.r2, bn1_s, hH.i1, bn1_s, in_x, bnd_s]
    have rest : (fr = -1 ∨ ∃ a, a < nP (mIA S 0) ∧ fr = I a) → OpR b (chk (isC u b 0) (bnd (fX0_isPicture b to u) fun v18 S16 => (if v18 = 0 then bX0_mark_55 b S16 else (if fr = to then bX0_mark_55 b S16 else bnd (fX0_isIn tl (-20 : Int32) (20 : Int32) S16) fun v23 S22 => (if v23 = 0 then bX0_mark_55 b S22 else
bn1 (gR S22 b 0 2) fun a26 =>
bn1 (gI S22 a26 1 0) fun v28 =>
(if v28 = (8 : Int32) then
chk (isC S22 b 0) (bnd (fX0_finds b (4 : Int32) S22) fun v79 S77 =>
some (v79, S77))
else
bn1 (gR S22 b 0 2) fun a31 =>
bn1 (gI S22 a31 1 0) fun v33 =>
bn1 (gR S22 b 0 2) fun a35 =>
bn1 (gR S22 a35 1 8) fun a37 =>
bn1 (aR S22 a37 4 v33) fun a39 =>
bnd (fX0_made (x / (10 : Int32)) v33 (x - x / (10 : Int32) * (10 : Int32)) S22) fun a42 S41 =>
bn1 (pF S41 a39 2 0 (.ref a42)) fun S44 =>
bn1 (gR S44 b 0 2) fun a46 =>
bn1 (gR S44 a46 1 9) fun a48 =>
bn1 (sI S44 a48 0 v33 fr) fun S50 =>
bn1 (gR S50 b 0 2) fun a52 =>
bn1 (gR S50 a52 1 10) fun a54 =>
bn1 (sI S50 a54 0 v33 to) fun S56 =>
bn1 (gR S56 b 0 2) fun a58 =>
bn1 (gR S56 a58 1 11) fun a60 =>
bn1 (sI S56 a60 0 v33 tl) fun S62 =>
bn1 (gR S62 b 0 2) fun a64 =>
bn1 (gR S62 a64 1 12) fun a66 =>
bn1 (sI S62 a66 0 v33 (1 : Int32)) fun S68 =>
bn1 (gR S68 b 0 2) fun a70 =>
bn1 (gI S68 a70 1 0) fun v72 =>
nm (v72 + (1 : Int32)) fun y73 =>
bn1 (pF S68 a70 1 0 (.int y73)) fun S75 =>
some (v33, S75))))))) (bX4_mark_20 x fr to tl S) := by
      intro hfr
      unfold bX4_mark_20
      rw [chk_t h.pb.isP, pi_x hX, bnd_s, pi_mm, bnd_s]
      rcases piP_or hI to with c | ⟨c, t, ht, rfl⟩
      · rw [if_pos c, if_pos c]; exact er _ _ rfl rfl
      · have c' : ¬ piP (mIA S 0) (I t) = 0 := by rw [c]; decide
        rw [if_neg c', if_neg c']
        by_cases d : fr = I t
        · rw [if_pos d, if_pos d]; exact er _ _ rfl rfl
        · rw [if_neg d, if_neg d, in_x, bnd_s, in_m, bnd_s]
          by_cases e : inP tl (-20) 20 = 0
          · rw [if_pos e, if_pos e]; exact er _ _ rfl rfl
          · have z2 : mIA S 0 ((2 : Int32)).toNatClampNeg = mIA S 0 2 := rfl
            rw [if_neg e, if_neg e, hX.pb.r2, bn1_s, hH.i0, bn1_s, z2, nm_s]
            by_cases g : mIA S 0 2 = 8
            · rw [if_pos g, if_pos g]
              obtain ⟨u', S', g1, g2, g3⟩ := err4 h
              exact ⟨_, u', S', by rw [chk_t h.pb.isP, g1, bnd_s], by rw [g2, bnd_s], g3⟩
            · rw [if_neg g, if_neg g, bn1_s, hH.i0, bn1_s, bn1_s, hH.r8, bn1_s]
              obtain ⟨N, hN⟩ : ∃ N, N = nM (mIA S 0) := ⟨_, rfl⟩
              have e2 : mIA S 0 2 = I N := by rw [hN]; exact hI.1.1
              have hN8 : N < 8 := by
                rw [e2] at g
                have : N ≠ 8 := fun z => g (by rw [z]; rfl)
                omega
              obtain ⟨u1, a1, a2, a3, a4⟩ := made_x (u := u) hkd (I N) (I m)
              have e1 : Ex u u1 := fun q x e => by rw [a4 q (by have := hf q x e; omega)]; exact e
              have X1 := hX.ex e1
              obtain ⟨u2, b1, b2, b3⟩ := X1.hv.setS (k := N) hN8 (some u.2)
              obtain ⟨u3, c1, c2, c3⟩ := b2.setC (w := 2) (k := N) (by decide) (by decide) hN8 fr
              obtain ⟨u4, d1, d2, d3⟩ := c2.setC (w := 3) (k := N) (by decide) (by decide) hN8 (I t)
              obtain ⟨u5, f1, f2, f3⟩ := d2.setC (w := 4) (k := N) (by decide) (by decide) hN8 tl
              obtain ⟨u6, g1, g2, g3⟩ := f2.setC (w := 5) (k := N) (by decide) (by decide) hN8 1
              obtain ⟨u7, i1, i2, i3⟩ := g2.setF (f := 0) (by decide) (I N + 1)
              have F2 := b3.mono (Q := fun q => b + 3 ≤ q ∧ q ≤ b + 19) (fun q e => by omega)
              have F3 := c3.mono (Q := fun q => b + 3 ≤ q ∧ q ≤ b + 19) (fun q e => by omega)
              have F4 := d3.mono (Q := fun q => b + 3 ≤ q ∧ q ≤ b + 19) (fun q e => by omega)
              have F5 := f3.mono (Q := fun q => b + 3 ≤ q ∧ q ≤ b + 19) (fun q e => by omega)
              have F6 := g3.mono (Q := fun q => b + 3 ≤ q ∧ q ≤ b + 19) (fun q e => by omega)
              have F7 := i3.mono (Q := fun q => b + 3 ≤ q ∧ q ≤ b + 19) (fun q e => by omega)
              have G3 := F2.trans F3
              have G4 := G3.trans F4
              have G5 := G4.trans F5
              have G6 := G5.trans F6
              have G7 := G6.trans F7
              have pbb : ∀ v, Fr (fun q => b + 3 ≤ q ∧ q ≤ b + 19) u1 v → PB v b := fun v F => X1.pb.fr (F.2 b (fun k => by omega))
              have n2 : ∀ (r : Nat → Int32) (w : Nat) (v : Int32), 2 ≤ w → upd r (8 + 6 * N + w) v 2 = r 2 := fun r w v hw => upd_ne _ _ (by omega)
              have q0' : gI u6 (b + 3) 1 0 = some (I N) := by rw [g2.i0, n2 _ 5 _ (by decide), n2 _ 4 _ (by decide), n2 _ 3 _ (by decide), n2 _ 2 _ (by decide), e2]
              have hr8 : aR u (b + 3 + 1) 4 (I N) = some (b + 3 + 9 + N) := hH.slot hN8
              obtain ⟨I1, I2⟩ := hI.mk hN.symm hN8 hkd hm (fr := fr) (to := I t) (tl := tl) hfr ⟨t, ht, rfl⟩ d
              refine ⟨I N, u7, sIA S 0 (mkR (mIA S 0) N (I kd) (I m) fr (I t) tl), ?_, ?_, ?_⟩
              · rw [e2, hr8, bn1_s, em, ekd, a1, bnd_s]
                have b1 : pF u1 (b + 3 + 9 + N) 2 0 (.ref u.2) = some u2 := b1
                rw [b1, bn1_s, (pbb u2 F2).r2, bn1_s, b2.r9, bn1_s, c1, bn1_s, (pbb u3 G3).r2, bn1_s, c2.r10, bn1_s, d1, bn1_s, (pbb u4 G4).r2, bn1_s, d2.r11, bn1_s, f1, bn1_s, (pbb u5 G5).r2, bn1_s, f2.r12, bn1_s, g1, bn1_s, (pbb u6 G6).r2, bn1_s, q0', bn1_s, nm_s, i1, bn1_s]
              · have p2 := fun v S => puts_m (k := N) (w := 2) hN8 (by decide) v S
                have p3 := fun v S => puts_m (k := N) (w := 3) hN8 (by decide) v S
                have p4 := fun v S => puts_m (k := N) (w := 4) hN8 (by decide) v S
                have p5 := fun v S => puts_m (k := N) (w := 5) hN8 (by decide) v S
                have y2 : I 2 = (2 : Int32) := rfl
                have y3 : I 3 = (3 : Int32) := rfl
                have y4 : I 4 = (4 : Int32) := rfl
                have y5 : I 5 = (5 : Int32) := rfl
                rw [y2] at p2; rw [y3] at p3; rw [y4] at p4; rw [y5] at p5
                have zz : ((2 : Int32)).toNatClampNeg = 2 := rfl
                rw [zz, e2, em, ekd, nm_s, puts0 hN8, bn1_s, puts1 hN8, bn1_s, p2, bn1_s, p3, bn1_s, p4, bn1_s, p5, bn1_s]
                simp only [m00, sIA_IA]
                rfl
              · refine RL.row' (hd := va_up hd N (some u.2)) (tx := tx) (hO.ex e1) G7 (fun q => hse_oth) (mKeep.r _) (m00 _ _) ?_ I1
                have o : ∀ q, b + 76 ≤ q → u7.1 q = u1.1 q := fun q hq => G7.2 q (fun k => by omega)
                have i2 : HV u7 (b + 3) (upd (upd (upd (upd (upd (mIA S 0) (8 + 6 * N + 2) fr) (8 + 6 * N + 3) (I t)) (8 + 6 * N + 4) tl) (8 + 6 * N + 5) 1) 2 (I N + 1)) (va_up hd N (some u.2)) tx := i2
                refine X1.house G7 (i2.rext (fun i hi => ?_) (fun k w hk h2 h5 => ?_) (fun i h56 h140 => ?_)) ?_ ((X1.xv.2.2.2.2.2.fr o).row (fun i hi => mkR_o (by omega) (by omega)))
                · by_cases c : i = 2
                  · subst c; rw [mkR_2, upd_at]
                  · rw [mkR_o c (by omega), upd_ne _ _ c, upd_ne _ _ (by omega), upd_ne _ _ (by omega), upd_ne _ _ (by omega), upd_ne _ _ (by omega)]
                · rw [upd_ne (k := 2) _ _ (by omega)]
                  by_cases c : k = N
                  · subst c
                    have hc : w = 2 ∨ w = 3 ∨ w = 4 ∨ w = 5 := by omega
                    rcases hc with rfl | rfl | rfl | rfl
                    · rw [mkR_f, upd_ne _ _ (by omega), upd_ne _ _ (by omega), upd_ne _ _ (by omega), upd_at]
                    · rw [mkR_t, upd_ne _ _ (by omega), upd_ne _ _ (by omega), upd_at]
                    · rw [mkR_l, upd_ne _ _ (by omega), upd_at]
                    · rw [mkR_1, upd_at]
                  · rw [mkR_o (by omega) (by omega), upd_ne _ _ (by omega), upd_ne _ _ (by omega), upd_ne _ _ (by omega), upd_ne _ _ (by omega)]
                · rw [mkR_o (by omega) (by omega), upd_ne _ _ (by omega), upd_ne _ _ (by omega), upd_ne _ _ (by omega), upd_ne _ _ (by omega), upd_ne _ _ (by omega)]
                · intro j hj
                  rw [I2] at hj
                  by_cases c : j = N
                  · subst c
                    refine ⟨u.2, va_up_self _ _ _, by omega, ?_⟩
                    unfold kdN
                    rw [mkR_k, mkR_m, I_nat (by omega), o _ (by omega)]
                    exact a2
                  · obtain ⟨z, z1, z2, z3⟩ := X1.xv.2.2.2.2.1 j (by omega)
                    refine ⟨z, by rw [va_up_ne _ _ c]; exact z1, z2, ?_⟩
                    unfold kdN
                    rw [mkR_o (by omega) (by omega), mkR_o (by omega) (by omega), o _ z2]
                    exact z3
    rw [hI.2.1.1]
    rcases fr_or (x := fr) hP1 hP4 with ⟨c, c2⟩ | ⟨c, c2⟩
    · have c2' : ¬ inP fr (-1) (I (nP (mIA S 0)) - 1) = 0 := by rw [c2]; decide
      rw [if_neg c2', if_pos c]
      exact rest (Or.inl c)
    · rw [if_neg c, pi_mm, bnd_s, c2]
      have e3 : inP fr 0 (I (nP (mIA S 0)) - 1) = piP (mIA S 0) fr := by unfold piP; rw [hI.2.1.1]
      rw [e3]
      rcases piP_or hI fr with d | ⟨d, a, ha, ea⟩
      · rw [if_pos d, if_pos d]; exact er _ _ rfl rfl
      · have d' : ¬ piP (mIA S 0) fr = 0 := by rw [d]; decide
        rw [if_neg d', if_neg d']
        exact rest (Or.inr ⟨a, ha, ea⟩)
end OPS7
