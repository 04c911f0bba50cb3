/-! then, soonest; the greatest common number; odds -/
section OPS9
variable {b : Nat} {u : XS} {S : MS}
theorem AsQ.go {r : Nat → Int32} {hd tx : Nat → Option Nat} {v : XS} {T : MS} (h : AsQ b u S r hd tx) (F : Fr (rnd b) u v) (m : mEqG S T) : AsQ b v T r hd tx := h.fr (F.oth (fun q => rnd_oth)) (m.1 2 (by decide) (by decide) (by decide))
theorem RL.r4 (h : RL b u S) : gR u b 0 4 = some (b + 37) := h.pb.r4
theorem RL.isH (h : RL b u S) : isC u (b + 3) 1 = true := by obtain ⟨hd, tx, hX, -⟩ := h; exact hX.hv.isH
theorem RL.isA (h : RL b u S) : isC u (b + 37) 1 = true := by obtain ⟨hd, tx, hX, hI, hO⟩ := h; obtain ⟨r, hh, t, hA⟩ := hO.2.1; exact hA.isH
theorem RL.used (h : RL b u S) : fX1_used (b + 3) u = some (onP (mIA S 0), u) := by obtain ⟨hd, tx, hX, hI, hO⟩ := h; exact used_x hX.hv hI
theorem RL.i4 (h : RL b u S) : gI u (b + 3) 1 4 = some (mIA S 0 5) := by obtain ⟨hd, tx, hX, hI, hO⟩ := h; exact hX.hv.i4
theorem RL.ron (h : RL b u S) : gR u (b + 3) 1 12 = some (b + 3 + 5) := by obtain ⟨hd, tx, hX, hI, hO⟩ := h; exact hX.hv.r12
theorem RL.rtold (h : RL b u S) : gR u (b + 3) 1 11 = some (b + 3 + 4) := by obtain ⟨hd, tx, hX, hI, hO⟩ := h; exact hX.hv.r11
theorem RL.on1 (h : RL b u S) {k : Nat} (hk : k < 8) : aI u (b + 3 + 5) 0 (I k) = some (mIA S 0 (8 + 6 * k + 5)) := by obtain ⟨hd, tx, hX, hI, hO⟩ := h; exact hX.hv.on hk
theorem op_then (h : RL b u S) (x y : Int32) : OpR b (fX0_then b x y u) (fX4_then x y S) := by
  have er : ∀ (X : Option (Int32 × XS)) (M : Option (Int32 × MS)), X = bX0_then_19 b u → M = bX4_then_19 S → OpR b X M := by
    intro X M e1 e2
    obtain ⟨u', S', g1, g2, g3⟩ := err1 h
    exact ⟨_, u', S', by rw [e1]; unfold bX0_then_19; rw [chk_t h.pb.isP, g1, bnd_s], by rw [e2]; unfold bX4_then_19; rw [g2, bnd_s], g3⟩
  unfold fX0_then fX4_then
  rw [in_x, bnd_s, in_m, bnd_s]
  by_cases c : inP x 0 60 = 0
  · rw [if_pos c, if_pos c]; exact er _ _ rfl rfl
  · rw [if_neg c, if_neg c, in_x, bnd_s, in_m, bnd_s]
    by_cases d : inP y 0 2 = 0
    · rw [if_pos d, if_pos d]; exact er _ _ rfl rfl
    · rw [if_neg d, if_neg d]
      obtain ⟨n, -, n2, rfl⟩ := in_lo (lo := 0) (hi := 60) (by decide) (by decide) c
      obtain ⟨w, -, w2, rfl⟩ := in_lo (lo := 0) (hi := 2) (by decide) (by decide) d
      obtain ⟨u1, S1, hd, tx, t1, t2, t3, t4, t5, t6⟩ := h.think
      rw [h.r4, bn1_s, h.pb.r2, bn1_s, chk_t h.isA, t1, bn1_s, t2, bn1_s]
      have key : ∀ (j k : Nat), k + j = n → ∀ f, j < f → ∀ (u : XS) (S : MS) (r : Nat → Int32), RL b u S → AsQ b u S r hd tx → OpR b (lX0_then_38 f b (I n) (I w) (I k) u) (bn1 (lX4_goesFor_2 f (I n) (I k) S) fun S17 => (if I w = (2 : Int32) then bX4_then_68 (mIA S17 0 ((5 : Int32)).toNatClampNeg) S17 else (if I w = (1 : Int32) then bnd (fX4_onOnes S17) fun v28 S27 => bX4_then_68 v28 S27 else bnd (fX4_onOnes S17) fun v22 S21 => bnd (fX4_bits v22 S21) fun v25 S24 => bX4_then_68 v25 S24))) := by
        intro j
        induction j with
        | zero =>
          intro k hk f hf u S r h hq
          obtain ⟨f, rfl⟩ : ∃ g, f = g + 1 := ⟨f - 1, by omega⟩
          have eX : lX0_then_38 (f + 1) b (I n) (I w) (I k) u = bX0_then_38 (lX0_then_38 f) b (I n) (I w) (I k) u := rfl
          have eM : lX4_goesFor_2 (f + 1) (I n) (I k) S = bX4_goesFor_2 (lX4_goesFor_2 f) (I n) (I k) S := rfl
          rw [eX, eM]
          unfold bX0_then_38 bX4_goesFor_2
          obtain ⟨u2, S2, p1, p2, p3, p4, -⟩ := h.back hq
          have cX : ∀ v, bX0_then_92 b v u = some (v, u2) := by
            intro v
            unfold bX0_then_92
            rw [h.pb.r2, bn1_s, h.r4, bn1_s, chk_t h.isH, p1, bn1_s]
          have cM : ∀ v, bX4_then_68 v S = some (v, S2) := by
            intro v
            unfold bX4_then_68
            rw [p2, bn1_s]
          have le : I n ≤ I k := by rw [I_le (by omega) (by omega)]; omega
          rw [if_pos le, if_pos le, bn1_s]
          have hc : w = 0 ∨ w = 1 ∨ w = 2 := by omega
          rcases hc with rfl | rfl | rfl
          · rw [if_pos (by decide), if_neg (by decide), if_neg (by decide), h.pb.r2, bn1_s, chk_t h.isH, h.used, bnd_s, bc_x, bnd_s, on_m h.inv, bnd_s, bits_m h.inv, bnd_s, cX, cM]
            exact ⟨_, u2, S2, rfl, rfl, p3⟩
          · rw [if_neg (by decide), if_pos (by decide), if_neg (by decide), if_pos (by decide), h.pb.r2, bn1_s, chk_t h.isH, h.used, bnd_s, on_m h.inv, bnd_s, cX, cM]
            exact ⟨_, u2, S2, rfl, rfl, p3⟩
          · rw [if_neg (by decide), if_neg (by decide), if_pos (by decide), h.pb.r2, bn1_s, h.i4, bn1_s, cX, cM]
            exact ⟨_, u2, S2, rfl, rfl, p3⟩
        | succ j ih =>
          intro k hk f hf u S r h hq
          obtain ⟨f, rfl⟩ : ∃ g, f = g + 1 := ⟨f - 1, by omega⟩
          have eX : lX0_then_38 (f + 1) b (I n) (I w) (I k) u = bX0_then_38 (lX0_then_38 f) b (I n) (I w) (I k) u := rfl
          have eM : lX4_goesFor_2 (f + 1) (I n) (I k) S = bX4_goesFor_2 (lX4_goesFor_2 f) (I n) (I k) S := rfl
          rw [eX, eM]
          unfold bX0_then_38 bX4_goesFor_2
          obtain ⟨u2, T, p1, p2, p3, p4, p5, p6⟩ := h.go
          rw [if_neg (by rw [I_le (by omega) (by omega)]; omega), if_neg (by rw [I_le (by omega) (by omega)]; omega), chk_t h.pb.isP, p1, bn1_s, p2, bn1_s, nm_s, nm_s, I_succ]
          exact ih (k + 1) (by omega) f (by omega) u2 T r p3 (hq.go p5 p6)
      exact key n 0 (by omega) FU (by show n < 1000; omega) u1 S1 _ t3 t4
theorem op_soonest (h : RL b u S) (x : Int32) : OpR b (fX0_soonest b x u) (fX4_soonest x S) := by
  have h' := h
  obtain ⟨hd0, tx0, hX, hI, hO⟩ := h'
  have h8 := hI.1.2
  unfold fX0_soonest fX4_soonest
  rw [chk_t h.pb.isP, mk_x hX, bnd_s, mk_mm, bnd_s]
  rcases mkP_or hI x with c | ⟨c, m, hm, rfl⟩
  · rw [if_pos c, if_pos c]
    obtain ⟨u', S', g1, g2, g3⟩ := err1 h
    exact ⟨_, u', S', by rw [chk_t h.pb.isP, g1, bnd_s], by rw [g2, bnd_s], g3⟩
  · have c' : ¬ mkP (mIA S 0) (I m) = 0 := by rw [c]; decide
    rw [if_neg c', if_neg c']
    obtain ⟨u1, S1, hd, tx, t1, t2, t3, t4, t5, t6⟩ := h.think
    rw [h.r4, bn1_s, h.pb.r2, bn1_s, chk_t h.isA, t1, bn1_s, t2, bn1_s]
    have e60 : (60 : Int32) = I 60 := rfl
    have key : ∀ (j k : Nat), k + j = 61 → ∀ f, j < f → ∀ (u : XS) (S : MS) (r : Nat → Int32), RL b u S → AsQ b u S r hd tx → m < nM (mIA S 0) → OpR b (lX0_soonest_27 f b (I m) (I k) u) (lX4_soonest_21 f (I m) (I k) S) := by
      intro j
      induction j with
      | zero =>
        intro k hk f hf u S r h hq hmN
        obtain ⟨f, rfl⟩ : ∃ g, f = g + 1 := ⟨f - 1, by omega⟩
        have eX : lX0_soonest_27 (f + 1) b (I m) (I k) u = bX0_soonest_27 (lX0_soonest_27 f) b (I m) (I k) u := rfl
        have eM : lX4_soonest_21 (f + 1) (I m) (I k) S = bX4_soonest_21 (lX4_soonest_21 f) (I m) (I k) S := rfl
        rw [eX, eM]
        unfold bX0_soonest_27 bX4_soonest_21 bX4_soonest_47 bX4_soonest_67
        -- X: error first, then back; M: back first, then error
        obtain ⟨u2, S2, p1, p2, p3, p4, p5, p6, p7⟩ := h.back hq
        obtain ⟨u3, S3, g1, g2, g3⟩ := err2 h
        have hq3 : AsQ b u3 S3 r hd tx := by
          obtain ⟨hdd, txx, hXX, hII, ⟨hK, hA, ⟨f, hf, hf2⟩, hT, hS⟩⟩ := h
          unfold fX0_finds at g1
          have e2 : (2 : Int32) = I 2 := rfl
          rw [hXX.pb.r6, bn1_s, e2, aI_of hf (by decide) (by decide), bn1_s, sI_of hf (by decide) (by decide), bn1_s] at g1
          simp only [Option.some.injEq, Prod.mk.injEq] at g1
          have o : ∀ q, q ≠ b + 56 → u3.1 q = u.1 q := fun q hq => by rw [← g1.2]; exact xset_ne _ _ hq
          unfold fX4_error at g2
          have z : (-1000000000 : Int32) - (-1000000002) = I 2 := by decide
          rw [z, nm_s, chk_t (inB_I (by decide) (by decide)), chk_t (inB_I (by decide) (by decide)), nm_s] at g2
          simp only [Option.some.injEq, Prod.mk.injEq] at g2
          obtain ⟨q1, q2, q3, q4, q5⟩ := hq
          refine ⟨q1.fr (fun q a c => o q (by omega)), q2.fr (fun q a => o q (by omega)), q3.fr (fun q a => o q (by omega)), q4, fun i hi => ?_⟩
          rw [← g2.2, mIA_IA, if_neg (by decide)]
          exact q5 i hi
        obtain ⟨u4, S4, r1, r2, r3, r4, r5, r6, r7⟩ := g3.back hq3
        obtain ⟨u5, S5, v1, v2, v3⟩ := err2 p3
        refine ⟨-1000000002, u4, S5, ?_, ?_, ?_⟩
        · rw [e60, if_pos (by rw [I_lt (by omega) (by omega)]; omega), chk_t h.pb.isP, g1, bnd_s, g3.pb.r2, bn1_s, g3.r4, bn1_s, chk_t g3.isH, r1, bn1_s]
        · rw [e60, if_pos (by rw [I_lt (by omega) (by omega)]; omega), p2, bn1_s, if_neg (by rw [I_le (by omega) (by omega)]; omega), v2, bnd_s]
        · -- S5 (back, then error) and S4 (error, then back) tell the same
          unfold fX4_error at v2 g2
          have z : (-1000000000 : Int32) - (-1000000002) = I 2 := by decide
          rw [z, nm_s, chk_t (inB_I (by decide) (by decide)), chk_t (inB_I (by decide) (by decide)), nm_s] at v2 g2
          simp only [Option.some.injEq, Prod.mk.injEq] at v2 g2
          have hz : (I 2).toNatClampNeg = 2 := rfl
          rw [hz] at v2 g2
          obtain ⟨hdd, txx, hXX, hII, hOO⟩ := r3
          have er0 : ∀ i, i < 382 → mIA S5 0 i = mIA S4 0 i := by
            intro i hi
            rw [← v2.2, mIA_IA, if_neg (by decide), p5 i hi, r5 i hi]
          have e4 : mIA S5 4 = mIA S4 4 := by
            rw [← v2.2, mIA_IA, if_pos rfl, r7.1 4 (by omega), ← g2.2, mIA_IA, if_pos rfl, p7.1 4 (by omega)]
          have eo : ∀ k, k = 1 ∨ k = 5 ∨ k = 6 ∨ k = 7 ∨ k = 21 → mIA S5 k = mIA S4 k := by
            intro k hk
            rw [← v2.2, mIA_IA, if_neg (by omega), p7.1 k (by omega), r7.1 k (by omega), ← g2.2, mIA_IA, if_neg (by omega)]
          have ei : mIF S5 3 = mIF S4 3 := by rw [← v2.2, mIF_IA, p7.2.1, r7.2.1, ← g2.2, mIF_IA]
          have ej : mIF S5 22 = mIF S4 22 := by rw [← v2.2, mIF_IA, p7.2.2, r7.2.2, ← g2.2, mIF_IA]
          have mk : mKeep S4 S5 := ⟨fun k hk => by
            by_cases q : k = 4
            · rw [q]; exact e4
            · exact eo k (by omega), ei, ej⟩
          exact RL.row' hOO (Fr.rfl' (P := rnd b)) (fun q => rnd_oth) mk rfl (hXX.house Fr.rfl' (hXX.hv.e382 er0) (hXX.xv.2.2.2.2.1.e382 hII.1.2 er0) (hXX.xv.2.2.2.2.2.e382 er0)) (hII.e382 er0)
      | succ j ih =>
        intro k hk f hf u S r h hq hmN
        obtain ⟨f, rfl⟩ : ∃ g, f = g + 1 := ⟨f - 1, by omega⟩
        have eX : lX0_soonest_27 (f + 1) b (I m) (I k) u = bX0_soonest_27 (lX0_soonest_27 f) b (I m) (I k) u := rfl
        have eM : lX4_soonest_21 (f + 1) (I m) (I k) S = bX4_soonest_21 (lX4_soonest_21 f) (I m) (I k) S := rfl
        rw [eX, eM]
        unfold bX0_soonest_27 bX4_soonest_21 bX4_soonest_47 bX4_soonest_67
        rw [e60, if_neg (by rw [I_lt (by omega) (by omega)]; omega), if_neg (by rw [I_lt (by omega) (by omega)]; omega), h.pb.r2, bn1_s, h.ron, bn1_s, h.on1 (by omega), bn1_s, of_5 (by omega), bnd_s]
        rcases (h.inv.2.2.1 m hmN).2.2.2.2.2 with q | q
        · obtain ⟨u2, S2, p1, p2, p3, -⟩ := h.back hq
          rw [if_pos q, if_neg (by rw [q]; decide), bn1_s, h.r4, bn1_s, chk_t h.isH, p1, bn1_s, p2, bn1_s, if_pos (by rw [I_le (by omega) (by omega)]; omega)]
          exact ⟨_, u2, S2, rfl, rfl, p3⟩
        · obtain ⟨u2, T, p1, p2, p3, p4, p5, p6⟩ := h.go
          rw [if_neg (by rw [q]; decide), if_pos q, chk_t h.pb.isP, p1, bn1_s, p2, bn1_s, nm_s, nm_s, I_succ]
          have e2 : nM (mIA T 0) = nM (mIA S 0) := by
            rw [p4]
            unfold nM goP incP dropP
            split
            · split
              · rw [upd_ne _ _ (by decide)]
              · rw [upd_ne _ _ (by decide), upd_ne _ _ (by decide), upd_ne _ _ (by omega)]
            · rw [upd_ne _ _ (by decide)]
          exact ih (k + 1) (by omega) f (by omega) u2 T r p3 (hq.go p5 p6) (by rw [e2]; exact hmN)
    exact key 61 0 (by omega) FU (by decide) u1 S1 _ t3 t4 (by rw [t5]; exact hm)
end OPS9
