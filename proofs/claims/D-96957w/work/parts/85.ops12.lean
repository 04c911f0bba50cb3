/-! limitFor; sheets read: put, tells, judge -/
theorem mKeep.both {S T U : MS} (h : mKeep S T) (k : mKeep S U) : mKeep T U := ⟨fun i a => (k.1 i a).trans (h.1 i a).symm, k.2.1.trans h.2.1.symm, k.2.2.trans h.2.2.symm⟩
section OPS12
variable {b : Nat} {u : XS} {S : MS}
theorem err2_as (h : RL b u S) {r : Nat → Int32} {hd tx : Nat → Option Nat} (hq : AsQ b u S r hd tx) : ∃ u' S', fX0_finds b 2 u = some (-1000000002, u') ∧ fX4_error (-1000000002) S = some (-1000000002, S') ∧ RL b u' S' ∧ AsQ b u' S' r hd tx ∧ mIA S' 0 = mIA S 0 := by
  obtain ⟨u3, S3, g1, g2, g3⟩ := err2 h
  refine ⟨u3, S3, g1, g2, g3, ?_, ?_⟩
  · obtain ⟨hdd, txx, hXX, hII, ⟨hK, hA, ⟨f, hf, hf2⟩, hT, hS⟩⟩ := h
    unfold fX0_finds at g1
    have e2 : (2 : Int32) = I 2 := rfl
    rw [hXX.pb.r6, bn1_s, e2, aI_of hf (by decide) (by decide), bn1_s, sI_of hf (by decide) (by decide), bn1_s] at g1
    simp only [Option.some.injEq, Prod.mk.injEq] at g1
    have o : ∀ q, q ≠ b + 56 → u3.1 q = u.1 q := fun q hq => by rw [← g1.2]; exact xset_ne _ _ hq
    unfold fX4_error at g2
    have z : (-1000000000 : Int32) - (-1000000002) = I 2 := by decide
    rw [z, nm_s, chk_t (inB_I (by decide) (by decide)), chk_t (inB_I (by decide) (by decide)), nm_s] at g2
    simp only [Option.some.injEq, Prod.mk.injEq] at g2
    obtain ⟨q1, q2, q3, q4, q5⟩ := hq
    refine ⟨q1.fr (fun q a c => o q (by omega)), q2.fr (fun q a => o q (by omega)), q3.fr (fun q a => o q (by omega)), q4, fun i hi => ?_⟩
    rw [← g2.2, mIA_IA, if_neg (by decide)]
    exact q5 i hi
  · unfold fX4_error at g2
    have z : (-1000000000 : Int32) - (-1000000002) = I 2 := by decide
    rw [z, nm_s, chk_t (inB_I (by decide) (by decide)), chk_t (inB_I (by decide) (by decide)), nm_s] at g2
    simp only [Option.some.injEq, Prod.mk.injEq] at g2
    rw [← g2.2, mIA_IA, if_neg (by decide)]
theorem op_limitFor (h : RL b u S) (x : Int32) : OpR b (fX0_limitFor b x u) (fX4_limitFor x S) := by
  unfold fX0_limitFor fX4_limitFor
  rw [in_x, bnd_s, in_m, bnd_s]
  by_cases c : inP x 0 40 = 0
  · rw [if_pos c, if_pos c]
    obtain ⟨u', S', g1, g2, g3⟩ := err1 h
    exact ⟨_, u', S', by rw [chk_t h.pb.isP, g1, bnd_s], by rw [g2, bnd_s], g3⟩
  · rw [if_neg c, if_neg c]
    obtain ⟨n, -, n2, rfl⟩ := in_lo (lo := 0) (hi := 40) (by decide) (by decide) c
    obtain ⟨u1, S1, hd, tx, t1, t2, t3, t4, t5, t6⟩ := h.think
    rw [h.r4, bn1_s, h.pb.r2, bn1_s, chk_t h.isA, t1, bn1_s, t2, bn1_s]
    have e99 : (99 : Int32) = I 99 := rfl
    have z4 : ((4 : Int32)).toNatClampNeg = 4 := rfl
    have key : ∀ (j w : Nat), w + j = 100 → ∀ f, j < f → ∀ (u : XS) (S : MS) (r : Nat → Int32), RL b u S → AsQ b u S r hd tx → (∀ i, i < 382 → mIA S 0 i = r i) → OpR b (lX0_limitFor_29 f b (I n) (I w) u) (lX4_limitFor_23 f (I n) (I w) S) := by
      intro j
      induction j with
      | zero =>
        intro w hw f hf u S r h hq hr
        obtain ⟨f, rfl⟩ : ∃ g, f = g + 1 := ⟨f - 1, by omega⟩
        have eX : lX0_limitFor_29 (f + 1) b (I n) (I w) u = bX0_limitFor_29 (lX0_limitFor_29 f) b (I n) (I w) u := rfl
        have eM : lX4_limitFor_23 (f + 1) (I n) (I w) S = bX4_limitFor_23 (lX4_limitFor_23 f) (I n) (I w) S := rfl
        rw [eX, eM]
        unfold bX0_limitFor_29 bX4_limitFor_23
        have lt : I 99 < I w := by rw [I_lt (by omega) (by omega)]; omega
        obtain ⟨u2, S2, g1, g2, g3, g4, g5⟩ := err2_as h hq
        obtain ⟨u3, S3, p1, p2, p3, p4, p5, p6, p7⟩ := g3.back g4
        rw [e99, if_pos lt, if_pos lt, chk_t h.pb.isP, g1, bnd_s, g3.pb.r2, bn1_s, g3.r4, bn1_s, chk_t g3.isH, p1, bn1_s, g2, bnd_s]
        refine ⟨_, u3, S2, rfl, rfl, p3.sim (p7.both mKeep.rfl') (fun i hi => ?_)⟩
        rw [g5, hr i hi, p5 i hi]
      | succ j ih =>
        intro w hw f hf u S r h hq hr
        obtain ⟨f, rfl⟩ : ∃ g, f = g + 1 := ⟨f - 1, by omega⟩
        have eX : lX0_limitFor_29 (f + 1) b (I n) (I w) u = bX0_limitFor_29 (lX0_limitFor_29 f) b (I n) (I w) u := rfl
        have eM : lX4_limitFor_23 (f + 1) (I n) (I w) S = bX4_limitFor_23 (lX4_limitFor_23 f) (I n) (I w) S := rfl
        rw [eX, eM]
        unfold bX0_limitFor_29 bX4_limitFor_23
        have lt : ¬ I 99 < I w := by rw [I_lt (by omega) (by omega)]; omega
        have h' := h
        obtain ⟨hdd, txx, hX, hI, hO⟩ := h'
        obtain ⟨u2, a1, a2, a3⟩ := hX.setF (f := 3) (by decide) (by decide) (I w)
        have a2 : XQ u2 b (upd (mIA S 0) 4 (I w)) hdd txx (mIF S 3) := a2
        have R2 : RL b u2 (sIA S 0 (upd (mIA S 0) 4 (I w))) := RL.row' hO a3 (fun q => hse_oth) (mKeep.r _) (m00 _ _) a2 (hI.upd (Or.inr (Or.inr (Or.inl rfl))))
        have hq2 : AsQ b u2 (sIA S 0 (upd (mIA S 0) 4 (I w))) r hd tx := hq.fr (a3.oth (fun q => hse_oth)) (by rw [mIA_IA, if_neg (by decide)])
        have hI2 := R2.inv
        have on2 : onP (mIA (sIA S 0 (upd (mIA S 0) 4 (I w))) 0) = onP r := by
          have en : nM (mIA (sIA S 0 (upd (mIA S 0) 4 (I w))) 0) = nM r := by
            rw [m00]; unfold nM; rw [upd_ne _ _ (by decide), hr 2 (by decide)]
          refine (on_eq hq.2.2.2.1 hI2 en).mpr (fun i hi => ?_)
          have := hq.2.2.2.1.1.2
          rw [m00, upd_ne _ _ (by omega), hr _ (by omega)]
        obtain ⟨T, q1, q2, q3, q4⟩ := stay_m n2 n 0 (by omega) FU (by show n < 1000; omega) (sIA S 0 (upd (mIA S 0) 4 (I w))) hI2 rfl
        obtain ⟨u3, S3, v1, v2, v3, v4, v5⟩ := lim_x (v := I w) n2 (lX0_limitFor_29 f) n 0 (by omega) FU (by show n < 1000; omega) u2 _ R2 hq2
        have hd1 : fX4_doStay (I n) (sIA S 0 (upd (mIA S 0) 4 (I w))) = some (if onP (goN n (mIA (sIA S 0 (upd (mIA S 0) 4 (I w))) 0)) = onP (mIA (sIA S 0 (upd (mIA S 0) 4 (I w))) 0) then 1 else 0, T) := by
          unfold fX4_doStay
          rw [on_m hI2, bnd_s]
          exact q1
        have v1 : lX0_limitFor_45 (lX0_limitFor_29 f) FU b (I n) (I w) 0 u2 = _ := v1
        have hT : ∀ i, i < 382 → mIA T 0 i = r i := fun i hi => by rw [q4 i hi]; exact hq2.2.2.2.2 i hi
        have RT : RL b u3 T := v2.sim (v5.both q2) (fun i hi => by rw [hT i hi, v4 i hi])
        have QT : AsQ b u3 T r hd tx := v3.sim (fun i hi => by rw [q3]; exact hq2.2.2.2.2 i hi)
        rw [e99, if_neg lt, if_neg lt, h.pb.r2, bn1_s, a1, bn1_s, v1, z4, nm_s, hd1, bnd_s]
        rw [on2]
        by_cases d : onP (goN n (mIA (sIA S 0 (upd (mIA S 0) 4 (I w))) 0)) = onP r
        · rw [if_pos d, if_pos d, if_neg (by decide)]
          exact ⟨_, u3, T, rfl, rfl, RT⟩
        · rw [if_neg d, if_neg d, if_pos rfl, nm_s, I_succ]
          exact ih (w + 1) (by omega) f (by omega) u3 T r RT QT hT
    exact key 100 0 (by omega) FU (by decide) u1 S1 _ t3 t4 (fun i hi => by rw [t5])
end OPS12
/-! sheets -/
theorem insA_of {u : XS} {a t t' n : Nat} {f : Nat → Int32} (h : u.1 a = some (aeI t' n f)) (ht : t' ≤ 2) : insA u a t = some (if t' = t then 1 else 0) := by
  unfold insA
  rw [h]
  exact if_pos ht
theorem isA_of {u : XS} {a t n : Nat} {f : Nat → Int32} (h : u.1 a = some (aeI t n f)) : isA u a t = true := by
  unfold isA
  rw [h]
  exact decide_eq_true rfl
theorem xLen_of {u : XS} {a t n : Nat} {f : Nat → Int32} (h : u.1 a = some (aeI t n f)) (ht : t ≤ 2) : xLen u a = some n := by
  unfold xLen
  rw [h]
  exact if_pos ht
theorem size_x {u : XS} {a t n : Nat} {f : Nat → Int32} (h : u.1 a = some (aeI t n f)) (ht : t ≤ 2) : fX0_sizeOf a u = some (I n, u) := by
  unfold fX0_sizeOf bX0_sizeOf_35
  have hc : t = 0 ∨ t = 1 ∨ t = 2 := by omega
  rcases hc with rfl | rfl | rfl
  · rw [insA_of h (by decide), bn1_s, if_pos (by decide), insA_of h (by decide), bn1_s, if_pos (by decide), chk_t (isA_of h), xLen_of h (by decide), bn1_s]; rfl
  · rw [insA_of h (by decide), bn1_s, if_neg (by decide), chk_t (isA_of h), xLen_of h (by decide), bn1_s]; rfl
  · rw [insA_of h (by decide), bn1_s, if_pos (by decide), insA_of h (by decide), bn1_s, if_neg (by decide), chk_t (isA_of h), xLen_of h (by decide), bn1_s]; rfl
theorem numb_x {u : XS} {a t n : Nat} {f : Nat → Int32} (h : u.1 a = some (aeI t n f)) (ht : t ≤ 2) (hn : n ≤ 24) {k : Nat} (hk : k < n) : fX0_numberOf a (I k) u = some (f k, u) := by
  unfold fX0_numberOf bX0_numberOf_38
  have g := aI_of h hk (by omega)
  have hc : t = 0 ∨ t = 1 ∨ t = 2 := by omega
  rcases hc with rfl | rfl | rfl
  · rw [insA_of h (by decide), bn1_s, if_pos (by decide), insA_of h (by decide), bn1_s, if_pos (by decide), chk_t (isA_of h), g, bn1_s]
  · rw [insA_of h (by decide), bn1_s, if_neg (by decide), chk_t (isA_of h), g, bn1_s]
  · rw [insA_of h (by decide), bn1_s, if_pos (by decide), insA_of h (by decide), bn1_s, if_neg (by decide), chk_t (isA_of h), g, bn1_s]
theorem sh_x (x : Int32) (u : XS) : fX0_isSheet x u = some (inP x 0 3, u) := by
  unfold fX0_isSheet
  rw [in_x, bnd_s, chk_t (inP_B _ _ _)]
theorem sh_m (x : Int32) (S : MS) : fX4_isSheet x S = some (inP x 0 3, S) := by
  unfold fX4_isSheet
  rw [in_m, bnd_s, chk_t (inP_B _ _ _)]
