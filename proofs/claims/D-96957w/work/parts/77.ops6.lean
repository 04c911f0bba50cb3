/-! become, mark, as, pictures, untell -/
theorem ok_kd {k : Nat} (hk : k < 8) {a : Nat} (ha : a ≤ 6) : okU (8 + 6 * k) (I a) := Or.inr (Or.inr (Or.inr (Or.inr (Or.inr (Or.inr (Or.inl ⟨k, hk, rfl, a, ha, rfl⟩))))))
theorem ok_km {k : Nat} (hk : k < 8) {a : Nat} (ha : a ≤ 9) : okU (8 + 6 * k + 1) (I a) := Or.inr (Or.inr (Or.inr (Or.inr (Or.inr (Or.inr (Or.inr (Or.inl ⟨k, hk, rfl, a, ha, rfl⟩)))))))
theorem km_m (x : Int32) (S : MS) : fX4_isKm x S = some (inP x 0 69, S) := by
  unfold fX4_isKm
  rw [in_m, bnd_s, chk_t (inP_B _ _ _)]
/-- a kind and its m, or neither -/
theorem km_or (x : Int32) : (inP x 0 69 = 0 ∧ (x < 0 ∨ (¬ x < 0 ∧ ¬ x / 10 ≤ 6))) ∨ (inP x 0 69 = 1 ∧ ¬ x < 0 ∧ x / 10 ≤ 6 ∧ ∃ kd m, kd ≤ 6 ∧ m ≤ 9 ∧ x / 10 = I kd ∧ x - x / 10 * 10 = I m) := by
  by_cases h0 : x < 0
  · exact Or.inl ⟨by unfold inP; rw [if_pos h0], Or.inl h0⟩
  · have e := I_of h0
    have hlt : x.toNatClampNeg < 2 ^ 31 := by
      have := x.toInt_lt
      unfold Int32.toNatClampNeg
      omega
    generalize x.toNatClampNeg = n at e hlt
    subst e
    have e10 : (10 : Int32) = I 10 := rfl
    have e6 : (6 : Int32) = I 6 := rfl
    have e69 : (69 : Int32) = I 69 := rfl
    have d : I n / 10 = I (n / 10) := by rw [e10, I_div hlt (by decide)]
    have m : I n - I n / 10 * 10 = I (n % 10) := by rw [e10, I_mod hlt (by decide)]
    by_cases h69 : n ≤ 69
    · refine Or.inr ⟨?_, h0, ?_, n / 10, n % 10, by omega, by omega, d, m⟩
      · unfold inP
        rw [if_neg h0, e69, if_neg (by rw [I_lt (by omega) hlt]; omega)]
      · rw [d, e6, I_le (by omega) (by omega)]; omega
    · refine Or.inl ⟨?_, Or.inr ⟨h0, ?_⟩⟩
      · unfold inP
        rw [if_neg h0, e69, if_pos (by rw [I_lt (by omega) hlt]; omega)]
      · rw [d, e6, I_le (by omega) (by omega)]; omega
theorem sIA_IA (S : MS) (k : Nat) (f g : Nat → Int32) : sIA (sIA S k f) k g = sIA S k g := by
  unfold sIA
  congr 1
  funext j
  show (if j = k then g else if j = k then f else _) = if j = k then g else _
  split <;> rfl
section OPS6
variable {b : Nat} {u : XS} {S : MS}
theorem puts0 {k : Nat} (hk : k < 8) (v : Int32) (S : MS) : fX4_puts (I k) 0 v S = some (sIA S 0 (upd (mIA S 0) (8 + 6 * k) v)) := puts_m (w := 0) hk (by decide) v S
theorem puts1 {k : Nat} (hk : k < 8) (v : Int32) (S : MS) : fX4_puts (I k) 1 v S = some (sIA S 0 (upd (mIA S 0) (8 + 6 * k + 1) v)) := puts_m (w := 1) hk (by decide) v S
/-- a new mark in a slot: kind and m become its own -/
theorem RL.newmark (h : RL b u S) (hf : fin u) {k kd m : Nat} (hk : k < nM (mIA S 0)) (hkd : kd ≤ 6) (hm : m ≤ 9) {y : Int32} (hy : y = I m) : ∃ u1 u2, fX0_made (I kd) (I k) y u = some (u.2, u1) ∧ Ex u u1 ∧ fin u1 ∧ pF u1 (b + 3 + 9 + k) 2 0 (.ref u.2) = some u2 ∧ fin u2 ∧ RL b u2 (sIA S 0 (upd (upd (mIA S 0) (8 + 6 * k + 1) (I m)) (8 + 6 * k) (I kd))) ∧ Fr (fun q => (b + 3 ≤ q ∧ q ≤ b + 19) ∨ u.2 ≤ q) u { u2 with snd := u.2 } ∧ u2.2 = u.2 + 1 := by
  have htop := h.top hf
  subst hy
  have h8 := h.inv.1.2
  obtain ⟨u1, a1, a2, a3, a4⟩ := made_x (u := u) hkd (I k) (I m)
  have e1 : Ex u u1 := fun q x e => by rw [a4 q (by have := hf q x e; omega)]; exact e
  have f1 : fin u1 := by
    intro q x e
    rw [a3]
    by_cases c : q = u.2
    · omega
    · rw [a4 q c] at e; have := hf q x e; omega
  obtain ⟨hd, tx, hX, hI, hO⟩ := h.ex e1
  obtain ⟨u2, b1, b2, b3⟩ := hX.hv.setS (k := k) (by omega) (some u.2)
  have F2 := b3.mono (Q := fun q => b + 3 ≤ q ∧ q ≤ b + 19) (fun q e => by omega)
  have o : ∀ q, b + 76 ≤ q → u2.1 q = u1.1 q := fun q hq => F2.2 q (fun k => by omega)
  have n2 : nM (upd (upd (mIA S 0) (8 + 6 * k + 1) (I m)) (8 + 6 * k) (I kd)) = nM (mIA S 0) := by
    unfold nM; rw [upd_ne _ _ (by omega), upd_ne _ _ (by omega)]
  refine ⟨u1, u2, a1, e1, f1, b1, ?_, ?_, ?_, ?_⟩
  · intro q x e
    rw [b3.1]
    by_cases c : q = b + 3 + 9 + k
    · rw [a3]; omega
    · rw [b3.2 q c] at e; exact f1 q x e
  · refine RL.row' (hd := va_up hd k (some u.2)) (tx := tx) hO F2 (fun q => hse_oth) (mKeep.r _) (m00 _ _) ?_ ((hI.upd (ok_km (by omega) hm)).upd (ok_kd (by omega) hkd))
    refine hX.house F2 (b2.rext (fun i hi => by rw [upd_ne _ _ (by omega), upd_ne _ _ (by omega)]) (fun j w hj h2 h5 => by rw [upd_ne _ _ (by omega), upd_ne _ _ (by omega)]) (fun i hi _ => by rw [upd_ne _ _ (by omega), upd_ne _ _ (by omega)])) ?_ ((hX.xv.2.2.2.2.2.fr o).row (fun i hi => by rw [upd_ne _ _ (by omega), upd_ne _ _ (by omega)]))
    intro j hj
    rw [n2] at hj
    by_cases c : j = k
    · subst c
      refine ⟨u.2, va_up_self _ _ _, by omega, ?_⟩
      unfold kdN
      rw [upd_at, upd_ne _ _ (by omega), upd_at, I_nat (by omega), o _ (by omega)]
      exact a2
    · obtain ⟨z, z1, z2, z3⟩ := hX.xv.2.2.2.2.1 j hj
      refine ⟨z, by rw [va_up_ne _ _ c]; exact z1, z2, ?_⟩
      unfold kdN
      rw [upd_ne _ _ (by omega), upd_ne _ _ (by omega), upd_ne _ _ (by omega), upd_ne _ _ (by omega), o _ z2]
      exact z3
  · refine ⟨rfl, fun q hq => ?_⟩
    show u2.1 q = u.1 q
    rw [F2.2 q (fun k => hq (Or.inl k)), a4 q (fun c => hq (Or.inr (by omega)))]
  · rw [b3.1, a3]
theorem op_become (h : RL b u S) (hf : fin u) (x y : Int32) : OpR b (fX0_become b x y u) (fX4_become x y S) := by
  have h' := h
  obtain ⟨hd, tx, hX, hI, hO⟩ := h'
  have h8 := hI.1.2
  have hH := hX.hv
  unfold fX0_become fX4_become bX4_become_15 bX0_become_21
  rw [chk_t h.pb.isP, mk_x hX, bnd_s, mk_mm, bnd_s]
  have er : ∀ (X : Option (Int32 × XS)) (M : Option (Int32 × MS)), X = (chk (isC u b 0) (bnd (fX0_finds b 1 u) fun v4 S2 => some (v4, S2))) → M = (bnd (fX4_error (-1000000001) S) fun v3 S2 => some (v3, S2)) → OpR b X M := by
    intro X M e1 e2
    obtain ⟨u', S', g1, g2, g3⟩ := err1 h
    exact ⟨_, u', S', by rw [e1, chk_t h.pb.isP, g1, bnd_s], by rw [e2, g2, bnd_s], g3⟩
  rcases mkP_or hI x with c | ⟨c, k, hk, rfl⟩
  · rw [if_pos c, if_pos c]
    exact er _ _ rfl rfl
  · have c' : ¬ mkP (mIA S 0) (I k) = 0 := by rw [c]; decide
    rw [if_neg c', if_neg c', km_m, bnd_s]
    rcases km_or y with ⟨q, q2⟩ | ⟨q, q0, q6, kd, m, hkd, hm, ekd, em⟩
    · rw [if_pos q]
      rcases q2 with q2 | ⟨q2, q3⟩
      · rw [if_pos q2]; exact er _ _ rfl rfl
      · rw [if_neg q2, if_neg q3]; exact er _ _ rfl rfl
    · have q' : ¬ inP y 0 69 = 0 := by rw [q]; decide
      rw [if_neg q', if_neg q0, if_pos q6]
      obtain ⟨mm, a1, a2, a3, a4⟩ := at_x hH hI hX.xv.2.2.2.2.1 hk
      obtain ⟨u1, u2, n1, n2, n3, n4, n5, n6, n7, n8⟩ := h.newmark hf hk hkd hm rfl
      have e8 : (8 : Int32) + 6 * I k = I (8 + 6 * k) := by
        have e := ix6 k 0
        have z : I 0 = (0 : Int32) := rfl
        rw [z, Int32.add_zero] at e
        exact e
      refine ⟨mIA S 0 (8 + 6 * k), u2, _, ?_, ?_, n6⟩
      · rw [hX.pb.r2, bn1_s, chk_t hH.isH, a1, bnd_s, kd_x hI hk a4, bnd_s, hX.pb.r2, bn1_s, hH.r8, bn1_s, hH.slot (by omega), bn1_s, em, ekd, n1, bnd_s, n4, bn1_s]
      · rw [em, puts1 (by omega), bn1_s, e8, bec_m (by omega), bnd_s, m00, upd_ne _ _ (by omega), ekd, sIA_IA]
theorem as_dec : ∀ kd, kd ≤ 6 → ∀ t, t ≤ 6 → (subM (5 + kd) (5 + t) = true ↔ (t = 0 ∨ t = kd ∨ (t = 1 ∧ kd = 4) ∨ (t = 2 ∧ kd = 5))) := by decide
theorem insM_of {u : XS} {a ci t : Nat} {fs : List Value} (h : u.1 a = some (aeO ci fs)) (h5 : 5 ≤ ci ∧ ci ≤ 11) : insM u a t = some (if subM ci t = true then 1 else 0) := by
  unfold insM
  rw [xObj_of h]
  simp only [if_pos h5]
theorem isOf_x {u : XS} {a kd t : Nat} {fs : List Value} (h : u.1 a = some (aeO (5 + kd) fs)) (hk : kd ≤ 6) (ht : t ≤ 6) : fX0_isOf a (I t) u = some (if subM (5 + kd) (5 + t) = true then 1 else 0, u) := by
  have hb : ∀ t, isB (if subM (5 + kd) t = true then 1 else 0) = true := by
    intro t
    split <;> rfl
  unfold fX0_isOf
  have hc : t = 0 ∨ t = 1 ∨ t = 2 ∨ t = 3 ∨ t = 4 ∨ t = 5 ∨ t = 6 := by omega
  rcases hc with rfl | rfl | rfl | rfl | rfl | rfl | rfl
  · rw [if_neg (by decide), if_neg (by decide), if_neg (by decide), if_neg (by decide), if_neg (by decide), if_neg (by decide), insM_of h (by omega), bn1_s, chk_t (hb _)]
  · rw [if_pos (by decide), insM_of h (by omega), bn1_s, chk_t (hb _)]
  · rw [if_neg (by decide), if_pos (by decide), insM_of h (by omega), bn1_s, chk_t (hb _)]
  · rw [if_neg (by decide), if_neg (by decide), if_pos (by decide), insM_of h (by omega), bn1_s, chk_t (hb _)]
  · rw [if_neg (by decide), if_neg (by decide), if_neg (by decide), if_pos (by decide), insM_of h (by omega), bn1_s, chk_t (hb _)]
  · rw [if_neg (by decide), if_neg (by decide), if_neg (by decide), if_neg (by decide), if_pos (by decide), insM_of h (by omega), bn1_s, chk_t (hb _)]
  · rw [if_neg (by decide), if_neg (by decide), if_neg (by decide), if_neg (by decide), if_neg (by decide), if_pos (by decide), insM_of h (by omega), bn1_s, chk_t (hb _)]
theorem op_as (h : RL b u S) (x y : Int32) : OpR b (fX0_as b x y u) (fX4_as x y S) := by
  have h' := h
  obtain ⟨hd, tx, hX, hI, hO⟩ := h'
  have h8 := hI.1.2
  have hH := hX.hv
  have er : ∀ (X : Option (Int32 × XS)) (M : Option (Int32 × MS)), X = (chk (isC u b 0) (bnd (fX0_finds b 1 u) fun v4 S2 => some (v4, S2))) → M = (bnd (fX4_error (-1000000001) S) fun v3 S2 => some (v3, S2)) → OpR b X M := by
    intro X M e1 e2
    obtain ⟨u', S', g1, g2, g3⟩ := err1 h
    exact ⟨_, u', S', by rw [e1, chk_t h.pb.isP, g1, bnd_s], by rw [e2, g2, bnd_s], g3⟩
  unfold fX0_as fX4_as bX4_as_18 bX0_as_18
  rw [chk_t h.pb.isP, mk_x hX, bnd_s, mk_mm, bnd_s]
  rcases mkP_or hI x with c | ⟨c, k, hk, rfl⟩
  · rw [if_pos c, if_pos c]
    exact er _ _ rfl rfl
  · rw [if_neg (by rw [c]; decide), if_neg (by rw [c]; decide), in_x, bnd_s, in_m, bnd_s]
    by_cases d : inP y 0 6 = 0
    · rw [if_pos d, if_pos d]
      exact er _ _ rfl rfl
    · obtain ⟨t, -, ht, rfl⟩ := in_lo (lo := 0) (hi := 6) (by decide) (by decide) d
      obtain ⟨mm, a1, a2, a3, a4⟩ := at_x hH hI hX.xv.2.2.2.2.1 hk
      obtain ⟨k1, k6⟩ := kd_ok hI hk
      have dd := as_dec (kdN (mIA S 0) k) k6 t ht
      have yes : subM (5 + kdN (mIA S 0) k) (5 + t) = true → OpR b (fX0_as b (I k) (I t) u) (bX4_as_61 (I k) S) := by
        intro q
        refine ⟨mIA S 0 (8 + 6 * k + 1), u, S, ?_, ?_, h⟩
        · unfold fX0_as
          rw [chk_t h.pb.isP, mk_x hX, bnd_s, if_neg (by rw [c]; decide), in_x, bnd_s, if_neg d, hX.pb.r2, bn1_s, hH.r8, bn1_s, hH.slot (by omega), bn1_s, hH.held (by omega), bn1_s, a2, bn1_s, isOf_x a4 k6 ht, bnd_s, if_pos q, if_neg (by decide), hX.pb.r2, bn1_s, chk_t hH.isH, a1, bnd_s, gIM_of a4 (by omega) rfl, bn1_s]
          rfl
        · unfold bX4_as_61 bX4_as_66 bX4_as_88
          rw [if_neg (by decide), of_1 (by omega), bnd_s]
      have no : ¬ subM (5 + kdN (mIA S 0) k) (5 + t) = true → OpR b (fX0_as b (I k) (I t) u) (bX4_as_65 (I k) S) := by
        intro q
        obtain ⟨u', S', g1, g2, g3⟩ := err5 h
        refine ⟨-1000000005, u', S', ?_, ?_, g3⟩
        · unfold fX0_as
          rw [chk_t h.pb.isP, mk_x hX, bnd_s, if_neg (by rw [c]; decide), in_x, bnd_s, if_neg d, hX.pb.r2, bn1_s, hH.r8, bn1_s, hH.slot (by omega), bn1_s, hH.held (by omega), bn1_s, a2, bn1_s, isOf_x a4 k6 ht, bnd_s, if_neg q, if_pos rfl, chk_t h.pb.isP, g1, bnd_s]
          rfl
        · unfold bX4_as_65 bX4_as_66 bX4_as_88
          rw [if_pos rfl, g2, bnd_s]
      have eX : ∀ M, OpR b (fX0_as b (I k) (I t) u) M → OpR b (if inP (I t) 0 6 = 0 then chk (isC u b 0) (bnd (fX0_finds b 1 u) fun v4 S2 => some (v4, S2)) else bn1 (gR u b 0 2) fun a15 => bn1 (gR u a15 1 8) fun a17 => bn1 (aR u a17 4 (I k)) fun a19 => bn1 (gQ u a19 2 0) fun a21 => bn1 a21 fun a22 => bnd (fX0_isOf a22 (I t) u) fun v26 S25 => (if v26 = 0 then chk (isC S25 b 0) (bnd (fX0_finds b 5 S25) fun v31 S29 => bX0_as_62 b v31 S29) else bn1 (gR S25 b 0 2) fun a33 => chk (isC S25 a33 1) (bnd (fX1_at a33 (I k) S25) fun a37 S35 => bn1 (gIM S35 a37 1) fun v39 => bX0_as_62 b v39 S35))) M := by
        intro M q
        unfold fX0_as bX0_as_18 at q
        rw [chk_t h.pb.isP, mk_x hX, bnd_s, if_neg (by rw [c]; decide), in_x, bnd_s] at q
        exact q
      refine eX _ ?_
      rw [if_neg d, of_0 (by omega), bnd_s, k1]
      unfold bX4_as_51
      have i0 : I t = 0 ↔ t = 0 := I_inj (b := 0) (by omega) (by omega)
      have i1 : I t = 1 ↔ t = 1 := I_inj (b := 1) (by omega) (by omega)
      have i2 : I t = 2 ↔ t = 2 := I_inj (b := 2) (by omega) (by omega)
      have j4 : I (kdN (mIA S 0) k) = 4 ↔ kdN (mIA S 0) k = 4 := I_inj (b := 4) (by omega) (by omega)
      have j5 : I (kdN (mIA S 0) k) = 5 ↔ kdN (mIA S 0) k = 5 := I_inj (b := 5) (by omega) (by omega)
      have jj : I t = I (kdN (mIA S 0) k) ↔ t = kdN (mIA S 0) k := I_inj (by omega) (by omega)
      simp only [i0, i1, i2, j4, j5, jj]
      repeat' split
      all_goals first | exact yes (dd.mpr (by omega)) | exact no (fun z => by have := dd.mp z; omega)
end OPS6
