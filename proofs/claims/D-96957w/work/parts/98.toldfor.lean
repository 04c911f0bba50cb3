/-! toldFor -/
theorem vM : ∀ j, j < 42 → ((I j - 20 = (-20 : Int32)) ↔ j = 0) := by decide
theorem cmp_J0 {a : Nat} (ha : a < 2 ^ 63) : ¬ lg_cmp (J a) 0 < 0 := by
  have h := (cmp_J (a := a) (c := 0) ha (by decide)).mpr (by omega)
  have e : J 0 = (0 : Int64) := rfl
  rw [e] at h
  rw [Int32.lt_iff_toInt_lt]
  rw [Int32.le_iff_toInt_le] at h
  omega
section TF
variable {b : Nat} {u : XS} {S : MS}
theorem op_toldFor (h : RL b u S) (x : Int32) : OpR b (fX0_toldFor b x u) (fX4_toldFor x S) := by
  have h' := h
  obtain ⟨hd0, tx0, hX, hI, hO⟩ := h'
  have h8 := hI.1.2
  unfold fX0_toldFor fX4_toldFor
  rw [chk_t h.pb.isP, mk_x hX, bnd_s, mk_mm, bnd_s]
  rcases mkP_or hI x with c | ⟨c, m, hm, rfl⟩
  · rw [if_pos c, if_pos c]
    obtain ⟨u', S', g1, g2, g3⟩ := err1 h
    exact ⟨_, u', S', by rw [chk_t h.pb.isP, g1, bnd_s], by rw [g2, bnd_s], g3⟩
  · have c' : ¬ mkP (mIA S 0) (I m) = 0 := by rw [c]; decide
    have hm8 : m < 8 := by omega
    rw [if_neg c', if_neg c', chk_t h.pb.isP, held_xx hX.xv hI, bnd_s]
    by_cases q : heldQ (mIA S 0)
    · have q' : tdP (mIA S 0) (onP (mIA S 0)) = allP (mIA S 0) := q
      obtain ⟨S1, g1, g2, g3⟩ := slv_yes hI q
      obtain ⟨g, t1, t2⟩ := cp_02 S1
      have e0 : mIA (sIA S1 2 g) 0 = mIA S 0 := by rw [mIA_IA, if_neg (by decide)]; exact g2.row
      have R1 : RL b u (sIA S1 2 g) := h.sim (g2.keep.trans (mKeep.ia 2 g (by omega))) (fun i hi => by rw [e0])
      have tk : fX4_thinks S1 = some (sIA S1 2 g) := by unfold fX4_thinks; rw [t1, bn1_s]
      rw [if_pos q', if_neg (by decide), g1, bnd_s, if_neg (by decide), tk, bn1_s, h.pb.r2, bn1_s, h.rtold, bn1_s, hX.hv.told hm8, bn1_s]
      obtain ⟨d1, d2⟩ := D_pos hI q
      obtain ⟨dn, edn⟩ : ∃ dn : Nat, DP (mIA S 0) = dn := ⟨(DP (mIA S 0)).toNat, by omega⟩
      have key : ∀ (w j : Nat), j + w = 41 → ∀ f, w < f → ∀ (u : XS) (S' : MS) (xb mb : Int32) (xl xy ml : Int64), RL b u S' → DP (mIA S' 0) = dn → heldQ (mIA S' 0) → m < nM (mIA S' 0) → (∀ i, i < 382 → mIA S' 2 i = mIA S 0 i) → (∀ i, i < 382 → i ≠ 8 + 6 * m + 4 → mIA S' 0 i = mIA S 0 i) →
          ((j = 0 ∧ ml = -1) ∨ (1 ≤ j ∧ xb = mb ∧ ∃ s : Nat, s ≤ 30198988800 ∧ xl = J s ∧ xy = J dn ∧ ml = J (dn * s))) → OpR b (lX0_toldFor_49 f b (I m) xb xl xy (mIA S 0 (8 + 6 * m + 4)) (I j - 20) u) (lX4_toldFor_43 f (I m) mb ml (I j - 20) S') := by
        intro w
        induction w with
        | zero =>
          intro j hj f hf u S' xb mb xl xy ml h hD hh hmN h2 h0 hst
          obtain ⟨f, rfl⟩ : ∃ g, f = g + 1 := ⟨f - 1, by omega⟩
          have eX : lX0_toldFor_49 (f + 1) b (I m) xb xl xy (mIA S 0 (8 + 6 * m + 4)) (I j - 20) u = bX0_toldFor_49 (lX0_toldFor_49 f) b (I m) xb xl xy (mIA S 0 (8 + 6 * m + 4)) (I j - 20) u := rfl
          have eM : lX4_toldFor_43 (f + 1) (I m) mb ml (I j - 20) S' = bX4_toldFor_43 (lX4_toldFor_43 f) (I m) mb ml (I j - 20) S' := rfl
          rw [eX, eM]
          unfold bX0_toldFor_49 bX4_toldFor_43
          have lt := (vJ j (by omega)).mpr (by omega)
          obtain ⟨u2, a1, a2, a3⟩ := h.told hm8 (mIA S 0 (8 + 6 * m + 4))
          obtain ⟨g, p1, p2⟩ := pb_m S'
          rcases hst with ⟨z, -⟩ | ⟨-, eb, -⟩
          · omega
          · rw [if_pos lt, if_pos lt, h.pb.r2, bn1_s, h.rtold, bn1_s, a1, bn1_s, p1, bn1_s, eb]
            refine ⟨_, u2, sIA S' 0 g, rfl, rfl, a2.sim ((mKeep.r _).both (mKeep.r _)) (fun i hi => ?_)⟩
            rw [m00, m00, p2 i hi, h2 i hi]
            by_cases z : i = 8 + 6 * m + 4
            · rw [z, upd_at]
            · rw [upd_ne _ _ z, h0 i hi z]
        | succ w ih =>
          intro j hj f hf u S' xb mb xl xy ml h hD hh hmN h2 h0 hst
          obtain ⟨f, rfl⟩ : ∃ g, f = g + 1 := ⟨f - 1, by omega⟩
          have eX : lX0_toldFor_49 (f + 1) b (I m) xb xl xy (mIA S 0 (8 + 6 * m + 4)) (I j - 20) u = bX0_toldFor_49 (lX0_toldFor_49 f) b (I m) xb xl xy (mIA S 0 (8 + 6 * m + 4)) (I j - 20) u := rfl
          have eM : lX4_toldFor_43 (f + 1) (I m) mb ml (I j - 20) S' = bX4_toldFor_43 (lX4_toldFor_43 f) (I m) mb ml (I j - 20) S' := rfl
          rw [eX, eM]
          unfold bX0_toldFor_49 bX4_toldFor_43
          have lt : ¬ (20 : Int32) < I j - 20 := fun z => by have := (vJ j (by omega)).mp z; omega
          obtain ⟨u2, a1, a2, a3⟩ := h.told hm8 (I j - 20)
          have p4 := puts_m (k := m) (w := 4) hm8 (by decide) (I j - 20) S'
          have y4 : I 4 = (4 : Int32) := rfl
          rw [y4] at p4
          have hI2 := a2.inv
          have er : mIA (sIA S' 0 (upd (mIA S' 0) (8 + 6 * m + 4) (I j - 20))) 0 = upd (mIA S' 0) (8 + 6 * m + 4) (I j - 20) := m00 _ _
          have hh2 : heldQ (mIA (sIA S' 0 (upd (mIA S' 0) (8 + 6 * m + 4) (I j - 20))) 0) := by rw [er]; exact held_tl.mpr hh
          have hD2 : DP (mIA (sIA S' 0 (upd (mIA S' 0) (8 + 6 * m + 4) (I j - 20))) 0) = dn := by rw [er, DP_tl hm8]; exact hD
          rcases sol_both2 a2 with ⟨-, -, no⟩ | ⟨-, hd, tx, u3, S3, e1, e2, e3, e4, e5, e6, e7⟩
          · exact absurd hh2 no
          · obtain ⟨s1, s2⟩ := sm_b hI2 hh2
            obtain ⟨sn, esn⟩ : ∃ sn : Nat, smI' (mIA (sIA S' 0 (upd (mIA S' 0) (8 + 6 * m + 4) (I j - 20))) 0) = sn := ⟨(smI' (mIA (sIA S' 0 (upd (mIA S' 0) (8 + 6 * m + 4) (I j - 20))) 0)).toNat, by omega⟩
            have hI3 : INV (mIA S3 0) := by rw [e6.row]; exact hI2
            obtain ⟨T, t1, t2⟩ := all_m (S := S3) hI3 (by rw [e6.row]; exact e7)
            rw [e6.row, hD2, esn] at t1
            have sx := sum_x hI2 e4
            rw [esn] at sx
            have b1 : dn * sn ≤ 1048576 * 30198988800 := Nat.mul_le_mul (by omega) (by omega)
            have eS : Int64.ofInt ((sn : Nat) : Int) = J sn := ofI_J rfl (by omega)
            have eDS : Int64.ofInt ((dn : Int) * (sn : Int)) = J (dn * sn) := ofI_J (Int.natCast_mul dn sn).symm (by omega)
            have eDn : Int64.ofInt ((dn : Nat) : Int) = J dn := ofI_J rfl (by omega)
            rw [eS] at sx
            rw [eDS] at t1
            have hb : gL u3 b 0 14 = some (J dn) := by
              obtain ⟨N, R, A, wt, sd, hXX, -⟩ := e4
              rw [hXX.getB, hD2, eDn]
            have R3 : RL b u3 T := RL.row' e3.ro (Fr.rfl' (P := scr b)) (fun q => scr_oth) t2.keep (t2.row.trans e6.row) (by rw [e6.2.2 3]; exact e4.d.q) hI2
            have eT0 : mIA T 0 = upd (mIA S' 0) (8 + 6 * m + 4) (I j - 20) := (t2.row.trans e6.row).trans er
            have eT2 : mIA T 2 = mIA S' 2 := by rw [t2.1 2 (by decide) (by decide), e6.1 2 (by decide) (by decide), mIA_IA, if_neg (by decide)]
            have nx : ∀ (xb mb : Int32) (xl xy ml : Int64), (xb = mb ∧ ∃ s : Nat, s ≤ 30198988800 ∧ xl = J s ∧ xy = J dn ∧ ml = J (dn * s)) → OpR b (lX0_toldFor_49 f b (I m) xb xl xy (mIA S 0 (8 + 6 * m + 4)) (I (j + 1) - 20) u3) (lX4_toldFor_43 f (I m) mb ml (I (j + 1) - 20) T) := by
              intro xb mb xl xy ml hs
              refine ih (j + 1) (by omega) f (by omega) u3 T xb mb xl xy ml R3 (by rw [eT0, DP_tl hm8]; exact hD) (by rw [eT0]; exact held_tl.mpr hh) (by rw [eT0, nM_tl]; exact hmN) (fun i hi => by rw [eT2]; exact h2 i hi) (fun i hi hne => by rw [eT0, upd_ne _ _ hne]; exact h0 i hi hne) (Or.inr ⟨by omega, hs⟩)
            have n1 : ¬ (1 : Int32) = 0 := by decide
            have X102 : ∀ xb xl xy, bX0_toldFor_102 (lX0_toldFor_49 f) b (I m) xb xl xy (mIA S 0 (8 + 6 * m + 4)) (I j - 20) u3 = lX0_toldFor_49 f b (I m) xb xl xy (mIA S 0 (8 + 6 * m + 4)) (I (j + 1) - 20) u3 := by
              intro xb xl xy
              unfold bX0_toldFor_102 bX0_toldFor_103 bX0_toldFor_127
              rw [if_pos rfl, nm_s, vS]
            have X98 : ∀ xb xl xy, bX0_toldFor_98 (lX0_toldFor_49 f) b (I m) xb xl xy (mIA S 0 (8 + 6 * m + 4)) (I j - 20) u3 = lX0_toldFor_49 f b (I m) (I j - 20) (J sn) (J dn) (mIA S 0 (8 + 6 * m + 4)) (I (j + 1) - 20) u3 := by
              intro xb xl xy
              unfold bX0_toldFor_98 bX0_toldFor_103 bX0_toldFor_127
              rw [if_neg n1, chk_t e3.pb.isP, sx, bnd_s, hb, bn1_s, nm_s, vS]
            have M92 : ∀ mb ml v, bX4_toldFor_92 (lX4_toldFor_43 f) (I m) mb ml (I j - 20) v T = lX4_toldFor_43 f (I m) mb ml (I (j + 1) - 20) T := by
              intro mb ml v
              unfold bX4_toldFor_92 bX4_toldFor_93 bX4_toldFor_106 bX4_toldFor_118
              rw [if_pos rfl, if_pos rfl, nm_s, vS]
            have M88 : ∀ mb ml v, bX4_toldFor_88 (lX4_toldFor_43 f) (I m) mb ml (I j - 20) v T = lX4_toldFor_43 f (I m) (I j - 20) v (I (j + 1) - 20) T := by
              intro mb ml v
              unfold bX4_toldFor_88 bX4_toldFor_93 bX4_toldFor_106 bX4_toldFor_118
              rw [if_neg n1, if_neg n1, nm_s, vS]
            rw [if_neg lt, if_neg lt, h.pb.r2, bn1_s, h.rtold, bn1_s, a1, bn1_s, chk_t a2.pb.isP, e1, bnd_s, if_neg n1, p4, bn1_s, e2, bnd_s, t1, bnd_s, if_neg n1]
            rcases hst with ⟨z, eml⟩ | ⟨z, eb, s, hs, exl, exy, eml⟩
            · have v0 : I j - 20 = (-20 : Int32) := (vM j (by omega)).mpr z
              have l0 : lg_cmp ml 0 < 0 := by rw [eml]; decide
              rw [if_pos v0, X98, if_pos l0, M88]
              exact nx _ _ _ _ _ ⟨rfl, sn, by omega, rfl, rfl, rfl⟩
            · have v0 : ¬ I j - 20 = (-20 : Int32) := fun e => by have := (vM j (by omega)).mp e; omega
              have b3 : dn * s ≤ 1048576 * 30198988800 := Nat.mul_le_mul (by omega) (by omega)
              have c1 : 0 ≤ lg_cmp (J sn * J dn) (J s * J dn) ↔ s ≤ sn := by
                rw [J_mul, J_mul, cmp_J (by rw [Nat.mul_comm]; omega) (by rw [Nat.mul_comm]; omega)]
                exact ⟨fun q => Nat.le_of_mul_le_mul_right q (by omega), fun q => Nat.mul_le_mul_right _ q⟩
              have c2 : 0 ≤ lg_cmp (J (dn * sn)) (J (dn * s)) ↔ s ≤ sn := by
                rw [cmp_J (by omega) (by omega)]
                exact ⟨fun q => Nat.le_of_mul_le_mul_left q (by omega), fun q => Nat.mul_le_mul_left _ q⟩
              have l0 : ¬ lg_cmp ml 0 < 0 := by rw [eml]; exact cmp_J0 (by omega)
              rw [if_neg v0, chk_t e3.pb.isP, sx, bnd_s, hb, bn1_s, if_neg l0, exl, exy, eml]
              by_cases le : s ≤ sn
              · rw [if_pos (c1.mpr le), if_pos (c2.mpr le), X102, M92]
                exact nx _ _ _ _ _ ⟨eb, s, hs, rfl, rfl, rfl⟩
              · rw [if_neg (fun q => le (c1.mp q)), if_neg (fun q => le (c2.mp q)), X98, M88]
                exact nx _ _ _ _ _ ⟨rfl, sn, by omega, rfl, rfl, rfl⟩
      exact key 41 0 (by omega) FU (by decide) u _ (-1) 0 0 1 (-1) R1 (by rw [e0]; exact edn) (by rw [e0]; exact q) (by rw [e0]; exact hm) (fun i hi => by rw [mIA_IA, if_pos rfl, t2 i hi, g2.row]) (fun i hi _ => by rw [e0]) (Or.inl ⟨rfl, rfl⟩)
    · have q' : ¬ tdP (mIA S 0) (onP (mIA S 0)) = allP (mIA S 0) := q
      rw [if_neg q', if_pos rfl, slv_no hI q, bnd_s, if_pos rfl]
      obtain ⟨u', S', g1, g2, g3⟩ := err3 h
      exact ⟨_, u', S', by rw [chk_t h.pb.isP, g1, bnd_s], by rw [g2, bnd_s], g3⟩
end TF
