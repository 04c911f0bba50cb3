/-! sheet, whole -/
section SH10
variable {b : Nat} {u : XS} {S : MS}
theorem Ex.thr (h : fin u) (ci : Nat) : Ex u (xthr u ci) := fun q x e => by
  have := h q x e
  show va_up u.1 (u.2 + 2) _ q = some x
  rw [va_up_ne _ _ (by omega)]; exact e
theorem thr_at (u : XS) (ci : Nat) : (xthr u ci).1 (u.2 + 2) = some (aeO ci []) := va_up_self _ _ _
theorem op_sheet (h : RL b u S) (hf : fin u) (x y z : Int32) : OpR b (fX0_sheet b x y z u) (fX4_sheet x y z S) := by
  have htop := h.top hf
  have er : ∀ (X : Option (Int32 × XS)) (M : Option (Int32 × MS)), X = bX0_sheet_29 b u → M = bX4_sheet_29 S → OpR b X M := by
    intro X M e1 e2
    obtain ⟨u', S', g1, g2, g3⟩ := err1 h
    exact ⟨_, u', S', by rw [e1]; unfold bX0_sheet_29; rw [chk_t h.pb.isP, g1, bnd_s], by rw [e2]; unfold bX4_sheet_29; rw [g2, bnd_s], g3⟩
  unfold fX0_sheet fX4_sheet
  rw [sh_x, bnd_s, sh_m, bnd_s]
  by_cases c : inP x 0 3 = 0
  · rw [if_pos c, if_pos c]; exact er _ _ rfl rfl
  · obtain ⟨s, -, s2, rfl⟩ := in_lo (lo := 0) (hi := 3) (by decide) (by decide) c
    obtain ⟨ad, a1, a2, a3, a4⟩ := h.sheet (s := s) (by omega)
    rw [if_neg c, if_neg c]
    have e24 : (24 : Int32) = I 24 := rfl
    have sl : ∃ ad, u.1 (b + 58 + s) = some (aeO 2 [va_rf ad]) := by
      obtain ⟨hd, tx, hX, hI, hO⟩ := h
      obtain ⟨ad, s1, s2', s3⟩ := hO.2.2.2.2
      exact ⟨ad s, (s2' s (by omega)).1⟩
    -- a new array
    have mk : ∀ (t : Nat) (bt : Int32) (n : Nat), ((t = 0 ∧ bt = 32) ∨ (t = 1 ∧ bt = 8) ∨ (t = 2 ∧ bt = 16)) → n ≤ 24 → OpR b (bX0_sheet_92 b (b + 58 + s) (some u.2) (xnew u (aeI t n (fun _ => 0)))) (bX4_sheet_68 (I s) bt (I n) S) := by
      intro t bt n hb hn
      have hbt : ¬ bt = 0 := by rcases hb with ⟨-, e⟩ | ⟨-, e⟩ | ⟨-, e⟩ <;> (rw [e]; decide)
      obtain ⟨g, g1, g2, g3⟩ := sh68_m (show s < 4 by omega) bt (I n) S
      rw [if_neg hbt] at g1
      have R1 := h.ex (Ex.new hf (aeI t n (fun _ => 0)))
      obtain ⟨ad0, sl⟩ := sl
      have sl1 : (xnew u (aeI t n (fun _ => 0))).1 (b + 58 + s) = some (aeO 2 [va_rf ad0]) := (Ex.new hf _) _ _ sl
      have q92 : bX0_sheet_92 b (b + 58 + s) (some u.2) (xnew u (aeI t n (fun _ => 0))) = some (1, xset (xnew u (aeI t n (fun _ => 0))) (b + 58 + s) (aeO 2 [va_rf (some u.2)])) := by
        unfold bX0_sheet_92
        rw [pF_of sl1 (by show 0 < 1; decide), bn1_s]
        rfl
      rw [q92, g1]
      refine ⟨1, _, _, rfl, rfl, R1.nsheet (show s < 4 by omega) rfl (fun k h5 h6 h7 => by rw [mIA_IA, if_neg h7, mIA_IA, if_neg h6, mIA_IA, if_neg h5]) (fun k => rfl) (fun i hi hne => ⟨by rw [mIA_IA, if_neg (by decide), mIA_IA, if_neg (by decide), mIA_IA, if_pos rfl, upd_ne _ _ hne], by rw [mIA_IA, if_neg (by decide), mIA_IA, if_pos rfl, upd_ne _ _ hne]⟩) (fun i hi hne => by rw [mIA_IA, if_pos rfl]; exact g3 i hne) ?_ ?_⟩
      · refine Or.inr ⟨u.2, t, n, fun _ => 0, rfl, by omega, ?_, ?_, ?_, hn, fun k hk => ?_⟩
        · rw [xset_ne _ _ (by omega)]; exact xnew_at _ _
        · rw [mIA_IA, if_neg (by decide), mIA_IA, if_neg (by decide), mIA_IA, if_pos rfl, upd_at]; exact hb
        · rw [mIA_IA, if_neg (by decide), mIA_IA, if_pos rfl, upd_at]
        · rw [mIA_IA, if_pos rfl, g2 _ (by omega) (by omega)]
      · intro q eq s' hs' hne hq
        cases eq
        obtain ⟨adn, -, -, b3, b4⟩ := h.sheet (s := s') hs'
        have hx : ∃ ad1, u.1 (b + 58 + s') = some (aeO 2 [va_rf ad1]) := by
          obtain ⟨hd, tx, hX, hI, hO⟩ := h
          obtain ⟨ad, s1, s2', s3⟩ := hO.2.2.2.2
          exact ⟨ad s', (s2' s' hs').1⟩
        obtain ⟨ad1, hx⟩ := hx
        have hx2 := (Ex.new hf (aeI t n (fun _ => 0))) _ _ hx
        have e1 := gQ_of (k := 0) (v := ad1) hx2 rfl
        have e2 := gQ_of (k := 0) (v := ad1) hx rfl
        rw [e1] at hq
        rw [e2] at b3
        have e3 : ad1 = some u.2 := Option.some.inj hq
        have e4 : ad1 = adn := Option.some.inj b3
        rw [← e4, e3] at b4
        obtain ⟨t', n', f', -, -, y3, -⟩ := b4.yes
        have := hf _ _ y3
        omega
    -- no array of a negative size
    have neg : OpR b (chk (isC (xthr u 16) (u.2 + 2) 16) (chk (isC (xthr u 16) b 0) (bnd (fX0_finds b (3 : Int32) (xthr u 16)) fun v44 S42 => some (v44, S42)))) (bnd (fX4_error (-1000000003 : Int32) S) fun v22 S21 => some (v22, S21)) := by
      have R1 := h.ex (Ex.thr hf 16)
      obtain ⟨u', S', g1, g2, g3⟩ := err3 R1
      exact ⟨_, u', S', by rw [chk_t (isC_of (thr_at u 16)), chk_t R1.pb.isP, g1, bnd_s], by rw [g2, bnd_s], g3⟩
    have big : OpR b (chk (isC u b 0) (bnd (fX0_finds b (1 : Int32) u) fun v50 S48 => some (v50, S48))) (bnd (fX4_error (-1000000001 : Int32) S) fun v17 S16 => some (v17, S16)) := by
      obtain ⟨u', S', g1, g2, g3⟩ := err1 h
      exact ⟨_, u', S', by rw [chk_t h.pb.isP, g1, bnd_s], by rw [g2, bnd_s], g3⟩
    have core : ∀ (t : Nat) (bt : Int32), ((t = 0 ∧ bt = 32) ∨ (t = 1 ∧ bt = 8) ∨ (t = 2 ∧ bt = 16)) → OpR b (if z ≤ (24 : Int32) then (if z < 0 then chk (isC (xthr u 16) (u.2 + 2) 16) (chk (isC (xthr u 16) b 0) (bnd (fX0_finds b (3 : Int32) (xthr u 16)) fun v44 S42 => some (v44, S42))) else chk (decide (z.toNatClampNeg ≤ 24)) (nm (xnew u (aeI t z.toNatClampNeg (fun _ => 0))) fun S38 => bX0_sheet_92 b (b + 58 + s) (some u.2) S38)) else chk (isC u b 0) (bnd (fX0_finds b (1 : Int32) u) fun v50 S48 => some (v50, S48))) (bX4_sheet_36 (I s) bt z S) := by
      intro t bt hb
      have hbt : ¬ bt ≤ 0 := by rcases hb with ⟨-, e⟩ | ⟨-, e⟩ | ⟨-, e⟩ <;> (rw [e]; decide)
      unfold bX4_sheet_36 bX4_sheet_51
      rw [if_neg hbt, if_neg hbt]
      by_cases z0 : z < 0
      · have z1 : z ≤ 24 := by rw [Int32.lt_iff_toInt_lt] at z0; rw [Int32.le_iff_toInt_le]; have q0 : (0 : Int32).toInt = 0 := rfl; have q24 : (24 : Int32).toInt = 24 := rfl; omega
        have z2 : ¬ 0 ≤ z := by rw [Int32.lt_iff_toInt_lt] at z0; rw [Int32.le_iff_toInt_le]; omega
        rw [if_pos z1, if_pos z0, if_neg z2]
        exact neg
      · have z2 : 0 ≤ z := by rw [Int32.lt_iff_toInt_lt] at z0; rw [Int32.le_iff_toInt_le]; omega
        rw [if_pos z2]
        by_cases z1 : z ≤ 24
        · rw [if_pos z1, if_pos z1, if_neg z0]
          have ez := I_of z0
          have hn : z.toNatClampNeg ≤ 24 := by
            rw [Int32.le_iff_toInt_le] at z1
            have q24 : (24 : Int32).toInt = 24 := rfl
            unfold Int32.toNatClampNeg
            omega
          rw [chk_t (decide_eq_true hn), nm_s]
          have m := mk t bt z.toNatClampNeg hb hn
          rw [← ez] at m
          exact m
        · rw [if_neg z1, if_neg z1]
          exact big
    by_cases y0 : y = 0
    · rw [if_pos y0, if_pos y0]
      unfold bX0_sheet_35 bX0_sheet_51 bX4_sheet_36 bX4_sheet_51
      rw [if_pos y0, a1, bn1_s, a2, bn1_s, if_pos y0, if_pos (by rw [y0]; decide), if_pos (by rw [y0]; decide)]
      obtain ⟨g, g1, g2, g3⟩ := sh68_m (show s < 4 by omega) y z S
      obtain ⟨ad0, sl⟩ := sl
      rw [g1, if_pos y0]
      have q92 : bX0_sheet_92 b (b + 58 + s) none u = some (1, xset u (b + 58 + s) (aeO 2 [va_rf none])) := by
        unfold bX0_sheet_92
        rw [pF_of sl (by show 0 < 1; decide), bn1_s]
        rfl
      rw [q92]
      refine ⟨1, _, _, rfl, rfl, h.nsheet (show s < 4 by omega) rfl (fun k h5 h6 h7 => by rw [mIA_IA, if_neg h7, mIA_IA, if_neg h6, mIA_IA, if_neg h5]) (fun k => rfl) (fun i hi hne => ⟨by rw [mIA_IA, if_neg (by decide), mIA_IA, if_neg (by decide), mIA_IA, if_pos rfl, upd_ne _ _ hne], by rw [mIA_IA, if_neg (by decide), mIA_IA, if_pos rfl, upd_ne _ _ hne]⟩) (fun i hi hne => by rw [mIA_IA, if_pos rfl]; exact g3 i hne) (Or.inl ⟨rfl, ?_⟩) (fun q e => by cases e)⟩
      rw [mIA_IA, if_neg (by decide), mIA_IA, if_neg (by decide), mIA_IA, if_pos rfl, upd_at]; exact y0
    · rw [if_neg y0, if_neg y0]
      by_cases y8 : y = 8
      · subst y8
        rw [if_pos rfl, if_pos rfl]
        unfold bX0_sheet_35 bX0_sheet_51
        rw [if_neg y0, a1, bn1_s, a2, bn1_s, if_neg y0, if_pos rfl]
        exact core 1 8 (Or.inr (Or.inl ⟨rfl, rfl⟩))
      · rw [if_neg y8, if_neg y8]
        by_cases y16 : y = 16
        · subst y16
          rw [if_pos rfl, if_pos rfl]
          unfold bX0_sheet_35 bX0_sheet_51
          rw [if_neg y0, a1, bn1_s, a2, bn1_s, if_neg y0, if_neg y8, if_pos rfl]
          exact core 2 16 (Or.inr (Or.inr ⟨rfl, rfl⟩))
        · rw [if_neg y16, if_neg y16]
          by_cases y32 : y = 32
          · subst y32
            rw [if_pos rfl, if_pos rfl]
            unfold bX0_sheet_35 bX0_sheet_51
            rw [if_neg y0, a1, bn1_s, a2, bn1_s, if_neg y0, if_neg y8, if_neg y16]
            exact core 0 32 (Or.inl ⟨rfl, rfl⟩)
          · rw [if_neg y32, if_neg y32]
            exact er _ _ rfl rfl
end SH10
