/-! a house follows another -/
theorem I0 : (0 : Int32) = I 0 := rfl
theorem cpI_of {u : XS} {t a0 a n : Nat} {f g : Nat → Int32} (h0 : u.1 a0 = some (aeI t n f)) (h1 : u.1 a = some (aeI t n g)) (hn : n < 2 ^ 31) (hf : ∀ i, i < n → fits (tyT t) (.int (f i)) = true) : cpI u t a0 0 a 0 (I n) = some (xset u a (aeI t n (va_cpy f g 0 0 n))) := by
  unfold cpI
  rw [xArr_of h0]
  show (match xArr u a t with
    | some (n1, g) => if cpOk t f n n1 0 0 (I n) = true then some (xset u a (aeI t n1 (va_cpy f g (0 : Int32).toNatClampNeg (0 : Int32).toNatClampNeg (I n).toNatClampNeg))) else none
    | none => none) = _
  rw [xArr_of h1]
  have z : (0 : Int32).toNatClampNeg = 0 := rfl
  show (if cpOk t f n n 0 0 (I n) = true then some (xset u a (aeI t n (va_cpy f g (0 : Int32).toNatClampNeg (0 : Int32).toNatClampNeg (I n).toNatClampNeg))) else none) = _
  have c : cpOk t f n n 0 0 (I n) = true := by
    unfold cpOk
    rw [z, I_nat hn]
    simp only [Bool.and_eq_true, Bool.not_eq_true', decide_eq_true_eq, decide_eq_false_iff_not, List.all_eq_true, List.mem_range]
    exact ⟨⟨⟨⟨⟨by decide, by decide⟩, I_nn hn⟩, by omega⟩, by omega⟩, fun i hi => by rw [Nat.zero_add]; exact hf i hi⟩
  rw [if_pos c, z, I_nat hn]
theorem cpQ_of {u : XS} {t ci a0 a n : Nat} {f g : Nat → Option Nat} (h0 : u.1 a0 = some (aeQ t n f)) (h1 : u.1 a = some (aeQ t n g)) (hn : n < 2 ^ 31) (hf : ∀ i, i < n → f i = none ∨ ∃ y fs, f i = some y ∧ u.1 y = some (aeO ci fs)) : cpQ u t ci a0 0 a 0 (I n) = some (xset u a (aeQ t n (va_cpy f g 0 0 n))) := by
  unfold cpQ
  rw [xArrQ_of h0]
  show (match xArrQ u a t with
    | some (n1, g) => if cpOkQ u ci f n n1 0 0 (I n) = true then some (xset u a (aeQ t n1 (va_cpy f g (0 : Int32).toNatClampNeg (0 : Int32).toNatClampNeg (I n).toNatClampNeg))) else none
    | none => none) = _
  rw [xArrQ_of h1]
  have z : (0 : Int32).toNatClampNeg = 0 := rfl
  show (if cpOkQ u ci f n n 0 0 (I n) = true then some (xset u a (aeQ t n (va_cpy f g (0 : Int32).toNatClampNeg (0 : Int32).toNatClampNeg (I n).toNatClampNeg))) else none) = _
  have c : cpOkQ u ci f n n 0 0 (I n) = true := by
    unfold cpOkQ
    rw [z, I_nat hn]
    simp only [Bool.and_eq_true, Bool.not_eq_true', decide_eq_true_eq, decide_eq_false_iff_not, List.all_eq_true, List.mem_range]
    refine ⟨⟨⟨⟨⟨by decide, by decide⟩, I_nn hn⟩, by omega⟩, by omega⟩, fun i hi => ?_⟩
    rw [Nat.zero_add]
    rcases hf i hi with e | ⟨y, fs, e, e2⟩
    · rw [e]
    · rw [e]
      show (match xObj u y with
        | some (c, _) => decide (c = ci)
        | none => false) = true
      rw [xObj_of e2]
      exact decide_eq_true rfl
  rw [if_pos c, z, I_nat hn]
theorem cpy_eq {α : Type} {f g : Nat → α} {n : Nat} (h : ∀ k, n ≤ k → g k = f k) : va_cpy f g 0 0 n = f := by
  funext k
  unfold va_cpy
  by_cases c : k < n
  · rw [if_pos ⟨by omega, by omega⟩]
    congr 1
    omega
  · rw [if_neg (by omega)]; exact h k (by omega)
theorem fits_int (v : Int32) : fits (tyT 0) (.int v) = true := rfl
theorem fits_byte (v : Int32) : fits (tyT 1) (.int v.toInt8.toInt32) = true := by
  show ((-128 : Int32) ≤ v.toInt8.toInt32 && v.toInt8.toInt32 ≤ (127 : Int32)) = true
  have h1 := v.toInt8.toInt_lt
  have h2 := v.toInt8.le_toInt
  simp only [Bool.and_eq_true, decide_eq_true_eq, Int32.le_iff_toInt_le, Int8.toInt_toInt32]
  have e1 : (-128 : Int32).toInt = -128 := rfl
  have e2 : (127 : Int32).toInt = 127 := rfl
  omega
section FOL
variable {a c : Nat} {ra rc : Nat → Int32} {ha hc ta tc : Nat → Option Nat}
def hoP (fs : List Value) (rc : Nat → Int32) : Nat → List Value
  | 0 => fs
  | k + 1 => (hoP fs rc k).set k (.int (rc (hoI k)))
theorem fol_ints {u : XS} (hac : a + 17 ≤ c ∨ c + 17 ≤ a) (hA : HV u a ra ha ta) (hC : HV u c rc hc tc) (k : XS → Option XS) : ∃ u', (bn1 (gI u c 1 0) fun v58 =>
bn1 (pF u a 1 0 (.int v58)) fun S60 =>
bn1 (gI S60 c 1 1) fun v62 =>
bn1 (pF S60 a 1 1 (.int v62)) fun S64 =>
bn1 (gI S64 c 1 2) fun v66 =>
bn1 (pF S64 a 1 2 (.int v66)) fun S68 =>
bn1 (gI S68 c 1 3) fun v70 =>
bn1 (pF S68 a 1 3 (.int v70)) fun S72 =>
bn1 (gI S72 c 1 4) fun v74 =>
bn1 (pF S72 a 1 4 (.int v74)) fun S76 =>
bn1 (gI S76 c 1 5) fun v78 =>
bn1 (pF S76 a 1 5 (.int v78)) fun S80 =>
bn1 (gI S80 c 1 6) fun v82 =>
bn1 (pF S80 a 1 6 (.int v82)) fun S84 =>
bn1 (gI S84 c 1 7) fun v86 =>
bn1 (pF S84 a 1 7 (.int v86)) k) = k u' ∧ u'.1 a = some (aeO 1 (hoF rc a)) ∧ Fr (fun q => q = a) u u' := by
  have st : ∀ (j : Nat), j < 8 → ∀ v : XS, v.1 a = some (aeO 1 (hoP (hoF ra a) rc j)) → Fr (fun q => q = a) u v → ∃ w, gI v c 1 j = some (rc (hoI j)) ∧ pF v a 1 j (.int (rc (hoI j))) = some w ∧ w.1 a = some (aeO 1 (hoP (hoF ra a) rc (j + 1))) ∧ Fr (fun q => q = a) u w := by
    intro j hj v hv hf
    have hl : ∀ n, n ≤ 8 → (hoP (hoF ra a) rc n).length = 16 := by
      intro n
      induction n with
      | zero => intro _; rfl
      | succ n ih => intro h; show ((hoP (hoF ra a) rc n).set n _).length = 16; rw [List.length_set]; exact ih (by omega)
    refine ⟨_, ?_, pF_of hv (by rw [hl j (by omega)]; omega), xset_at _ _ _, hf.trans (Fr.set _ rfl)⟩
    have hC' : HV v c rc hc tc := hC.fr (fun q p1 p2 => hf.2 q (by omega))
    have h : j = 0 ∨ j = 1 ∨ j = 2 ∨ j = 3 ∨ j = 4 ∨ j = 5 ∨ j = 6 ∨ j = 7 := by omega
    rcases h with rfl | rfl | rfl | rfl | rfl | rfl | rfl | rfl
    · exact hC'.i0
    · exact hC'.i1
    · exact hC'.i2
    · exact hC'.i3
    · exact hC'.i4
    · exact hC'.i5
    · exact hC'.i6
    · exact hC'.i7
  obtain ⟨u1, p1, q1, r1, s1⟩ := st 0 (by decide) u hA.1 Fr.rfl'
  obtain ⟨u2, p2, q2, r2, s2⟩ := st 1 (by decide) u1 r1 s1
  obtain ⟨u3, p3, q3, r3, s3⟩ := st 2 (by decide) u2 r2 s2
  obtain ⟨u4, p4, q4, r4, s4⟩ := st 3 (by decide) u3 r3 s3
  obtain ⟨u5, p5, q5, r5, s5⟩ := st 4 (by decide) u4 r4 s4
  obtain ⟨u6, p6, q6, r6, s6⟩ := st 5 (by decide) u5 r5 s5
  obtain ⟨u7, p7, q7, r7, s7⟩ := st 6 (by decide) u6 r6 s6
  obtain ⟨u8, p8, q8, r8, s8⟩ := st 7 (by decide) u7 r7 s7
  refine ⟨u8, ?_, r8, s8⟩
  rw [p1, bn1_s, q1, bn1_s, p2, bn1_s, q2, bn1_s, p3, bn1_s, q3, bn1_s, p4, bn1_s, q4, bn1_s, p5, bn1_s, q5, bn1_s, p6, bn1_s, q6, bn1_s, p7, bn1_s, q7, bn1_s, p8, bn1_s, q8, bn1_s]
/-- the slots, the first k of which follow -/
def DH (u : XS) (a : Nat) (ra rc : Nat → Int32) (ha hc ta : Nat → Option Nat) (k : Nat) : Prop :=
  u.1 a = some (aeO 1 (hoF rc a)) ∧ u.1 (a + 1) = some (aeQ 4 8 (slF (a + 9) 8)) ∧ u.1 (a + 2) = some (aeI 0 8 (col ra 2)) ∧ u.1 (a + 3) = some (aeI 0 8 (col ra 3)) ∧ u.1 (a + 4) = some (aeI 0 8 (col ra 4)) ∧ u.1 (a + 5) = some (aeI 0 8 (col ra 5)) ∧
  u.1 (a + 6) = some (aeQ 5 2 ta) ∧ u.1 (a + 7) = some (aeI 1 60 (tpF ra)) ∧ u.1 (a + 8) = some (aeI 0 24 (wtF ra)) ∧ ∀ j, j < 8 → u.1 (a + 9 + j) = some (aeO 2 [va_rf (if j < k then hc j else ha j)])
theorem col_z {r : Nat → Int32} {w k : Nat} (h : 8 ≤ k) : col r w k = 0 := if_neg (by omega)
theorem fol_tail {u : XS} (hac : a + 17 ≤ c ∨ c + 17 ≤ a) (hD : DH u a ra rc ha hc ta 8) (hC : HV u c rc hc tc) (htx : ∀ i, i < 2 → tc i = none ∨ ∃ y fs, tc i = some y ∧ u.1 y = some (aeO 13 fs) ∧ ¬ hous a y) (f : Nat) : ∃ u' tx, lX1_follows_66 (f + 1) a c (I 8) u = some u' ∧ HV u' a rc hc tx ∧ tx 0 = tc 0 ∧ tx 1 = tc 1 ∧ Fr (hous a) u u' := by
  obtain ⟨d0, d1, d2, d3, d4, d5, d6, d7, d8, d9⟩ := hD
  have rf : ∀ (v : XS), v.1 a = some (aeO 1 (hoF rc a)) → gR v a 1 9 = some (a + 2) ∧ gR v a 1 10 = some (a + 3) ∧ gR v a 1 11 = some (a + 4) ∧ gR v a 1 12 = some (a + 5) ∧ gR v a 1 13 = some (a + 6) ∧ gR v a 1 14 = some (a + 7) ∧ gR v a 1 15 = some (a + 8) := fun v hv => ⟨gR_of hv rfl, gR_of hv rfl, gR_of hv rfl, gR_of hv rfl, gR_of hv rfl, gR_of hv rfl, gR_of hv rfl⟩
  have ce : ∀ w, va_cpy (col rc w) (col ra w) 0 0 8 = col rc w := fun w => cpy_eq (fun k hk => by rw [col_z hk, col_z hk])
  have te : va_cpy (tpF rc) (tpF ra) 0 0 60 = tpF rc := cpy_eq (fun k hk => by unfold tpF; rw [if_neg (by omega), if_neg (by omega)])
  have we : va_cpy (wtF rc) (wtF ra) 0 0 24 = wtF rc := cpy_eq (fun k hk => by unfold wtF; rw [if_neg (by omega), if_neg (by omega)])
  -- states
  obtain ⟨u1, e1⟩ : ∃ v, v = xset u (a + 2) (aeI 0 8 (col rc 2)) := ⟨_, rfl⟩
  obtain ⟨u2, e2⟩ : ∃ v, v = xset u1 (a + 3) (aeI 0 8 (col rc 3)) := ⟨_, rfl⟩
  obtain ⟨u3, e3⟩ : ∃ v, v = xset u2 (a + 4) (aeI 0 8 (col rc 4)) := ⟨_, rfl⟩
  obtain ⟨u4, e4⟩ : ∃ v, v = xset u3 (a + 5) (aeI 0 8 (col rc 5)) := ⟨_, rfl⟩
  obtain ⟨u5, e5⟩ : ∃ v, v = xset u4 (a + 6) (aeQ 5 2 (va_cpy tc ta 0 0 2)) := ⟨_, rfl⟩
  obtain ⟨u6, e6⟩ : ∃ v, v = xset u5 (a + 7) (aeI 1 60 (tpF rc)) := ⟨_, rfl⟩
  obtain ⟨u7, e7⟩ : ∃ v, v = xset u6 (a + 8) (aeI 0 24 (wtF rc)) := ⟨_, rfl⟩
  have o1 : ∀ q, q ≠ a + 2 → u1.1 q = u.1 q := fun q hq => by rw [e1]; exact xset_ne _ _ hq
  have o2 : ∀ q, q ≠ a + 3 → u2.1 q = u1.1 q := fun q hq => by rw [e2]; exact xset_ne _ _ hq
  have o3 : ∀ q, q ≠ a + 4 → u3.1 q = u2.1 q := fun q hq => by rw [e3]; exact xset_ne _ _ hq
  have o4 : ∀ q, q ≠ a + 5 → u4.1 q = u3.1 q := fun q hq => by rw [e4]; exact xset_ne _ _ hq
  have o5 : ∀ q, q ≠ a + 6 → u5.1 q = u4.1 q := fun q hq => by rw [e5]; exact xset_ne _ _ hq
  have o6 : ∀ q, q ≠ a + 7 → u6.1 q = u5.1 q := fun q hq => by rw [e6]; exact xset_ne _ _ hq
  have o7 : ∀ q, q ≠ a + 8 → u7.1 q = u6.1 q := fun q hq => by rw [e7]; exact xset_ne _ _ hq
  have a1 : u1.1 (a + 2) = some (aeI 0 8 (col rc 2)) := by rw [e1]; exact xset_at _ _ _
  have a2 : u2.1 (a + 3) = some (aeI 0 8 (col rc 3)) := by rw [e2]; exact xset_at _ _ _
  have a3 : u3.1 (a + 4) = some (aeI 0 8 (col rc 4)) := by rw [e3]; exact xset_at _ _ _
  have a4 : u4.1 (a + 5) = some (aeI 0 8 (col rc 5)) := by rw [e4]; exact xset_at _ _ _
  have a5 : u5.1 (a + 6) = some (aeQ 5 2 (va_cpy tc ta 0 0 2)) := by rw [e5]; exact xset_at _ _ _
  have a6 : u6.1 (a + 7) = some (aeI 1 60 (tpF rc)) := by rw [e6]; exact xset_at _ _ _
  have a7 : u7.1 (a + 8) = some (aeI 0 24 (wtF rc)) := by rw [e7]; exact xset_at _ _ _
  have C1 : HV u1 c rc hc tc := hC.fr (fun q p1 p2 => o1 q (by omega))
  have C2 : HV u2 c rc hc tc := C1.fr (fun q p1 p2 => o2 q (by omega))
  have C3 : HV u3 c rc hc tc := C2.fr (fun q p1 p2 => o3 q (by omega))
  have C4 : HV u4 c rc hc tc := C3.fr (fun q p1 p2 => o4 q (by omega))
  have C5 : HV u5 c rc hc tc := C4.fr (fun q p1 p2 => o5 q (by omega))
  have C6 : HV u6 c rc hc tc := C5.fr (fun q p1 p2 => o6 q (by omega))
  have b1 : u1.1 a = some (aeO 1 (hoF rc a)) := (o1 _ (by omega)).trans d0
  have b2 : u2.1 a = some (aeO 1 (hoF rc a)) := (o2 _ (by omega)).trans b1
  have b3 : u3.1 a = some (aeO 1 (hoF rc a)) := (o3 _ (by omega)).trans b2
  have b4 : u4.1 a = some (aeO 1 (hoF rc a)) := (o4 _ (by omega)).trans b3
  have b5 : u5.1 a = some (aeO 1 (hoF rc a)) := (o5 _ (by omega)).trans b4
  have b6 : u6.1 a = some (aeO 1 (hoF rc a)) := (o6 _ (by omega)).trans b5
  have s1 : cpI u 0 (c + 2) 0 (a + 2) 0 (I 8) = some u1 := by rw [cpI_of hC.2.2.1 d2 (by decide) (fun i _ => fits_int _), ce, e1]
  have s2 : cpI u1 0 (c + 3) 0 (a + 3) 0 (I 8) = some u2 := by rw [cpI_of C1.2.2.2.1 ((o1 _ (by omega)).trans d3) (by decide) (fun i _ => fits_int _), ce, e2]
  have s3 : cpI u2 0 (c + 4) 0 (a + 4) 0 (I 8) = some u3 := by rw [cpI_of C2.2.2.2.2.1 ((o2 _ (by omega)).trans ((o1 _ (by omega)).trans d4)) (by decide) (fun i _ => fits_int _), ce, e3]
  have s4 : cpI u3 0 (c + 5) 0 (a + 5) 0 (I 8) = some u4 := by rw [cpI_of C3.2.2.2.2.2.1 ((o3 _ (by omega)).trans ((o2 _ (by omega)).trans ((o1 _ (by omega)).trans d5))) (by decide) (fun i _ => fits_int _), ce, e4]
  have s5 : cpQ u4 5 13 (c + 6) 0 (a + 6) 0 (I 2) = some u5 := by
    rw [cpQ_of (ci := 13) C4.2.2.2.2.2.2.1 ((o4 _ (by omega)).trans ((o3 _ (by omega)).trans ((o2 _ (by omega)).trans ((o1 _ (by omega)).trans d6)))) (by decide) (fun i hi => ?_), e5]
    rcases htx i hi with h | ⟨y, fs, h1, h2, h3⟩
    · exact Or.inl h
    · have hy : ∀ d, d ≤ 16 → y ≠ a + d := fun d hd e => h3 ⟨by omega, by omega⟩
      exact Or.inr ⟨y, fs, h1, (o4 _ (hy 5 (by omega))).trans ((o3 _ (hy 4 (by omega))).trans ((o2 _ (hy 3 (by omega))).trans ((o1 _ (hy 2 (by omega))).trans h2)))⟩
  have s6 : cpI u5 1 (c + 7) 0 (a + 7) 0 (I 60) = some u6 := by
    rw [cpI_of C5.2.2.2.2.2.2.2.1 ((o5 _ (by omega)).trans ((o4 _ (by omega)).trans ((o3 _ (by omega)).trans ((o2 _ (by omega)).trans ((o1 _ (by omega)).trans d7))))) (by decide) (fun i hi => ?_), te, e6]
    unfold tpF
    rw [if_pos hi]
    exact fits_byte _
  have s7 : cpI u6 0 (c + 8) 0 (a + 8) 0 (I 24) = some u7 := by rw [cpI_of C6.2.2.2.2.2.2.2.2.1 ((o6 _ (by omega)).trans ((o5 _ (by omega)).trans ((o4 _ (by omega)).trans ((o3 _ (by omega)).trans ((o2 _ (by omega)).trans ((o1 _ (by omega)).trans d8)))))) (by decide) (fun i _ => fits_int _), we, e7]
  refine ⟨u7, va_cpy tc ta 0 0 2, ?_, ?_, rfl, rfl, ?_⟩
  · show bX1_follows_66 (lX1_follows_66 f) _ _ _ _ = _
    unfold bX1_follows_66
    have i8 : (8 : Int32) = I 8 := rfl
    have i60 : (60 : Int32) = I 60 := rfl
    have i24 : (24 : Int32) = I 24 := rfl
    have i2 : (2 : Int32) = I 2 := rfl
    rw [i8, i60, i24, i2]
    rw [if_pos ((I_le (by decide) (by decide)).mpr (Nat.le_refl _)), hC.r9, bn1_s, (rf u d0).1, bn1_s, s1, bn1_s, C1.r10, bn1_s, (rf u1 b1).2.1, bn1_s, s2, bn1_s, C2.r11, bn1_s, (rf u2 b2).2.2.1, bn1_s, s3, bn1_s, C3.r12, bn1_s, (rf u3 b3).2.2.2.1, bn1_s, s4, bn1_s, C4.r13, bn1_s, (rf u4 b4).2.2.2.2.1, bn1_s, s5, bn1_s, C5.r14, bn1_s, (rf u5 b5).2.2.2.2.2.1, bn1_s, s6, bn1_s, C6.r15, bn1_s, (rf u6 b6).2.2.2.2.2.2, bn1_s, s7, bn1_s]
  · have t : ∀ q, q ≠ a + 2 → q ≠ a + 3 → q ≠ a + 4 → q ≠ a + 5 → q ≠ a + 6 → q ≠ a + 7 → q ≠ a + 8 → u7.1 q = u.1 q := fun q h2 h3 h4 h5 h6 h7 h8 => (o7 q h8).trans ((o6 q h7).trans ((o5 q h6).trans ((o4 q h5).trans ((o3 q h4).trans ((o2 q h3).trans (o1 q h2))))))
    refine ⟨(t _ (by omega) (by omega) (by omega) (by omega) (by omega) (by omega) (by omega)).trans d0, (t _ (by omega) (by omega) (by omega) (by omega) (by omega) (by omega) (by omega)).trans d1, ?_, ?_, ?_, ?_, ?_, ?_, a7, fun k hk => ?_⟩
    · exact (o7 _ (by omega)).trans ((o6 _ (by omega)).trans ((o5 _ (by omega)).trans ((o4 _ (by omega)).trans ((o3 _ (by omega)).trans ((o2 _ (by omega)).trans a1)))))
    · exact (o7 _ (by omega)).trans ((o6 _ (by omega)).trans ((o5 _ (by omega)).trans ((o4 _ (by omega)).trans ((o3 _ (by omega)).trans a2))))
    · exact (o7 _ (by omega)).trans ((o6 _ (by omega)).trans ((o5 _ (by omega)).trans ((o4 _ (by omega)).trans a3)))
    · exact (o7 _ (by omega)).trans ((o6 _ (by omega)).trans ((o5 _ (by omega)).trans a4))
    · exact (o7 _ (by omega)).trans ((o6 _ (by omega)).trans a5)
    · exact (o7 _ (by omega)).trans a6
    · have := d9 k hk
      rw [if_pos hk] at this
      exact (t _ (by omega) (by omega) (by omega) (by omega) (by omega) (by omega) (by omega)).trans this
  · refine ⟨by rw [e7, e6, e5, e4, e3, e2, e1]; rfl, fun q hq => ?_⟩
    have nq : ∀ d, d ≤ 16 → q ≠ a + d := fun d hd e => hq ⟨by omega, by omega⟩
    exact (o7 q (nq 8 (by omega))).trans ((o6 q (nq 7 (by omega))).trans ((o5 q (nq 6 (by omega))).trans ((o4 q (nq 5 (by omega))).trans ((o3 q (nq 4 (by omega))).trans ((o2 q (nq 3 (by omega))).trans (o1 q (nq 2 (by omega))))))))
theorem fol_loop (hac : a + 17 ≤ c ∨ c + 17 ≤ a) : ∀ (j k : Nat), k + j = 8 → ∀ f, j < f → ∀ u : XS, DH u a ra rc ha hc ta k → HV u c rc hc tc → (∀ i, i < 2 → tc i = none ∨ ∃ y fs, tc i = some y ∧ u.1 y = some (aeO 13 fs) ∧ ¬ hous a y) → ∃ u' tx, lX1_follows_66 f a c (I k) u = some u' ∧ HV u' a rc hc tx ∧ tx 0 = tc 0 ∧ tx 1 = tc 1 ∧ Fr (hous a) u u' := by
  intro j
  induction j with
  | zero =>
    intro k hk f hf u hD hC htx
    obtain ⟨f, rfl⟩ : ∃ g, f = g + 1 := ⟨f - 1, by omega⟩
    have e : k = 8 := by omega
    subst e
    exact fol_tail hac hD hC htx f
  | succ j ih =>
    intro k hk f hf u hD hC htx
    obtain ⟨f, rfl⟩ : ∃ g, f = g + 1 := ⟨f - 1, by omega⟩
    obtain ⟨d0, d1, d2, d3, d4, d5, d6, d7, d8, d9⟩ := hD
    have dk := d9 k (by omega)
    have hs : pF u (a + 9 + k) 2 0 (va_rf (hc k)) = some (xset u (a + 9 + k) (aeO 2 [va_rf (hc k)])) := pF_of dk (by show 0 < 1; decide)
    obtain ⟨u1, e1⟩ : ∃ v, v = xset u (a + 9 + k) (aeO 2 [va_rf (hc k)]) := ⟨_, rfl⟩
    have o1 : ∀ q, q ≠ a + 9 + k → u1.1 q = u.1 q := fun q hq => by rw [e1]; exact xset_ne _ _ hq
    obtain ⟨u', tx, h1, h2, h3, h4, h5⟩ := ih (k + 1) (by omega) f (by omega) u1 ⟨(o1 _ (by omega)).trans d0, (o1 _ (by omega)).trans d1, (o1 _ (by omega)).trans d2, (o1 _ (by omega)).trans d3, (o1 _ (by omega)).trans d4, (o1 _ (by omega)).trans d5, (o1 _ (by omega)).trans d6, (o1 _ (by omega)).trans d7, (o1 _ (by omega)).trans d8, fun i hi => by
        by_cases q : i = k
        · subst q
          rw [if_pos (by omega), e1]
          exact xset_at _ _ _
        · rw [o1 _ (by omega), d9 i hi]
          by_cases q2 : i < k
          · rw [if_pos q2, if_pos (by omega)]
          · rw [if_neg q2, if_neg (by omega)]⟩ (hC.fr (fun q p1 p2 => o1 q (by omega))) (fun i hi => by
        rcases htx i hi with h | ⟨y, fs, g1, g2, g3⟩
        · exact Or.inl h
        · exact Or.inr ⟨y, fs, g1, (o1 y (fun e => g3 ⟨by omega, by omega⟩)).trans g2, g3⟩)
    refine ⟨u', tx, ?_, h2, h3, h4, ?_⟩
    · show bX1_follows_66 (lX1_follows_66 f) _ _ _ _ = _
      unfold bX1_follows_66
      have i8 : (8 : Int32) = I 8 := rfl
      have g8 : gR u a 1 8 = some (a + 1) := gR_of d0 rfl
      have sl : aR u (a + 1) 4 (I k) = some (a + 9 + k) := aR_of d1 (show k < 8 by omega) (by decide) (if_pos (by omega))
      rw [i8, if_neg (by rw [I_le (by omega) (by omega)]; omega), g8, bn1_s, sl, bn1_s, hC.r8, bn1_s, hC.slot (by omega), bn1_s, hC.held (by omega), bn1_s, hs, bn1_s, nm_s, I_succ, ← e1, h1]
    · have F1 : Fr (hous a) u u1 := by rw [e1]; exact Fr.set _ ⟨by omega, by omega⟩
      exact F1.trans h5
theorem fol_x {u : XS} (hac : a + 17 ≤ c ∨ c + 17 ≤ a) (hA : HV u a ra ha ta) (hC : HV u c rc hc tc) (htx : ∀ i, i < 2 → tc i = none ∨ ∃ y fs, tc i = some y ∧ u.1 y = some (aeO 13 fs) ∧ ¬ hous a y) : ∃ u' tx, fX1_follows a c u = some u' ∧ HV u' a rc hc tx ∧ tx 0 = tc 0 ∧ tx 1 = tc 1 ∧ Fr (hous a) u u' := by
  obtain ⟨u1, h1, h2, h3⟩ := fol_ints hac hA hC (fun S88 => lX1_follows_66 FU a c (0 : Int32) S88)
  have o1 : ∀ q, q ≠ a → u1.1 q = u.1 q := fun q hq => h3.2 q hq
  obtain ⟨-, d1, d2, d3, d4, d5, d6, d7, d8, d9⟩ := hA
  obtain ⟨u', tx, g1, g2, g3, g4, g5⟩ := fol_loop (a := a) (c := c) (ra := ra) (rc := rc) (ha := ha) (hc := hc) (ta := ta) (tc := tc) hac 8 0 (by omega) FU (by decide) u1 ⟨h2, (o1 _ (by omega)).trans d1, (o1 _ (by omega)).trans d2, (o1 _ (by omega)).trans d3, (o1 _ (by omega)).trans d4, (o1 _ (by omega)).trans d5, (o1 _ (by omega)).trans d6, (o1 _ (by omega)).trans d7, (o1 _ (by omega)).trans d8, fun i hi => by rw [if_neg (by omega)]; exact (o1 _ (by omega)).trans (d9 i hi)⟩ (hC.fr (fun q p1 p2 => o1 q (by omega))) (fun i hi => by
    rcases htx i hi with h | ⟨y, fs, g1, g2, g3⟩
    · exact Or.inl h
    · exact Or.inr ⟨y, fs, g1, (o1 y (fun e => g3 ⟨by omega, by omega⟩)).trans g2, g3⟩)
  refine ⟨u', tx, ?_, g2, g3, g4, (h3.mono (fun q e => ⟨by omega, by omega⟩)).trans g5⟩
  exact h1.trans g1
end FOL
