def fX4_of (x1 : Int32) (x2 : Int32) (S : MS) : Option (Int32 × MS) :=
chk (inB (((8 : Int32) + ((6 : Int32) * x1)) + x2) 382) (some ((mIA S 0 ((((8 : Int32) + ((6 : Int32) * x1)) + x2)).toNatClampNeg), S))
set_option maxHeartbeats 4000000 in
set_option maxRecDepth 100000 in
theorem mX4_of {l : Launch} {D : va_G} {cA : Nat → ClassId} {o : Nat → Nat} {A : Nat → Prop} (x1 : Int32) (x2 : Int32) (S : MS) {out : (Int32 × MS)} (h : fX4_of x1 x2 S = some out) : Met l yX4_of (ws_ yX4_of cX4_of 3 (some .int)) ({ frames := 0, cells := 0, slots := 0, locals := 0 } : Room) (gPc (mK D cA) (mP D cA o A) A [.ref (o 24), .int x1, .int x2] S) (gQi (mK D cA) (mP D cA o A) A out) 0 0 A := by
  refine gMet_z (by decide) (Nat.le_of_ble_eq_true rfl) ?_ mKst
  intro p e s m below meth c Q ls args H locs hC hP hS hl ret
  obtain ⟨hx, hb, hml, hown, hts, hA, hK⟩ := hC
  have hown : s.vm.findClass RX4 = some m.cls := hown
  have hl : lv_has ls 3 [(0, .ref (o 24)), (1, .int x1), (2, .int x2)] := hl
  unfold fX4_of at h
  refine lv_aload_n hx hb dX4_of_0 rfl (lv_at hl 0 rfl) ?_
  refine va_get (D := D) (ci := 4) (v := .ref (o 0)) (C := RX4) (T := TX4) (N := 24) hx hb hts in_X4 hown hK hP.1 0 rfl rfl 0 (by decide) (hts _ q1249) (fun _ h9 => h9) rfl dX4_of_1 ?_
  refine lv_bipush (v := (8 : Int32)) hx hb dX4_of_4 (by decide) ?_
  refine lv_bipush (v := (6 : Int32)) hx hb dX4_of_6 (by decide) ?_
  refine lv_iload_n hx hb dX4_of_8 rfl (lv_at hl 1 rfl) ?_
  refine lv_imul hx hb dX4_of_9 ?_
  refine lv_iadd hx hb dX4_of_10 ?_
  refine lv_iload_n hx hb dX4_of_11 rfl (lv_at hl 2 rfl) ?_
  refine lv_iadd hx hb dX4_of_12 ?_
  obtain ⟨g1, h⟩ := chk_some h
  refine va_iald hx hb hK hP.1 1 0 rfl rfl (inB_in g1) dX4_of_13 ?_
  exact ret _ _ _ _ _ _ dX4_of_14 rfl hP hS h

def bX4_touching_72 (k4 : Int32 → Int32 → Int32 → MS → Option (Int32 × MS)) (x1 : Int32) (x3 : Int32) (t0 : Int32) (t1 : Int32) (S : MS) : Option (Int32 × MS) :=
nm (t0 + t1) fun y1 =>
nm (x3 + (1 : Int32)) fun y2 =>
k4 x1 y1 y2 S
def bX4_touching_71 (k4 : Int32 → Int32 → Int32 → MS → Option (Int32 × MS)) (x1 : Int32) (x3 : Int32) (t0 : Int32) (S : MS) : Option (Int32 × MS) :=
bX4_touching_72 k4 x1 x3 t0 (0 : Int32) S
def bX4_touching_49 (k4 : Int32 → Int32 → Int32 → MS → Option (Int32 × MS)) (x1 : Int32) (x2 : Int32) (x3 : Int32) (t0 : Int32) (S : MS) : Option (Int32 × MS) :=
(if t0 = 0 then
bX4_touching_71 k4 x1 x3 x2 S
else
bnd (fX4_of x3 (5 : Int32) S) fun v6 S5 =>
(if v6 = (1 : Int32) then
bX4_touching_72 k4 x1 x3 x2 (1 : Int32) S5
else
bX4_touching_71 k4 x1 x3 x2 S5))
def bX4_touching_44 (k4 : Int32 → Int32 → Int32 → MS → Option (Int32 × MS)) (x1 : Int32) (x2 : Int32) (x3 : Int32) (S : MS) : Option (Int32 × MS) :=
bX4_touching_49 k4 x1 x2 x3 (1 : Int32) S
def bX4_touching_4 (k4 : Int32 → Int32 → Int32 → MS → Option (Int32 × MS)) (x1 : Int32) (x2 : Int32) (x3 : Int32) (S : MS) : Option (Int32 × MS) :=
(if (mIA S 0 ((2 : Int32)).toNatClampNeg) ≤ x3 then
some (x2, S)
else
bnd (fX4_of x3 (2 : Int32) S) fun v11 S10 =>
bnd (fX4_of x1 (3 : Int32) S10) fun v14 S13 =>
(if v11 = v14 then
bX4_touching_44 k4 x1 x2 x3 S13
else
bnd (fX4_of x3 (3 : Int32) S13) fun v18 S17 =>
bnd (fX4_of x1 (3 : Int32) S17) fun v21 S20 =>
(if v18 = v21 then
bX4_touching_44 k4 x1 x2 x3 S20
else
bX4_touching_49 k4 x1 x2 x3 (0 : Int32) S20)))
def lX4_touching_4 : Nat → (Int32 → Int32 → Int32 → MS → Option (Int32 × MS))
  | 0 => fun _ _ _ _ => none
  | n + 1 => bX4_touching_4 (lX4_touching_4 n)
def fX4_touching (x1 : Int32) (S : MS) : Option (Int32 × MS) :=
lX4_touching_4 FU x1 (0 : Int32) (0 : Int32) S
set_option maxHeartbeats 4000000 in
set_option maxRecDepth 100000 in
theorem mX4_touching {l : Launch} {D : va_G} {cA : Nat → ClassId} {o : Nat → Nat} {A : Nat → Prop} (x1 : Int32) (S : MS) {out : (Int32 × MS)} (h : fX4_touching x1 S = some out) : Met l yX4_touching (ws_ yX4_touching cX4_touching 5 (some .int)) ({ frames := 1, cells := 0, slots := 0, locals := 22 } : Room) (gPc (mK D cA) (mP D cA o A) A [.ref (o 24), .int x1] S) (gQi (mK D cA) (mP D cA o A) A out) 0 0 A := by
  refine gMet_z (by decide) (Nat.le_of_ble_eq_true rfl) ?_ mKst
  intro p e s m below meth c Q ls args H locs hC hP hS hl ret
  obtain ⟨hx, hb, hml, hown, hts, hA, hK⟩ := hC
  have hown : s.vm.findClass RX4 = some m.cls := hown
  have hl : lv_has ls 5 [(0, .ref (o 24)), (1, .int x1)] := hl
  have L4 : ∀ (n4 : Nat) (x1 : Int32) (x2 : Int32) (x3 : Int32) (S : MS) (H : Heap) (locs : List Loc) (ls : Array Slot), mP D cA o A S H → va_S A s.heap H locs → lv_has ls 5 [(0, .ref (o 24)), (1, .int x1), (2, .int x2), (3, .int x3)] → lX4_touching_4 n4 x1 x2 x3 S = some out → W p l e ({ frames := 1, cells := 0, slots := 0, locals := 22 } : Room) s m args below meth c H locs 0 0 Q (F0 m 4 ls []) := by
    intro n4
    induction n4 with
    | zero =>
      intro x1 x2 x3 S H locs ls hP hS hl h
      cases h
    | succ n4 ih4 =>
      have B72 : ∀ (x1 : Int32) (x3 : Int32) (t0 : Int32) (t1 : Int32) (S : MS) (H : Heap) (locs : List Loc) (ls : Array Slot), mP D cA o A S H → va_S A s.heap H locs → lv_has ls 5 [(0, .ref (o 24)), (1, .int x1), (3, .int x3)] → bX4_touching_72 (lX4_touching_4 n4) x1 x3 t0 t1 S = some out → W p l e ({ frames := 1, cells := 0, slots := 0, locals := 22 } : Room) s m args below meth c H locs 0 0 Q (F0 m 72 ls [.int t1, .int t0]) := by
        intro x1 x3 t0 t1 S H locs ls hP hS hl h
        unfold bX4_touching_72 at h
        refine lv_iadd hx hb dX4_touching_72 ?_
        refine lv_topi (fun y1 ey1 => ?_)
        have h := nm_at ey1 h
        refine lv_istore_n (lv' := [(2, .int y1), (0, .ref (o 24)), (1, .int x1), (3, .int x3)]) hx hb dX4_touching_73 rfl hl (by decide) rfl (fun ls hl => ?_)
        obtain ⟨y2, ey2⟩ : ∃ y : Int32, y = x3 + (1 : Int32) := ⟨_, rfl⟩
        refine lv_iinc (v := y2) (lv' := [(3, .int y2), (2, .int y1), (0, .ref (o 24)), (1, .int x1)]) hx hb dX4_touching_74 hl (k := 3) rfl (by rw [ey2]; rfl) (by decide) rfl (fun ls hl => ?_)
        have h := nm_at ey2 h
        refine lv_goto (tgt := 4) hx hb dX4_touching_77 (by decide) ?_
        exact ih4 x1 y1 y2 S _ _ _ hP hS (lv_sub hl [2, 3, 1, 0] rfl) h
      have B71 : ∀ (x1 : Int32) (x3 : Int32) (t0 : Int32) (S : MS) (H : Heap) (locs : List Loc) (ls : Array Slot), mP D cA o A S H → va_S A s.heap H locs → lv_has ls 5 [(0, .ref (o 24)), (1, .int x1), (3, .int x3)] → bX4_touching_71 (lX4_touching_4 n4) x1 x3 t0 S = some out → W p l e ({ frames := 1, cells := 0, slots := 0, locals := 22 } : Room) s m args below meth c H locs 0 0 Q (F0 m 71 ls [.int t0]) := by
        intro x1 x3 t0 S H locs ls hP hS hl h
        unfold bX4_touching_71 at h
        refine lv_iconst (v := (0 : Int32)) hx hb dX4_touching_71 (by decide) ?_
        exact B72 x1 x3 t0 (0 : Int32) S _ _ _ hP hS hl h
      have B49 : ∀ (x1 : Int32) (x2 : Int32) (x3 : Int32) (t0 : Int32) (S : MS) (H : Heap) (locs : List Loc) (ls : Array Slot), mP D cA o A S H → va_S A s.heap H locs → lv_has ls 5 [(0, .ref (o 24)), (1, .int x1), (2, .int x2), (3, .int x3)] → bX4_touching_49 (lX4_touching_4 n4) x1 x2 x3 t0 S = some out → W p l e ({ frames := 1, cells := 0, slots := 0, locals := 22 } : Room) s m args below meth c H locs 0 0 Q (F0 m 49 ls [.int t0]) := by
        intro x1 x2 x3 t0 S H locs ls hP hS hl h
        unfold bX4_touching_49 at h
        refine lv_istore (lv' := [(4, .int t0), (0, .ref (o 24)), (1, .int x1), (2, .int x2), (3, .int x3)]) hx hb dX4_touching_49 hl (by decide) rfl (fun ls hl => ?_)
        refine lv_iload_n hx hb dX4_touching_51 rfl (lv_at hl 3 rfl) ?_
        refine lv_iload hx hb dX4_touching_52 (lv_at hl 0 rfl) ?_
        refine lv_if_eq (tgt := 71) hx hb dX4_touching_54 (by decide) (fun c3 => ?_) (fun c3 => ?_)
        · have h := ite_t c3 h
          exact B71 x1 x3 x2 S _ _ _ hP hS (lv_sub hl [1, 2, 4] rfl) h
        · have h := ite_f c3 h
          refine lv_aload_n hx hb dX4_touching_57 rfl (lv_at hl 1 rfl) ?_
          refine lv_iload_n hx hb dX4_touching_58 rfl (lv_at hl 4 rfl) ?_
          refine lv_iconst (v := (5 : Int32)) hx hb dX4_touching_59 (by decide) ?_
          obtain ⟨v6, S5, e4, h⟩ := bnd_some h
          refine gc0_i (va_runV (As := [.int x3, .int (5 : Int32)]) (rest := [.int x2]) ⟨hx, hb, hml, hown, hts⟩ (mX4_of (l := l) (D := D) (cA := cA) (o := o) (A := A) x3 (5 : Int32) S e4) (cwV 2 hts (lw_V q1355 q1357 qs33 q90 q1358) rfl rfl rfl (by decide +kernel) ⟨Nat.le_of_ble_eq_true rfl, Nat.le_of_ble_eq_true rfl⟩) (gPreV mKst hK hA hS hP (mRecv hK hP)) rfl rfl hl.1 rfl (lv_room (Nat.le_of_ble_eq_true rfl)) dX4_touching_60 ⟨Nat.zero_le _, Nat.zero_le _⟩) hS (fun H locs hP hS => ?_)
          refine lv_iconst (v := (1 : Int32)) hx hb dX4_touching_63 (by decide) ?_
          refine lv_icmp_ne (tgt := 71) hx hb dX4_touching_64 (by decide) (fun c7 => ?_) (fun c7 => ?_)
          · have h := ite_f c7 h
            exact B71 x1 x3 x2 S5 _ _ _ hP hS (lv_sub hl [1, 2, 4] rfl) h
          · have h := ite_t c7 h
            refine lv_iconst (v := (1 : Int32)) hx hb dX4_touching_67 (by decide) ?_
            refine lv_goto (tgt := 72) hx hb dX4_touching_68 (by decide) ?_
            exact B72 x1 x3 x2 (1 : Int32) S5 _ _ _ hP hS (lv_sub hl [1, 2, 4] rfl) h
      have B44 : ∀ (x1 : Int32) (x2 : Int32) (x3 : Int32) (S : MS) (H : Heap) (locs : List Loc) (ls : Array Slot), mP D cA o A S H → va_S A s.heap H locs → lv_has ls 5 [(0, .ref (o 24)), (1, .int x1), (2, .int x2), (3, .int x3)] → bX4_touching_44 (lX4_touching_4 n4) x1 x2 x3 S = some out → W p l e ({ frames := 1, cells := 0, slots := 0, locals := 22 } : Room) s m args below meth c H locs 0 0 Q (F0 m 44 ls []) := by
        intro x1 x2 x3 S H locs ls hP hS hl h
        unfold bX4_touching_44 at h
        refine lv_iconst (v := (1 : Int32)) hx hb dX4_touching_44 (by decide) ?_
        refine lv_goto (tgt := 49) hx hb dX4_touching_45 (by decide) ?_
        exact B49 x1 x2 x3 (1 : Int32) S _ _ _ hP hS hl h
      intro x1 x2 x3 S H locs ls hP hS hl h
      replace h : bX4_touching_4 (lX4_touching_4 n4) x1 x2 x3 S = some out := h
      unfold bX4_touching_4 at h
      refine lv_iload_n hx hb dX4_touching_4 rfl (lv_at hl 3 rfl) ?_
      refine lv_aload_n hx hb dX4_touching_5 rfl (lv_at hl 0 rfl) ?_
      refine va_get (D := D) (ci := 4) (v := .ref (o 0)) (C := RX4) (T := TX4) (N := 24) hx hb hts in_X4 hown hK hP.1 0 rfl rfl 0 (by decide) (hts _ q1249) (fun _ h9 => h9) rfl dX4_touching_6 ?_
      refine lv_iconst (v := (2 : Int32)) hx hb dX4_touching_9 (by decide) ?_
      refine va_iald hx hb hK hP.1 1 0 rfl rfl (inB_in (by decide)) dX4_touching_10 ?_
      refine lv_icmp_ge (tgt := 80) hx hb dX4_touching_11 (by decide) (fun c8 => ?_) (fun c8 => ?_)
      · have h := ite_t c8 h
        refine lv_iload_n hx hb dX4_touching_80 rfl (lv_at hl 2 rfl) ?_
        exact ret _ _ _ _ _ _ dX4_touching_81 rfl hP hS h
      · have h := ite_f c8 h
        refine lv_aload_n hx hb dX4_touching_14 rfl (lv_at hl 0 rfl) ?_
        refine lv_iload_n hx hb dX4_touching_15 rfl (lv_at hl 3 rfl) ?_
        refine lv_iconst (v := (2 : Int32)) hx hb dX4_touching_16 (by decide) ?_
        obtain ⟨v11, S10, e9, h⟩ := bnd_some h
        refine gc0_i (va_runV (As := [.int x3, .int (2 : Int32)]) (rest := []) ⟨hx, hb, hml, hown, hts⟩ (mX4_of (l := l) (D := D) (cA := cA) (o := o) (A := A) x3 (2 : Int32) S e9) (cwV 2 hts (lw_V q1355 q1357 qs33 q90 q1358) rfl rfl rfl (by decide +kernel) ⟨Nat.le_of_ble_eq_true rfl, Nat.le_of_ble_eq_true rfl⟩) (gPreV mKst hK hA hS hP (mRecv hK hP)) rfl rfl hl.1 rfl (lv_room (Nat.le_of_ble_eq_true rfl)) dX4_touching_17 ⟨Nat.zero_le _, Nat.zero_le _⟩) hS (fun H locs hP hS => ?_)
        refine lv_aload_n hx hb dX4_touching_20 rfl (lv_at hl 0 rfl) ?_
        refine lv_iload_n hx hb dX4_touching_21 rfl (lv_at hl 1 rfl) ?_
        refine lv_iconst (v := (3 : Int32)) hx hb dX4_touching_22 (by decide) ?_
        obtain ⟨v14, S13, e12, h⟩ := bnd_some h
        refine gc0_i (va_runV (As := [.int x1, .int (3 : Int32)]) (rest := [.int v11]) ⟨hx, hb, hml, hown, hts⟩ (mX4_of (l := l) (D := D) (cA := cA) (o := o) (A := A) x1 (3 : Int32) S10 e12) (cwV 2 hts (lw_V q1355 q1357 qs33 q90 q1358) rfl rfl rfl (by decide +kernel) ⟨Nat.le_of_ble_eq_true rfl, Nat.le_of_ble_eq_true rfl⟩) (gPreV mKst hK hA hS hP (mRecv hK hP)) rfl rfl hl.1 rfl (lv_room (Nat.le_of_ble_eq_true rfl)) dX4_touching_23 ⟨Nat.zero_le _, Nat.zero_le _⟩) hS (fun H locs hP hS => ?_)
        refine lv_icmp_eq (tgt := 44) hx hb dX4_touching_26 (by decide) (fun c15 => ?_) (fun c15 => ?_)
        · have h := ite_t c15 h
          exact B44 x1 x2 x3 S13 _ _ _ hP hS hl h
        · have h := ite_f c15 h
          refine lv_aload_n hx hb dX4_touching_29 rfl (lv_at hl 0 rfl) ?_
          refine lv_iload_n hx hb dX4_touching_30 rfl (lv_at hl 3 rfl) ?_
          refine lv_iconst (v := (3 : Int32)) hx hb dX4_touching_31 (by decide) ?_
          obtain ⟨v18, S17, e16, h⟩ := bnd_some h
          refine gc0_i (va_runV (As := [.int x3, .int (3 : Int32)]) (rest := []) ⟨hx, hb, hml, hown, hts⟩ (mX4_of (l := l) (D := D) (cA := cA) (o := o) (A := A) x3 (3 : Int32) S13 e16) (cwV 2 hts (lw_V q1355 q1357 qs33 q90 q1358) rfl rfl rfl (by decide +kernel) ⟨Nat.le_of_ble_eq_true rfl, Nat.le_of_ble_eq_true rfl⟩) (gPreV mKst hK hA hS hP (mRecv hK hP)) rfl rfl hl.1 rfl (lv_room (Nat.le_of_ble_eq_true rfl)) dX4_touching_32 ⟨Nat.zero_le _, Nat.zero_le _⟩) hS (fun H locs hP hS => ?_)
          refine lv_aload_n hx hb dX4_touching_35 rfl (lv_at hl 0 rfl) ?_
          refine lv_iload_n hx hb dX4_touching_36 rfl (lv_at hl 1 rfl) ?_
          refine lv_iconst (v := (3 : Int32)) hx hb dX4_touching_37 (by decide) ?_
          obtain ⟨v21, S20, e19, h⟩ := bnd_some h
          refine gc0_i (va_runV (As := [.int x1, .int (3 : Int32)]) (rest := [.int v18]) ⟨hx, hb, hml, hown, hts⟩ (mX4_of (l := l) (D := D) (cA := cA) (o := o) (A := A) x1 (3 : Int32) S17 e19) (cwV 2 hts (lw_V q1355 q1357 qs33 q90 q1358) rfl rfl rfl (by decide +kernel) ⟨Nat.le_of_ble_eq_true rfl, Nat.le_of_ble_eq_true rfl⟩) (gPreV mKst hK hA hS hP (mRecv hK hP)) rfl rfl hl.1 rfl (lv_room (Nat.le_of_ble_eq_true rfl)) dX4_touching_38 ⟨Nat.zero_le _, Nat.zero_le _⟩) hS (fun H locs hP hS => ?_)
          refine lv_icmp_ne (tgt := 48) hx hb dX4_touching_41 (by decide) (fun c22 => ?_) (fun c22 => ?_)
          · have h := ite_f c22 h
            refine lv_iconst (v := (0 : Int32)) hx hb dX4_touching_48 (by decide) ?_
            exact B49 x1 x2 x3 (0 : Int32) S20 _ _ _ hP hS hl h
          · have h := ite_t c22 h
            exact B44 x1 x2 x3 S20 _ _ _ hP hS hl h
  unfold fX4_touching at h
  refine lv_iconst (v := (0 : Int32)) hx hb dX4_touching_0 (by decide) ?_
  refine lv_istore_n (lv' := [(2, .int (0 : Int32)), (0, .ref (o 24)), (1, .int x1)]) hx hb dX4_touching_1 rfl hl (by decide) rfl (fun ls hl => ?_)
  refine lv_iconst (v := (0 : Int32)) hx hb dX4_touching_2 (by decide) ?_
  refine lv_istore_n (lv' := [(3, .int (0 : Int32)), (2, .int (0 : Int32)), (0, .ref (o 24)), (1, .int x1)]) hx hb dX4_touching_3 rfl hl (by decide) rfl (fun ls hl => ?_)
  exact L4 FU x1 (0 : Int32) (0 : Int32) S _ _ _ hP hS (lv_sub hl [2, 3, 1, 0] rfl) h

def bX4_weighsBy_79 (t0 : Int32) (S : MS) : Option (Int32 × MS) :=
some (t0, S)
def bX4_weighsBy_96 (t0 : Int32) (S : MS) : Option (Int32 × MS) :=
some (t0, S)
def bX4_weighsBy_14 (x1 : Int32) (t0 : Int32) (S : MS) : Option (Int32 × MS) :=
bnd (fX4_of x1 (0 : Int32) S) fun v3 S2 =>
(if v3 = (1 : Int32) then
some ((3 : Int32), S2)
else
(if v3 = (2 : Int32) then
some (t0, S2)
else
(if v3 = (3 : Int32) then
bnd (fX4_of x1 (1 : Int32) S2) fun v9 S8 =>
(if v9 ≤ (4 : Int32) then
bX4_weighsBy_79 (2 : Int32) S8
else
bX4_weighsBy_79 (4 : Int32) S8)
else
(if v3 = (4 : Int32) then
(if ((mIA S2 0 ((0 : Int32)).toNatClampNeg) - (mIA S2 0 ((0 : Int32)).toNatClampNeg) / (2 : Int32) * (2 : Int32)) = 0 then
bX4_weighsBy_96 (3 : Int32) S2
else
bX4_weighsBy_96 (1 : Int32) S2)
else
(if v3 = (5 : Int32) then
some ((t0 - (1 : Int32)), S2)
else
(if v3 = (6 : Int32) then
some ((4 : Int32), S2)
else
some ((2 : Int32), S2)))))))
def fX4_weighsBy (x1 : Int32) (S : MS) : Option (Int32 × MS) :=
bnd (fX4_touching x1 S) fun v17 S16 =>
(if v17 ≤ (3 : Int32) then
bX4_weighsBy_14 x1 (3 : Int32) S16
else
bX4_weighsBy_14 x1 (1 : Int32) S16)
set_option maxHeartbeats 4000000 in
set_option maxRecDepth 100000 in
theorem mX4_weighsBy {l : Launch} {D : va_G} {cA : Nat → ClassId} {o : Nat → Nat} {A : Nat → Prop} (x1 : Int32) (S : MS) {out : (Int32 × MS)} (h : fX4_weighsBy x1 S = some out) : Met l yX4_weighsBy (ws_ yX4_weighsBy cX4_weighsBy 3 (some .int)) ({ frames := 2, cells := 0, slots := 0, locals := 46 } : Room) (gPc (mK D cA) (mP D cA o A) A [.ref (o 24), .int x1] S) (gQi (mK D cA) (mP D cA o A) A out) 0 0 A := by
  refine gMet_z (by decide) (Nat.le_of_ble_eq_true rfl) ?_ mKst
  intro p e s m below meth c Q ls args H locs hC hP hS hl ret
  obtain ⟨hx, hb, hml, hown, hts, hA, hK⟩ := hC
  have hown : s.vm.findClass RX4 = some m.cls := hown
  have hl : lv_has ls 3 [(0, .ref (o 24)), (1, .int x1)] := hl
  have B79 : ∀ (t0 : Int32) (S : MS) (H : Heap) (locs : List Loc) (ls : Array Slot), mP D cA o A S H → va_S A s.heap H locs → lv_has ls 3 [(0, .ref (o 24))] → bX4_weighsBy_79  t0 S = some out → W p l e ({ frames := 2, cells := 0, slots := 0, locals := 46 } : Room) s m args below meth c H locs 0 0 Q (F0 m 79 ls [.int t0]) := by
    intro t0 S H locs ls hP hS hl h
    unfold bX4_weighsBy_79 at h
    exact ret _ _ _ _ _ _ dX4_weighsBy_79 rfl hP hS h
  have B96 : ∀ (t0 : Int32) (S : MS) (H : Heap) (locs : List Loc) (ls : Array Slot), mP D cA o A S H → va_S A s.heap H locs → lv_has ls 3 [(0, .ref (o 24))] → bX4_weighsBy_96  t0 S = some out → W p l e ({ frames := 2, cells := 0, slots := 0, locals := 46 } : Room) s m args below meth c H locs 0 0 Q (F0 m 96 ls [.int t0]) := by
    intro t0 S H locs ls hP hS hl h
    unfold bX4_weighsBy_96 at h
    exact ret _ _ _ _ _ _ dX4_weighsBy_96 rfl hP hS h
  have B14 : ∀ (x1 : Int32) (t0 : Int32) (S : MS) (H : Heap) (locs : List Loc) (ls : Array Slot), mP D cA o A S H → va_S A s.heap H locs → lv_has ls 3 [(0, .ref (o 24)), (1, .int x1)] → bX4_weighsBy_14  x1 t0 S = some out → W p l e ({ frames := 2, cells := 0, slots := 0, locals := 46 } : Room) s m args below meth c H locs 0 0 Q (F0 m 14 ls [.int t0]) := by
    intro x1 t0 S H locs ls hP hS hl h
    unfold bX4_weighsBy_14 at h
    refine lv_istore_n (lv' := [(2, .int t0), (0, .ref (o 24)), (1, .int x1)]) hx hb dX4_weighsBy_14 rfl hl (by decide) rfl (fun ls hl => ?_)
    refine lv_aload_n hx hb dX4_weighsBy_15 rfl (lv_at hl 1 rfl) ?_
    refine lv_iload_n hx hb dX4_weighsBy_16 rfl (lv_at hl 2 rfl) ?_
    refine lv_iconst (v := (0 : Int32)) hx hb dX4_weighsBy_17 (by decide) ?_
    obtain ⟨v3, S2, e1, h⟩ := bnd_some h
    refine gc0_i (va_runV (As := [.int x1, .int (0 : Int32)]) (rest := []) ⟨hx, hb, hml, hown, hts⟩ (mX4_of (l := l) (D := D) (cA := cA) (o := o) (A := A) x1 (0 : Int32) S e1) (cwV 2 hts (lw_V q1355 q1357 qs33 q90 q1358) rfl rfl rfl (by decide +kernel) ⟨Nat.le_of_ble_eq_true rfl, Nat.le_of_ble_eq_true rfl⟩) (gPreV mKst hK hA hS hP (mRecv hK hP)) rfl rfl hl.1 rfl (lv_room (Nat.le_of_ble_eq_true rfl)) dX4_weighsBy_18 ⟨Nat.zero_le _, Nat.zero_le _⟩) hS (fun H locs hP hS => ?_)
    by_cases c4 : v3 = (1 : Int32)
    · have h := ite_t c4 h
      refine lv_tableIn (off := 39) (tgt := 60) hx hb dX4_weighsBy_21 (by rw [c4]; decide) (by rw [c4]; decide) (by rw [c4]; rfl) (by decide) ?_
      refine lv_iconst (v := (3 : Int32)) hx hb dX4_weighsBy_60 (by decide) ?_
      exact ret _ _ _ _ _ _ dX4_weighsBy_61 rfl hP hS h
    · have h := ite_f c4 h
      by_cases c5 : v3 = (2 : Int32)
      · have h := ite_t c5 h
        refine lv_tableIn (off := 41) (tgt := 62) hx hb dX4_weighsBy_21 (by rw [c5]; decide) (by rw [c5]; decide) (by rw [c5]; rfl) (by decide) ?_
        refine lv_iload_n hx hb dX4_weighsBy_62 rfl (lv_at hl 0 rfl) ?_
        exact ret _ _ _ _ _ _ dX4_weighsBy_63 rfl hP hS h
      · have h := ite_f c5 h
        by_cases c6 : v3 = (3 : Int32)
        · have h := ite_t c6 h
          refine lv_tableIn (off := 43) (tgt := 64) hx hb dX4_weighsBy_21 (by rw [c6]; decide) (by rw [c6]; decide) (by rw [c6]; rfl) (by decide) ?_
          refine lv_aload_n hx hb dX4_weighsBy_64 rfl (lv_at hl 1 rfl) ?_
          refine lv_iload_n hx hb dX4_weighsBy_65 rfl (lv_at hl 2 rfl) ?_
          refine lv_iconst (v := (1 : Int32)) hx hb dX4_weighsBy_66 (by decide) ?_
          obtain ⟨v9, S8, e7, h⟩ := bnd_some h
          refine gc0_i (va_runV (As := [.int x1, .int (1 : Int32)]) (rest := []) ⟨hx, hb, hml, hown, hts⟩ (mX4_of (l := l) (D := D) (cA := cA) (o := o) (A := A) x1 (1 : Int32) S2 e7) (cwV 2 hts (lw_V q1355 q1357 qs33 q90 q1358) rfl rfl rfl (by decide +kernel) ⟨Nat.le_of_ble_eq_true rfl, Nat.le_of_ble_eq_true rfl⟩) (gPreV mKst hK hA hS hP (mRecv hK hP)) rfl rfl hl.1 rfl (lv_room (Nat.le_of_ble_eq_true rfl)) dX4_weighsBy_67 ⟨Nat.zero_le _, Nat.zero_le _⟩) hS (fun H locs hP hS => ?_)
          refine lv_iconst (v := (4 : Int32)) hx hb dX4_weighsBy_70 (by decide) ?_
          refine lv_icmp_le (tgt := 78) hx hb dX4_weighsBy_71 (by decide) (fun c10 => ?_) (fun c10 => ?_)
          · have h := ite_t c10 h
            refine lv_iconst (v := (2 : Int32)) hx hb dX4_weighsBy_78 (by decide) ?_
            exact B79 (2 : Int32) S8 _ _ _ hP hS (lv_sub hl [1] rfl) h
          · have h := ite_f c10 h
            refine lv_iconst (v := (4 : Int32)) hx hb dX4_weighsBy_74 (by decide) ?_
            refine lv_goto (tgt := 79) hx hb dX4_weighsBy_75 (by decide) ?_
            exact B79 (4 : Int32) S8 _ _ _ hP hS (lv_sub hl [1] rfl) h
        · have h := ite_f c6 h
          by_cases c11 : v3 = (4 : Int32)
          · have h := ite_t c11 h
            refine lv_tableIn (off := 59) (tgt := 80) hx hb dX4_weighsBy_21 (by rw [c11]; decide) (by rw [c11]; decide) (by rw [c11]; rfl) (by decide) ?_
            refine lv_aload_n hx hb dX4_weighsBy_80 rfl (lv_at hl 1 rfl) ?_
            refine va_get (D := D) (ci := 4) (v := .ref (o 0)) (C := RX4) (T := TX4) (N := 24) hx hb hts in_X4 hown hK hP.1 0 rfl rfl 0 (by decide) (hts _ q1249) (fun _ h9 => h9) rfl dX4_weighsBy_81 ?_
            refine lv_iconst (v := (0 : Int32)) hx hb dX4_weighsBy_84 (by decide) ?_
            refine va_iald hx hb hK hP.1 1 0 rfl rfl (inB_in (by decide)) dX4_weighsBy_85 ?_
            refine lv_iconst (v := (2 : Int32)) hx hb dX4_weighsBy_86 (by decide) ?_
            refine lv_irem hx hb dX4_weighsBy_87 (by decide) ?_
            refine lv_if_ne (tgt := 95) hx hb dX4_weighsBy_88 (by decide) (fun c12 => ?_) (fun c12 => ?_)
            · have h := ite_f c12 h
              refine lv_iconst (v := (1 : Int32)) hx hb dX4_weighsBy_95 (by decide) ?_
              exact B96 (1 : Int32) S2 _ _ _ hP hS (lv_sub hl [1] rfl) h
            · have h := ite_t c12 h
              refine lv_iconst (v := (3 : Int32)) hx hb dX4_weighsBy_91 (by decide) ?_
              refine lv_goto (tgt := 96) hx hb dX4_weighsBy_92 (by decide) ?_
              exact B96 (3 : Int32) S2 _ _ _ hP hS (lv_sub hl [1] rfl) h
          · have h := ite_f c11 h
            by_cases c13 : v3 = (5 : Int32)
            · have h := ite_t c13 h
              refine lv_tableIn (off := 76) (tgt := 97) hx hb dX4_weighsBy_21 (by rw [c13]; decide) (by rw [c13]; decide) (by rw [c13]; rfl) (by decide) ?_
              refine lv_iload_n hx hb dX4_weighsBy_97 rfl (lv_at hl 0 rfl) ?_
              refine lv_iconst (v := (1 : Int32)) hx hb dX4_weighsBy_98 (by decide) ?_
              refine lv_isub hx hb dX4_weighsBy_99 ?_
              exact ret _ _ _ _ _ _ dX4_weighsBy_100 rfl hP hS h
            · have h := ite_f c13 h
              by_cases c14 : v3 = (6 : Int32)
              · have h := ite_t c14 h
                refine lv_tableIn (off := 80) (tgt := 101) hx hb dX4_weighsBy_21 (by rw [c14]; decide) (by rw [c14]; decide) (by rw [c14]; rfl) (by decide) ?_
                refine lv_iconst (v := (4 : Int32)) hx hb dX4_weighsBy_101 (by decide) ?_
                exact ret _ _ _ _ _ _ dX4_weighsBy_102 rfl hP hS h
              · have h := ite_f c14 h
                have nc4 := lv_neT (a := 1) c4 (by decide)
                have nc5 := lv_neT (a := 2) c5 (by decide)
                have nc6 := lv_neT (a := 3) c6 (by decide)
                have nc11 := lv_neT (a := 4) c11 (by decide)
                have nc13 := lv_neT (a := 5) c13 (by decide)
                have nc14 := lv_neT (a := 6) c14 (by decide)
                refine lv_tableOut (tgt := 103) hx hb dX4_weighsBy_21 (by omega) (by decide) ?_
                refine lv_iconst (v := (2 : Int32)) hx hb dX4_weighsBy_103 (by decide) ?_
                exact ret _ _ _ _ _ _ dX4_weighsBy_104 rfl hP hS h
  unfold fX4_weighsBy at h
  refine lv_aload_n hx hb dX4_weighsBy_0 rfl (lv_at hl 0 rfl) ?_
  refine lv_iload_n hx hb dX4_weighsBy_1 rfl (lv_at hl 1 rfl) ?_
  obtain ⟨v17, S16, e15, h⟩ := bnd_some h
  refine gc0_i (va_runV (As := [.int x1]) (rest := []) ⟨hx, hb, hml, hown, hts⟩ (mX4_touching (l := l) (D := D) (cA := cA) (o := o) (A := A) x1 S e15) (cwV 1 hts (lw_V q1367 q1369 qs36 q90 q1370) rfl rfl rfl (by decide +kernel) ⟨Nat.le_of_ble_eq_true rfl, Nat.le_of_ble_eq_true rfl⟩) (gPreV mKst hK hA hS hP (mRecv hK hP)) rfl rfl hl.1 rfl (lv_room (Nat.le_of_ble_eq_true rfl)) dX4_weighsBy_2 ⟨Nat.zero_le _, Nat.zero_le _⟩) hS (fun H locs hP hS => ?_)
  refine lv_iconst (v := (3 : Int32)) hx hb dX4_weighsBy_5 (by decide) ?_
  refine lv_icmp_le (tgt := 13) hx hb dX4_weighsBy_6 (by decide) (fun c18 => ?_) (fun c18 => ?_)
  · have h := ite_t c18 h
    refine lv_iconst (v := (3 : Int32)) hx hb dX4_weighsBy_13 (by decide) ?_
    exact B14 x1 (3 : Int32) S16 _ _ _ hP hS hl h
  · have h := ite_f c18 h
    refine lv_iconst (v := (1 : Int32)) hx hb dX4_weighsBy_9 (by decide) ?_
    refine lv_goto (tgt := 14) hx hb dX4_weighsBy_10 (by decide) ?_
    exact B14 x1 (1 : Int32) S16 _ _ _ hP hS hl h

def bX4_twoOf_155 (t0 : Int32) (S : MS) : Option (Int32 × MS) :=
some (t0, S)
def bX4_twoOf_202 (t0 : Int32) (S : MS) : Option (Int32 × MS) :=
some (t0, S)
def bX4_twoOf_201 (S : MS) : Option (Int32 × MS) :=
bX4_twoOf_202 (0 : Int32) S
def bX4_twoOf_216 (t0 : Int32) (S : MS) : Option (Int32 × MS) :=
some (t0, S)
def bX4_twoOf_211 (S : MS) : Option (Int32 × MS) :=
bX4_twoOf_216 (1 : Int32) S
def bX4_twoOf_203 (x1 : Int32) (x2 : Int32) (S : MS) : Option (Int32 × MS) :=
(if x1 = 0 then
(if x2 = 0 then
bX4_twoOf_216 (0 : Int32) S
else
bX4_twoOf_211 S)
else
bX4_twoOf_211 S)
def bX4_twoOf_143 (t0 : Int32) (S : MS) : Option (Int32 × MS) :=
some (t0, S)
def bX4_twoOf_166 (t0 : Int32) (S : MS) : Option (Int32 × MS) :=
some (t0, S)
def bX4_twoOf_177 (t0 : Int32) (S : MS) : Option (Int32 × MS) :=
some (t0, S)
def bX4_twoOf_188 (t0 : Int32) (S : MS) : Option (Int32 × MS) :=
some (t0, S)
def fX4_twoOf (x0 : Int32) (x1 : Int32) (x2 : Int32) (S : MS) : Option (Int32 × MS) :=
(if x0 = (37 : Int32) then
(if x2 = 0 then
bX4_twoOf_155 (0 : Int32) S
else
chk (ne0 x2) (bX4_twoOf_155 (x1 - x1 / x2 * x2) S))
else
(if x0 = (38 : Int32) then
(if x1 = 0 then
bX4_twoOf_201 S
else
(if x2 = 0 then
bX4_twoOf_201 S
else
bX4_twoOf_202 (1 : Int32) S))
else
(if x0 = (42 : Int32) then
some ((x1 * x2), S)
else
(if x0 = (43 : Int32) then
some ((x1 + x2), S)
else
(if x0 = (45 : Int32) then
some ((x1 - x2), S)
else
(if x0 = (47 : Int32) then
(if x2 = 0 then
bX4_twoOf_143 (0 : Int32) S
else
chk (ne0 x2) (bX4_twoOf_143 (x1 / x2) S))
else
(if x0 = (60 : Int32) then
(if x2 ≤ x1 then
bX4_twoOf_166 (0 : Int32) S
else
bX4_twoOf_166 (1 : Int32) S)
else
(if x0 = (61 : Int32) then
(if x1 = x2 then
bX4_twoOf_177 (1 : Int32) S
else
bX4_twoOf_177 (0 : Int32) S)
else
(if x0 = (62 : Int32) then
(if x1 ≤ x2 then
bX4_twoOf_188 (0 : Int32) S
else
bX4_twoOf_188 (1 : Int32) S)
else
bX4_twoOf_203 x1 x2 S)))))))))
set_option maxHeartbeats 4000000 in
set_option maxRecDepth 100000 in
theorem mX4_twoOf {l : Launch} {D : va_G} {cA : Nat → ClassId} {o : Nat → Nat} {A : Nat → Prop} (x0 : Int32) (x1 : Int32) (x2 : Int32) (S : MS) {out : (Int32 × MS)} (h : fX4_twoOf x0 x1 x2 S = some out) : Met l yX4_twoOf (ws_ yX4_twoOf cX4_twoOf 3 (some .int)) ({ frames := 0, cells := 0, slots := 0, locals := 0 } : Room) (gPc (mK D cA) (mP D cA o A) A [.int x0, .int x1, .int x2] S) (gQi (mK D cA) (mP D cA o A) A out) 0 0 A := by
  refine gMet_z (by decide) (Nat.le_of_ble_eq_true rfl) ?_ mKst
  intro p e s m below meth c Q ls args H locs hC hP hS hl ret
  obtain ⟨hx, hb, hml, hown, hts, hA, hK⟩ := hC
  have hown : s.vm.findClass RX4 = some m.cls := hown
  have hl : lv_has ls 3 [(0, .int x0), (1, .int x1), (2, .int x2)] := hl
  have B155 : ∀ (t0 : Int32) (S : MS) (H : Heap) (locs : List Loc) (ls : Array Slot), mP D cA o A S H → va_S A s.heap H locs → lv_has ls 3 [] → bX4_twoOf_155  t0 S = some out → W p l e ({ frames := 0, cells := 0, slots := 0, locals := 0 } : Room) s m args below meth c H locs 0 0 Q (F0 m 155 ls [.int t0]) := by
    intro t0 S H locs ls hP hS hl h
    unfold bX4_twoOf_155 at h
    exact ret _ _ _ _ _ _ dX4_twoOf_155 rfl hP hS h
  have B202 : ∀ (t0 : Int32) (S : MS) (H : Heap) (locs : List Loc) (ls : Array Slot), mP D cA o A S H → va_S A s.heap H locs → lv_has ls 3 [] → bX4_twoOf_202  t0 S = some out → W p l e ({ frames := 0, cells := 0, slots := 0, locals := 0 } : Room) s m args below meth c H locs 0 0 Q (F0 m 202 ls [.int t0]) := by
    intro t0 S H locs ls hP hS hl h
    unfold bX4_twoOf_202 at h
    exact ret _ _ _ _ _ _ dX4_twoOf_202 rfl hP hS h
  have B201 : ∀  (S : MS) (H : Heap) (locs : List Loc) (ls : Array Slot), mP D cA o A S H → va_S A s.heap H locs → lv_has ls 3 [] → bX4_twoOf_201   S = some out → W p l e ({ frames := 0, cells := 0, slots := 0, locals := 0 } : Room) s m args below meth c H locs 0 0 Q (F0 m 201 ls []) := by
    intro  S H locs ls hP hS hl h
    unfold bX4_twoOf_201 at h
    refine lv_iconst (v := (0 : Int32)) hx hb dX4_twoOf_201 (by decide) ?_
    exact B202 (0 : Int32) S _ _ _ hP hS hl h
  have B216 : ∀ (t0 : Int32) (S : MS) (H : Heap) (locs : List Loc) (ls : Array Slot), mP D cA o A S H → va_S A s.heap H locs → lv_has ls 3 [] → bX4_twoOf_216  t0 S = some out → W p l e ({ frames := 0, cells := 0, slots := 0, locals := 0 } : Room) s m args below meth c H locs 0 0 Q (F0 m 216 ls [.int t0]) := by
    intro t0 S H locs ls hP hS hl h
    unfold bX4_twoOf_216 at h
    exact ret _ _ _ _ _ _ dX4_twoOf_216 rfl hP hS h
  have B211 : ∀  (S : MS) (H : Heap) (locs : List Loc) (ls : Array Slot), mP D cA o A S H → va_S A s.heap H locs → lv_has ls 3 [] → bX4_twoOf_211   S = some out → W p l e ({ frames := 0, cells := 0, slots := 0, locals := 0 } : Room) s m args below meth c H locs 0 0 Q (F0 m 211 ls []) := by
    intro  S H locs ls hP hS hl h
    unfold bX4_twoOf_211 at h
    refine lv_iconst (v := (1 : Int32)) hx hb dX4_twoOf_211 (by decide) ?_
    refine lv_goto (tgt := 216) hx hb dX4_twoOf_212 (by decide) ?_
    exact B216 (1 : Int32) S _ _ _ hP hS hl h
  have B203 : ∀ (x1 : Int32) (x2 : Int32) (S : MS) (H : Heap) (locs : List Loc) (ls : Array Slot), mP D cA o A S H → va_S A s.heap H locs → lv_has ls 3 [(1, .int x1), (2, .int x2)] → bX4_twoOf_203  x1 x2 S = some out → W p l e ({ frames := 0, cells := 0, slots := 0, locals := 0 } : Room) s m args below meth c H locs 0 0 Q (F0 m 203 ls []) := by
    intro x1 x2 S H locs ls hP hS hl h
    unfold bX4_twoOf_203 at h
    refine lv_iload_n hx hb dX4_twoOf_203 rfl (lv_at hl 0 rfl) ?_
    refine lv_if_ne (tgt := 211) hx hb dX4_twoOf_204 (by decide) (fun c1 => ?_) (fun c1 => ?_)
    · have h := ite_f c1 h
      exact B211 S _ _ _ hP hS (lv_sub hl [] rfl) h
    · have h := ite_t c1 h
      refine lv_iload_n hx hb dX4_twoOf_207 rfl (lv_at hl 1 rfl) ?_
      refine lv_if_eq (tgt := 215) hx hb dX4_twoOf_208 (by decide) (fun c2 => ?_) (fun c2 => ?_)
      · have h := ite_t c2 h
        refine lv_iconst (v := (0 : Int32)) hx hb dX4_twoOf_215 (by decide) ?_
        exact B216 (0 : Int32) S _ _ _ hP hS (lv_sub hl [] rfl) h
      · have h := ite_f c2 h
        exact B211 S _ _ _ hP hS (lv_sub hl [] rfl) h
  have B143 : ∀ (t0 : Int32) (S : MS) (H : Heap) (locs : List Loc) (ls : Array Slot), mP D cA o A S H → va_S A s.heap H locs → lv_has ls 3 [] → bX4_twoOf_143  t0 S = some out → W p l e ({ frames := 0, cells := 0, slots := 0, locals := 0 } : Room) s m args below meth c H locs 0 0 Q (F0 m 143 ls [.int t0]) := by
    intro t0 S H locs ls hP hS hl h
    unfold bX4_twoOf_143 at h
    exact ret _ _ _ _ _ _ dX4_twoOf_143 rfl hP hS h
  have B166 : ∀ (t0 : Int32) (S : MS) (H : Heap) (locs : List Loc) (ls : Array Slot), mP D cA o A S H → va_S A s.heap H locs → lv_has ls 3 [] → bX4_twoOf_166  t0 S = some out → W p l e ({ frames := 0, cells := 0, slots := 0, locals := 0 } : Room) s m args below meth c H locs 0 0 Q (F0 m 166 ls [.int t0]) := by
    intro t0 S H locs ls hP hS hl h
    unfold bX4_twoOf_166 at h
    exact ret _ _ _ _ _ _ dX4_twoOf_166 rfl hP hS h
  have B177 : ∀ (t0 : Int32) (S : MS) (H : Heap) (locs : List Loc) (ls : Array Slot), mP D cA o A S H → va_S A s.heap H locs → lv_has ls 3 [] → bX4_twoOf_177  t0 S = some out → W p l e ({ frames := 0, cells := 0, slots := 0, locals := 0 } : Room) s m args below meth c H locs 0 0 Q (F0 m 177 ls [.int t0]) := by
    intro t0 S H locs ls hP hS hl h
    unfold bX4_twoOf_177 at h
    exact ret _ _ _ _ _ _ dX4_twoOf_177 rfl hP hS h
  have B188 : ∀ (t0 : Int32) (S : MS) (H : Heap) (locs : List Loc) (ls : Array Slot), mP D cA o A S H → va_S A s.heap H locs → lv_has ls 3 [] → bX4_twoOf_188  t0 S = some out → W p l e ({ frames := 0, cells := 0, slots := 0, locals := 0 } : Room) s m args below meth c H locs 0 0 Q (F0 m 188 ls [.int t0]) := by
    intro t0 S H locs ls hP hS hl h
    unfold bX4_twoOf_188 at h
    exact ret _ _ _ _ _ _ dX4_twoOf_188 rfl hP hS h
  unfold fX4_twoOf at h
  refine lv_iload_n hx hb dX4_twoOf_0 rfl (lv_at hl 0 rfl) ?_
  by_cases c3 : x0 = (37 : Int32)
  · have h := ite_t c3 h
    refine lv_tableIn (off := 143) (tgt := 144) hx hb dX4_twoOf_1 (by rw [c3]; decide) (by rw [c3]; decide) (by rw [c3]; rfl) (by decide) ?_
    refine lv_iload_n hx hb dX4_twoOf_144 rfl (lv_at hl 2 rfl) ?_
    refine lv_if_ne (tgt := 152) hx hb dX4_twoOf_145 (by decide) (fun c4 => ?_) (fun c4 => ?_)
    · have h := ite_f c4 h
      refine lv_iload_n hx hb dX4_twoOf_152 rfl (lv_at hl 1 rfl) ?_
      refine lv_iload_n hx hb dX4_twoOf_153 rfl (lv_at hl 2 rfl) ?_
      obtain ⟨g5, h⟩ := chk_some h
      refine lv_irem hx hb dX4_twoOf_154 (ne0_n g5) ?_
      exact B155 (x1 - x1 / x2 * x2) S _ _ _ hP hS (lv_sub hl [] rfl) h
    · have h := ite_t c4 h
      refine lv_iconst (v := (0 : Int32)) hx hb dX4_twoOf_148 (by decide) ?_
      refine lv_goto (tgt := 155) hx hb dX4_twoOf_149 (by decide) ?_
      exact B155 (0 : Int32) S _ _ _ hP hS (lv_sub hl [] rfl) h
  · have h := ite_f c3 h
    by_cases c6 : x0 = (38 : Int32)
    · have h := ite_t c6 h
      refine lv_tableIn (off := 188) (tgt := 189) hx hb dX4_twoOf_1 (by rw [c6]; decide) (by rw [c6]; decide) (by rw [c6]; rfl) (by decide) ?_
      refine lv_iload_n hx hb dX4_twoOf_189 rfl (lv_at hl 1 rfl) ?_
      refine lv_if_eq (tgt := 201) hx hb dX4_twoOf_190 (by decide) (fun c7 => ?_) (fun c7 => ?_)
      · have h := ite_t c7 h
        exact B201 S _ _ _ hP hS (lv_sub hl [] rfl) h
      · have h := ite_f c7 h
        refine lv_iload_n hx hb dX4_twoOf_193 rfl (lv_at hl 2 rfl) ?_
        refine lv_if_eq (tgt := 201) hx hb dX4_twoOf_194 (by decide) (fun c8 => ?_) (fun c8 => ?_)
        · have h := ite_t c8 h
          exact B201 S _ _ _ hP hS (lv_sub hl [] rfl) h
        · have h := ite_f c8 h
          refine lv_iconst (v := (1 : Int32)) hx hb dX4_twoOf_197 (by decide) ?_
          refine lv_goto (tgt := 202) hx hb dX4_twoOf_198 (by decide) ?_
          exact B202 (1 : Int32) S _ _ _ hP hS (lv_sub hl [] rfl) h
    · have h := ite_f c6 h
      by_cases c9 : x0 = (42 : Int32)
      · have h := ite_t c9 h
        refine lv_tableIn (off := 127) (tgt := 128) hx hb dX4_twoOf_1 (by rw [c9]; decide) (by rw [c9]; decide) (by rw [c9]; rfl) (by decide) ?_
        refine lv_iload_n hx hb dX4_twoOf_128 rfl (lv_at hl 1 rfl) ?_
        refine lv_iload_n hx hb dX4_twoOf_129 rfl (lv_at hl 2 rfl) ?_
        refine lv_imul hx hb dX4_twoOf_130 ?_
        exact ret _ _ _ _ _ _ dX4_twoOf_131 rfl hP hS h
      · have h := ite_f c9 h
        by_cases c10 : x0 = (43 : Int32)
        · have h := ite_t c10 h
          refine lv_tableIn (off := 119) (tgt := 120) hx hb dX4_twoOf_1 (by rw [c10]; decide) (by rw [c10]; decide) (by rw [c10]; rfl) (by decide) ?_
          refine lv_iload_n hx hb dX4_twoOf_120 rfl (lv_at hl 1 rfl) ?_
          refine lv_iload_n hx hb dX4_twoOf_121 rfl (lv_at hl 2 rfl) ?_
          refine lv_iadd hx hb dX4_twoOf_122 ?_
          exact ret _ _ _ _ _ _ dX4_twoOf_123 rfl hP hS h
        · have h := ite_f c10 h
          by_cases c11 : x0 = (45 : Int32)
          · have h := ite_t c11 h
            refine lv_tableIn (off := 123) (tgt := 124) hx hb dX4_twoOf_1 (by rw [c11]; decide) (by rw [c11]; decide) (by rw [c11]; rfl) (by decide) ?_
            refine lv_iload_n hx hb dX4_twoOf_124 rfl (lv_at hl 1 rfl) ?_
            refine lv_iload_n hx hb dX4_twoOf_125 rfl (lv_at hl 2 rfl) ?_
            refine lv_isub hx hb dX4_twoOf_126 ?_
            exact ret _ _ _ _ _ _ dX4_twoOf_127 rfl hP hS h
          · have h := ite_f c11 h
            by_cases c12 : x0 = (47 : Int32)
            · have h := ite_t c12 h
              refine lv_tableIn (off := 131) (tgt := 132) hx hb dX4_twoOf_1 (by rw [c12]; decide) (by rw [c12]; decide) (by rw [c12]; rfl) (by decide) ?_
              refine lv_iload_n hx hb dX4_twoOf_132 rfl (lv_at hl 2 rfl) ?_
              refine lv_if_ne (tgt := 140) hx hb dX4_twoOf_133 (by decide) (fun c13 => ?_) (fun c13 => ?_)
              · have h := ite_f c13 h
                refine lv_iload_n hx hb dX4_twoOf_140 rfl (lv_at hl 1 rfl) ?_
                refine lv_iload_n hx hb dX4_twoOf_141 rfl (lv_at hl 2 rfl) ?_
                obtain ⟨g14, h⟩ := chk_some h
                refine lv_idiv hx hb dX4_twoOf_142 (ne0_n g14) ?_
                exact B143 (x1 / x2) S _ _ _ hP hS (lv_sub hl [] rfl) h
              · have h := ite_t c13 h
                refine lv_iconst (v := (0 : Int32)) hx hb dX4_twoOf_136 (by decide) ?_
                refine lv_goto (tgt := 143) hx hb dX4_twoOf_137 (by decide) ?_
                exact B143 (0 : Int32) S _ _ _ hP hS (lv_sub hl [] rfl) h
            · have h := ite_f c12 h
              by_cases c15 : x0 = (60 : Int32)
              · have h := ite_t c15 h
                refine lv_tableIn (off := 155) (tgt := 156) hx hb dX4_twoOf_1 (by rw [c15]; decide) (by rw [c15]; decide) (by rw [c15]; rfl) (by decide) ?_
                refine lv_iload_n hx hb dX4_twoOf_156 rfl (lv_at hl 1 rfl) ?_
                refine lv_iload_n hx hb dX4_twoOf_157 rfl (lv_at hl 2 rfl) ?_
                refine lv_icmp_ge (tgt := 165) hx hb dX4_twoOf_158 (by decide) (fun c16 => ?_) (fun c16 => ?_)
                · have h := ite_t c16 h
                  refine lv_iconst (v := (0 : Int32)) hx hb dX4_twoOf_165 (by decide) ?_
                  exact B166 (0 : Int32) S _ _ _ hP hS (lv_sub hl [] rfl) h
                · have h := ite_f c16 h
                  refine lv_iconst (v := (1 : Int32)) hx hb dX4_twoOf_161 (by decide) ?_
                  refine lv_goto (tgt := 166) hx hb dX4_twoOf_162 (by decide) ?_
                  exact B166 (1 : Int32) S _ _ _ hP hS (lv_sub hl [] rfl) h
              · have h := ite_f c15 h
                by_cases c17 : x0 = (61 : Int32)
                · have h := ite_t c17 h
                  refine lv_tableIn (off := 166) (tgt := 167) hx hb dX4_twoOf_1 (by rw [c17]; decide) (by rw [c17]; decide) (by rw [c17]; rfl) (by decide) ?_
                  refine lv_iload_n hx hb dX4_twoOf_167 rfl (lv_at hl 1 rfl) ?_
                  refine lv_iload_n hx hb dX4_twoOf_168 rfl (lv_at hl 2 rfl) ?_
                  refine lv_icmp_ne (tgt := 176) hx hb dX4_twoOf_169 (by decide) (fun c18 => ?_) (fun c18 => ?_)
                  · have h := ite_f c18 h
                    refine lv_iconst (v := (0 : Int32)) hx hb dX4_twoOf_176 (by decide) ?_
                    exact B177 (0 : Int32) S _ _ _ hP hS (lv_sub hl [] rfl) h
                  · have h := ite_t c18 h
                    refine lv_iconst (v := (1 : Int32)) hx hb dX4_twoOf_172 (by decide) ?_
                    refine lv_goto (tgt := 177) hx hb dX4_twoOf_173 (by decide) ?_
                    exact B177 (1 : Int32) S _ _ _ hP hS (lv_sub hl [] rfl) h
                · have h := ite_f c17 h
                  by_cases c19 : x0 = (62 : Int32)
                  · have h := ite_t c19 h
                    refine lv_tableIn (off := 177) (tgt := 178) hx hb dX4_twoOf_1 (by rw [c19]; decide) (by rw [c19]; decide) (by rw [c19]; rfl) (by decide) ?_
                    refine lv_iload_n hx hb dX4_twoOf_178 rfl (lv_at hl 1 rfl) ?_
                    refine lv_iload_n hx hb dX4_twoOf_179 rfl (lv_at hl 2 rfl) ?_
                    refine lv_icmp_le (tgt := 187) hx hb dX4_twoOf_180 (by decide) (fun c20 => ?_) (fun c20 => ?_)
                    · have h := ite_t c20 h
                      refine lv_iconst (v := (0 : Int32)) hx hb dX4_twoOf_187 (by decide) ?_
                      exact B188 (0 : Int32) S _ _ _ hP hS (lv_sub hl [] rfl) h
                    · have h := ite_f c20 h
                      refine lv_iconst (v := (1 : Int32)) hx hb dX4_twoOf_183 (by decide) ?_
                      refine lv_goto (tgt := 188) hx hb dX4_twoOf_184 (by decide) ?_
                      exact B188 (1 : Int32) S _ _ _ hP hS (lv_sub hl [] rfl) h
                  · have h := ite_f c19 h
                    have nc3 := lv_neT (a := 37) c3 (by decide)
                    have nc6 := lv_neT (a := 38) c6 (by decide)
                    have nc9 := lv_neT (a := 42) c9 (by decide)
                    have nc10 := lv_neT (a := 43) c10 (by decide)
                    have nc11 := lv_neT (a := 45) c11 (by decide)
                    have nc12 := lv_neT (a := 47) c12 (by decide)
                    have nc15 := lv_neT (a := 60) c15 (by decide)
                    have nc17 := lv_neT (a := 61) c17 (by decide)
                    have nc19 := lv_neT (a := 62) c19 (by decide)
                    have hd21 : W p l e ({ frames := 0, cells := 0, slots := 0, locals := 0 } : Room) s m args below meth c H locs 0 0 Q (F0 m 203 ls []) := by
                      exact B203 x1 x2 S _ _ _ hP hS (lv_sub hl [1, 2] rfl) h
                    by_cases u22 : (x0).toInt < 37 ∨ 62 < (x0).toInt
                    · exact lv_tableOut (tgt := 203) hx hb dX4_twoOf_1 u22 (by decide) hd21
                    · have q23 : (x0).toInt = 39 ∨ (x0).toInt = 40 ∨ (x0).toInt = 41 ∨ (x0).toInt = 44 ∨ (x0).toInt = 46 ∨ (x0).toInt = 48 ∨ (x0).toInt = 49 ∨ (x0).toInt = 50 ∨ (x0).toInt = 51 ∨ (x0).toInt = 52 ∨ (x0).toInt = 53 ∨ (x0).toInt = 54 ∨ (x0).toInt = 55 ∨ (x0).toInt = 56 ∨ (x0).toInt = 57 ∨ (x0).toInt = 58 ∨ (x0).toInt = 59 := by omega
                      rcases q23 with q23 | q23 | q23 | q23 | q23 | q23 | q23 | q23 | q23 | q23 | q23 | q23 | q23 | q23 | q23 | q23 | q23
                      · have c24 : x0 = (39 : Int32) := Int32.toInt_inj.mp (q23.trans (by decide))
                        exact lv_tableIn (off := 202) (tgt := 203) hx hb dX4_twoOf_1 (by rw [c24]; decide) (by rw [c24]; decide) (by rw [c24]; rfl) (by decide) hd21
                      · have c25 : x0 = (40 : Int32) := Int32.toInt_inj.mp (q23.trans (by decide))
                        exact lv_tableIn (off := 202) (tgt := 203) hx hb dX4_twoOf_1 (by rw [c25]; decide) (by rw [c25]; decide) (by rw [c25]; rfl) (by decide) hd21
                      · have c26 : x0 = (41 : Int32) := Int32.toInt_inj.mp (q23.trans (by decide))
                        exact lv_tableIn (off := 202) (tgt := 203) hx hb dX4_twoOf_1 (by rw [c26]; decide) (by rw [c26]; decide) (by rw [c26]; rfl) (by decide) hd21
                      · have c27 : x0 = (44 : Int32) := Int32.toInt_inj.mp (q23.trans (by decide))
                        exact lv_tableIn (off := 202) (tgt := 203) hx hb dX4_twoOf_1 (by rw [c27]; decide) (by rw [c27]; decide) (by rw [c27]; rfl) (by decide) hd21
                      · have c28 : x0 = (46 : Int32) := Int32.toInt_inj.mp (q23.trans (by decide))
                        exact lv_tableIn (off := 202) (tgt := 203) hx hb dX4_twoOf_1 (by rw [c28]; decide) (by rw [c28]; decide) (by rw [c28]; rfl) (by decide) hd21
                      · have c29 : x0 = (48 : Int32) := Int32.toInt_inj.mp (q23.trans (by decide))
                        exact lv_tableIn (off := 202) (tgt := 203) hx hb dX4_twoOf_1 (by rw [c29]; decide) (by rw [c29]; decide) (by rw [c29]; rfl) (by decide) hd21
                      · have c30 : x0 = (49 : Int32) := Int32.toInt_inj.mp (q23.trans (by decide))
                        exact lv_tableIn (off := 202) (tgt := 203) hx hb dX4_twoOf_1 (by rw [c30]; decide) (by rw [c30]; decide) (by rw [c30]; rfl) (by decide) hd21
                      · have c31 : x0 = (50 : Int32) := Int32.toInt_inj.mp (q23.trans (by decide))
                        exact lv_tableIn (off := 202) (tgt := 203) hx hb dX4_twoOf_1 (by rw [c31]; decide) (by rw [c31]; decide) (by rw [c31]; rfl) (by decide) hd21
                      · have c32 : x0 = (51 : Int32) := Int32.toInt_inj.mp (q23.trans (by decide))
                        exact lv_tableIn (off := 202) (tgt := 203) hx hb dX4_twoOf_1 (by rw [c32]; decide) (by rw [c32]; decide) (by rw [c32]; rfl) (by decide) hd21
                      · have c33 : x0 = (52 : Int32) := Int32.toInt_inj.mp (q23.trans (by decide))
                        exact lv_tableIn (off := 202) (tgt := 203) hx hb dX4_twoOf_1 (by rw [c33]; decide) (by rw [c33]; decide) (by rw [c33]; rfl) (by decide) hd21
                      · have c34 : x0 = (53 : Int32) := Int32.toInt_inj.mp (q23.trans (by decide))
                        exact lv_tableIn (off := 202) (tgt := 203) hx hb dX4_twoOf_1 (by rw [c34]; decide) (by rw [c34]; decide) (by rw [c34]; rfl) (by decide) hd21
                      · have c35 : x0 = (54 : Int32) := Int32.toInt_inj.mp (q23.trans (by decide))
                        exact lv_tableIn (off := 202) (tgt := 203) hx hb dX4_twoOf_1 (by rw [c35]; decide) (by rw [c35]; decide) (by rw [c35]; rfl) (by decide) hd21
                      · have c36 : x0 = (55 : Int32) := Int32.toInt_inj.mp (q23.trans (by decide))
                        exact lv_tableIn (off := 202) (tgt := 203) hx hb dX4_twoOf_1 (by rw [c36]; decide) (by rw [c36]; decide) (by rw [c36]; rfl) (by decide) hd21
                      · have c37 : x0 = (56 : Int32) := Int32.toInt_inj.mp (q23.trans (by decide))
                        exact lv_tableIn (off := 202) (tgt := 203) hx hb dX4_twoOf_1 (by rw [c37]; decide) (by rw [c37]; decide) (by rw [c37]; rfl) (by decide) hd21
                      · have c38 : x0 = (57 : Int32) := Int32.toInt_inj.mp (q23.trans (by decide))
                        exact lv_tableIn (off := 202) (tgt := 203) hx hb dX4_twoOf_1 (by rw [c38]; decide) (by rw [c38]; decide) (by rw [c38]; rfl) (by decide) hd21
                      · have c39 : x0 = (58 : Int32) := Int32.toInt_inj.mp (q23.trans (by decide))
                        exact lv_tableIn (off := 202) (tgt := 203) hx hb dX4_twoOf_1 (by rw [c39]; decide) (by rw [c39]; decide) (by rw [c39]; rfl) (by decide) hd21
                      · have c40 : x0 = (59 : Int32) := Int32.toInt_inj.mp (q23.trans (by decide))
                        exact lv_tableIn (off := 202) (tgt := 203) hx hb dX4_twoOf_1 (by rw [c40]; decide) (by rw [c40]; decide) (by rw [c40]; rfl) (by decide) hd21

def bX4_works_149 (k4 : Int32 → Int32 → Int32 → MS → Option (Int32 × MS)) (x1 : Int32) (x2 : Int32) (x3 : Int32) (S : MS) : Option (Int32 × MS) :=
nm (x3 + (1 : Int32)) fun y1 =>
k4 x1 x2 y1 S
def bX4_works_79 (k4 : Int32 → Int32 → Int32 → MS → Option (Int32 × MS)) (x1 : Int32) (x2 : Int32) (x3 : Int32) (t1 : Int32) (t2 : Int32) (S : MS) : Option (Int32 × MS) :=
chk (inB t1 60) (nm (sIA S 15 (upd (mIA S 15) (t1).toNatClampNeg t2)) fun S3 =>
nm (x2 + (1 : Int32)) fun y4 =>
bX4_works_149 k4 x1 y4 x3 S3)
def bX4_works_38 (k4 : Int32 → Int32 → Int32 → MS → Option (Int32 × MS)) (x1 : Int32) (x2 : Int32) (x3 : Int32) (x4 : Int32) (S : MS) : Option (Int32 × MS) :=
(if x4 = (1 : Int32) then
chk (inB ((x1 + (61 : Int32)) + x3) 382) (bX4_works_79 k4 x1 x2 x3 x2 (mIA S 0 (((x1 + (61 : Int32)) + x3)).toNatClampNeg) S)
else
chk (inB ((x1 + (61 : Int32)) + x3) 382) (chk (inB (mIA S 0 (((x1 + (61 : Int32)) + x3)).toNatClampNeg) 3) (bX4_works_79 k4 x1 x2 x3 x2 (mIA S 14 ((mIA S 0 (((x1 + (61 : Int32)) + x3)).toNatClampNeg)).toNatClampNeg) S)))
def bX4_works_115 (k4 : Int32 → Int32 → Int32 → MS → Option (Int32 × MS)) (x1 : Int32) (x2 : Int32) (x3 : Int32) (t1 : Int32) (t2 : Int32) (S : MS) : Option (Int32 × MS) :=
chk (inB t1 60) (nm (sIA S 15 (upd (mIA S 15) (t1).toNatClampNeg t2)) fun S10 =>
bX4_works_149 k4 x1 x2 x3 S10)
def bX4_works_4 (k4 : Int32 → Int32 → Int32 → MS → Option (Int32 × MS)) (x1 : Int32) (x2 : Int32) (x3 : Int32) (S : MS) : Option (Int32 × MS) :=
chk (inB x1 382) ((if (mIA S 0 (x1).toNatClampNeg) ≤ x3 then
some ((mIA S 15 ((0 : Int32)).toNatClampNeg), S)
else
chk (inB ((x1 + (1 : Int32)) + x3) 382) (nm (mIA S 0 (((x1 + (1 : Int32)) + x3)).toNatClampNeg) fun y14 =>
(if y14 = (1 : Int32) then
bX4_works_38 k4 x1 x2 x3 y14 S
else
(if y14 = (2 : Int32) then
bX4_works_38 k4 x1 x2 x3 y14 S
else
(if y14 = (3 : Int32) then
chk (inB (x2 - (1 : Int32)) 60) ((if (mIA S 15 ((x2 - (1 : Int32))).toNatClampNeg) = 0 then
bX4_works_115 k4 x1 x2 x3 (x2 - (1 : Int32)) (1 : Int32) S
else
bX4_works_115 k4 x1 x2 x3 (x2 - (1 : Int32)) (0 : Int32) S))
else
nm (x2 + (-1 : Int32)) fun y18 =>
chk (inB (y18 - (1 : Int32)) 60) (chk (inB y18 60) (bnd (fX4_twoOf y14 (mIA S 15 ((y18 - (1 : Int32))).toNatClampNeg) (mIA S 15 (y18).toNatClampNeg) S) fun v23 S22 =>
chk (inB (y18 - (1 : Int32)) 60) (nm (sIA S22 15 (upd (mIA S22 15) ((y18 - (1 : Int32))).toNatClampNeg v23)) fun S25 =>
bX4_works_149 k4 x1 y18 x3 S25)))))))))
def lX4_works_4 : Nat → (Int32 → Int32 → Int32 → MS → Option (Int32 × MS))
  | 0 => fun _ _ _ _ => none
  | n + 1 => bX4_works_4 (lX4_works_4 n)
def fX4_works (x1 : Int32) (S : MS) : Option (Int32 × MS) :=
lX4_works_4 FU x1 (0 : Int32) (0 : Int32) S
set_option maxHeartbeats 4000000 in
set_option maxRecDepth 100000 in
theorem mX4_works {l : Launch} {D : va_G} {cA : Nat → ClassId} {o : Nat → Nat} {A : Nat → Prop} (x1 : Int32) (S : MS) {out : (Int32 × MS)} (h : fX4_works x1 S = some out) : Met l yX4_works (ws_ yX4_works cX4_works 5 (some .int)) ({ frames := 1, cells := 0, slots := 0, locals := 22 } : Room) (gPc (mK D cA) (mP D cA o A) A [.ref (o 24), .int x1] S) (gQi (mK D cA) (mP D cA o A) A out) 0 0 A := by
  refine gMet_z (by decide) (Nat.le_of_ble_eq_true rfl) ?_ mKst
  intro p e s m below meth c Q ls args H locs hC hP hS hl ret
  obtain ⟨hx, hb, hml, hown, hts, hA, hK⟩ := hC
  have hown : s.vm.findClass RX4 = some m.cls := hown
  have hl : lv_has ls 5 [(0, .ref (o 24)), (1, .int x1)] := hl
  have L4 : ∀ (n4 : Nat) (x1 : Int32) (x2 : Int32) (x3 : Int32) (S : MS) (H : Heap) (locs : List Loc) (ls : Array Slot), mP D cA o A S H → va_S A s.heap H locs → lv_has ls 5 [(0, .ref (o 24)), (1, .int x1), (2, .int x2), (3, .int x3)] → lX4_works_4 n4 x1 x2 x3 S = some out → W p l e ({ frames := 1, cells := 0, slots := 0, locals := 22 } : Room) s m args below meth c H locs 0 0 Q (F0 m 4 ls []) := by
    intro n4
    induction n4 with
    | zero =>
      intro x1 x2 x3 S H locs ls hP hS hl h
      cases h
    | succ n4 ih4 =>
      have B149 : ∀ (x1 : Int32) (x2 : Int32) (x3 : Int32) (S : MS) (H : Heap) (locs : List Loc) (ls : Array Slot), mP D cA o A S H → va_S A s.heap H locs → lv_has ls 5 [(0, .ref (o 24)), (1, .int x1), (2, .int x2), (3, .int x3)] → bX4_works_149 (lX4_works_4 n4) x1 x2 x3 S = some out → W p l e ({ frames := 1, cells := 0, slots := 0, locals := 22 } : Room) s m args below meth c H locs 0 0 Q (F0 m 149 ls []) := by
        intro x1 x2 x3 S H locs ls hP hS hl h
        unfold bX4_works_149 at h
        obtain ⟨y1, ey1⟩ : ∃ y : Int32, y = x3 + (1 : Int32) := ⟨_, rfl⟩
        refine lv_iinc (v := y1) (lv' := [(3, .int y1), (0, .ref (o 24)), (1, .int x1), (2, .int x2)]) hx hb dX4_works_149 hl (k := 3) rfl (by rw [ey1]; rfl) (by decide) rfl (fun ls hl => ?_)
        have h := nm_at ey1 h
        refine lv_goto (tgt := 4) hx hb dX4_works_152 (by decide) ?_
        exact ih4 x1 x2 y1 S _ _ _ hP hS (lv_sub hl [1, 2, 3, 0] rfl) h
      have B79 : ∀ (x1 : Int32) (x2 : Int32) (x3 : Int32) (t1 : Int32) (t2 : Int32) (S : MS) (H : Heap) (locs : List Loc) (ls : Array Slot), mP D cA o A S H → va_S A s.heap H locs → lv_has ls 5 [(0, .ref (o 24)), (1, .int x1), (2, .int x2), (3, .int x3)] → bX4_works_79 (lX4_works_4 n4) x1 x2 x3 t1 t2 S = some out → W p l e ({ frames := 1, cells := 0, slots := 0, locals := 22 } : Room) s m args below meth c H locs 0 0 Q (F0 m 79 ls [.int t2, .int t1, .ref (o 15)]) := by
        intro x1 x2 x3 t1 t2 S H locs ls hP hS hl h
        unfold bX4_works_79 at h
        obtain ⟨g2, h⟩ := chk_some h
        refine va_iast hx hb hK hP.1 hP.2 hS 14 0 rfl rfl (inB_in g2) dX4_works_79 (fun H locs hP1 hD1 hS => ?_)
        obtain ⟨S3, eS3⟩ : ∃ y : MS, y = (sIA S 15 (upd (mIA S 15) (t1).toNatClampNeg t2)) := ⟨_, rfl⟩
        have hP : mP D cA o A S3 H := by rw [eS3]; exact ⟨hP1, hD1⟩
        have h := nm_at eS3 h
        obtain ⟨y4, ey4⟩ : ∃ y : Int32, y = x2 + (1 : Int32) := ⟨_, rfl⟩
        refine lv_iinc (v := y4) (lv' := [(2, .int y4), (0, .ref (o 24)), (1, .int x1), (3, .int x3)]) hx hb dX4_works_80 hl (k := 2) rfl (by rw [ey4]; rfl) (by decide) rfl (fun ls hl => ?_)
        have h := nm_at ey4 h
        refine lv_goto (tgt := 149) hx hb dX4_works_83 (by decide) ?_
        exact B149 x1 y4 x3 S3 _ _ _ hP hS (lv_sub hl [1, 2, 0, 3] rfl) h
      have B38 : ∀ (x1 : Int32) (x2 : Int32) (x3 : Int32) (x4 : Int32) (S : MS) (H : Heap) (locs : List Loc) (ls : Array Slot), mP D cA o A S H → va_S A s.heap H locs → lv_has ls 5 [(0, .ref (o 24)), (1, .int x1), (2, .int x2), (3, .int x3), (4, .int x4)] → bX4_works_38 (lX4_works_4 n4) x1 x2 x3 x4 S = some out → W p l e ({ frames := 1, cells := 0, slots := 0, locals := 22 } : Room) s m args below meth c H locs 0 0 Q (F0 m 38 ls []) := by
        intro x1 x2 x3 x4 S H locs ls hP hS hl h
        unfold bX4_works_38 at h
        refine lv_aload_n hx hb dX4_works_38 rfl (lv_at hl 0 rfl) ?_
        refine va_get (D := D) (ci := 4) (v := .ref (o 15)) (C := RX4) (T := TX4) (N := 24) hx hb hts in_X4 hown hK hP.1 0 rfl rfl 15 (by decide) (hts _ q1264) (fun _ h9 => h9) rfl dX4_works_39 ?_
        refine lv_iload_n hx hb dX4_works_42 rfl (lv_at hl 2 rfl) ?_
        refine lv_iload hx hb dX4_works_43 (lv_at hl 4 rfl) ?_
        refine lv_iconst (v := (1 : Int32)) hx hb dX4_works_45 (by decide) ?_
        refine lv_icmp_ne (tgt := 63) hx hb dX4_works_46 (by decide) (fun c5 => ?_) (fun c5 => ?_)
        · have h := ite_f c5 h
          refine lv_aload_n hx hb dX4_works_63 rfl (lv_at hl 0 rfl) ?_
          refine va_get (D := D) (ci := 4) (v := .ref (o 14)) (C := RX4) (T := TX4) (N := 24) hx hb hts in_X4 hown hK hP.1 0 rfl rfl 14 (by decide) (hts _ q1263) (fun _ h9 => h9) rfl dX4_works_64 ?_
          refine lv_aload_n hx hb dX4_works_67 rfl (lv_at hl 0 rfl) ?_
          refine va_get (D := D) (ci := 4) (v := .ref (o 0)) (C := RX4) (T := TX4) (N := 24) hx hb hts in_X4 hown hK hP.1 0 rfl rfl 0 (by decide) (hts _ q1249) (fun _ h9 => h9) rfl dX4_works_68 ?_
          refine lv_iload_n hx hb dX4_works_71 rfl (lv_at hl 1 rfl) ?_
          refine lv_bipush (v := (61 : Int32)) hx hb dX4_works_72 (by decide) ?_
          refine lv_iadd hx hb dX4_works_74 ?_
          refine lv_iload_n hx hb dX4_works_75 rfl (lv_at hl 3 rfl) ?_
          refine lv_iadd hx hb dX4_works_76 ?_
          obtain ⟨g6, h⟩ := chk_some h
          refine va_iald hx hb hK hP.1 1 0 rfl rfl (inB_in g6) dX4_works_77 ?_
          obtain ⟨g7, h⟩ := chk_some h
          refine va_iald hx hb hK hP.1 13 0 rfl rfl (inB_in g7) dX4_works_78 ?_
          exact B79 x1 x2 x3 x2 (mIA S 14 ((mIA S 0 (((x1 + (61 : Int32)) + x3)).toNatClampNeg)).toNatClampNeg) S _ _ _ hP hS (lv_sub hl [0, 1, 2, 3] rfl) h
        · have h := ite_t c5 h
          refine lv_aload_n hx hb dX4_works_49 rfl (lv_at hl 0 rfl) ?_
          refine va_get (D := D) (ci := 4) (v := .ref (o 0)) (C := RX4) (T := TX4) (N := 24) hx hb hts in_X4 hown hK hP.1 0 rfl rfl 0 (by decide) (hts _ q1249) (fun _ h9 => h9) rfl dX4_works_50 ?_
          refine lv_iload_n hx hb dX4_works_53 rfl (lv_at hl 1 rfl) ?_
          refine lv_bipush (v := (61 : Int32)) hx hb dX4_works_54 (by decide) ?_
          refine lv_iadd hx hb dX4_works_56 ?_
          refine lv_iload_n hx hb dX4_works_57 rfl (lv_at hl 3 rfl) ?_
          refine lv_iadd hx hb dX4_works_58 ?_
          obtain ⟨g8, h⟩ := chk_some h
          refine va_iald hx hb hK hP.1 1 0 rfl rfl (inB_in g8) dX4_works_59 ?_
          refine lv_goto (tgt := 79) hx hb dX4_works_60 (by decide) ?_
          exact B79 x1 x2 x3 x2 (mIA S 0 (((x1 + (61 : Int32)) + x3)).toNatClampNeg) S _ _ _ hP hS (lv_sub hl [0, 1, 2, 3] rfl) h
      have B115 : ∀ (x1 : Int32) (x2 : Int32) (x3 : Int32) (t1 : Int32) (t2 : Int32) (S : MS) (H : Heap) (locs : List Loc) (ls : Array Slot), mP D cA o A S H → va_S A s.heap H locs → lv_has ls 5 [(0, .ref (o 24)), (1, .int x1), (2, .int x2), (3, .int x3)] → bX4_works_115 (lX4_works_4 n4) x1 x2 x3 t1 t2 S = some out → W p l e ({ frames := 1, cells := 0, slots := 0, locals := 22 } : Room) s m args below meth c H locs 0 0 Q (F0 m 115 ls [.int t2, .int t1, .ref (o 15)]) := by
        intro x1 x2 x3 t1 t2 S H locs ls hP hS hl h
        unfold bX4_works_115 at h
        obtain ⟨g9, h⟩ := chk_some h
        refine va_iast hx hb hK hP.1 hP.2 hS 14 0 rfl rfl (inB_in g9) dX4_works_115 (fun H locs hP1 hD1 hS => ?_)
        obtain ⟨S10, eS10⟩ : ∃ y : MS, y = (sIA S 15 (upd (mIA S 15) (t1).toNatClampNeg t2)) := ⟨_, rfl⟩
        have hP : mP D cA o A S10 H := by rw [eS10]; exact ⟨hP1, hD1⟩
        have h := nm_at eS10 h
        refine lv_goto (tgt := 149) hx hb dX4_works_116 (by decide) ?_
        exact B149 x1 x2 x3 S10 _ _ _ hP hS hl h
      intro x1 x2 x3 S H locs ls hP hS hl h
      replace h : bX4_works_4 (lX4_works_4 n4) x1 x2 x3 S = some out := h
      unfold bX4_works_4 at h
      refine lv_iload_n hx hb dX4_works_4 rfl (lv_at hl 3 rfl) ?_
      refine lv_aload_n hx hb dX4_works_5 rfl (lv_at hl 0 rfl) ?_
      refine va_get (D := D) (ci := 4) (v := .ref (o 0)) (C := RX4) (T := TX4) (N := 24) hx hb hts in_X4 hown hK hP.1 0 rfl rfl 0 (by decide) (hts _ q1249) (fun _ h9 => h9) rfl dX4_works_6 ?_
      refine lv_iload_n hx hb dX4_works_9 rfl (lv_at hl 1 rfl) ?_
      obtain ⟨g11, h⟩ := chk_some h
      refine va_iald hx hb hK hP.1 1 0 rfl rfl (inB_in g11) dX4_works_10 ?_
      refine lv_icmp_ge (tgt := 155) hx hb dX4_works_11 (by decide) (fun c12 => ?_) (fun c12 => ?_)
      · have h := ite_t c12 h
        refine lv_aload_n hx hb dX4_works_155 rfl (lv_at hl 0 rfl) ?_
        refine va_get (D := D) (ci := 4) (v := .ref (o 15)) (C := RX4) (T := TX4) (N := 24) hx hb hts in_X4 hown hK hP.1 0 rfl rfl 15 (by decide) (hts _ q1264) (fun _ h9 => h9) rfl dX4_works_156 ?_
        refine lv_iconst (v := (0 : Int32)) hx hb dX4_works_159 (by decide) ?_
        refine va_iald hx hb hK hP.1 14 0 rfl rfl (inB_in (by decide)) dX4_works_160 ?_
        exact ret _ _ _ _ _ _ dX4_works_161 rfl hP hS h
      · have h := ite_f c12 h
        refine lv_aload_n hx hb dX4_works_14 rfl (lv_at hl 0 rfl) ?_
        refine va_get (D := D) (ci := 4) (v := .ref (o 0)) (C := RX4) (T := TX4) (N := 24) hx hb hts in_X4 hown hK hP.1 0 rfl rfl 0 (by decide) (hts _ q1249) (fun _ h9 => h9) rfl dX4_works_15 ?_
        refine lv_iload_n hx hb dX4_works_18 rfl (lv_at hl 1 rfl) ?_
        refine lv_iconst (v := (1 : Int32)) hx hb dX4_works_19 (by decide) ?_
        refine lv_iadd hx hb dX4_works_20 ?_
        refine lv_iload_n hx hb dX4_works_21 rfl (lv_at hl 3 rfl) ?_
        refine lv_iadd hx hb dX4_works_22 ?_
        obtain ⟨g13, h⟩ := chk_some h
        refine va_iald hx hb hK hP.1 1 0 rfl rfl (inB_in g13) dX4_works_23 ?_
        refine lv_topi (fun y14 ey14 => ?_)
        have h := nm_at ey14 h
        refine lv_istore (lv' := [(4, .int y14), (0, .ref (o 24)), (1, .int x1), (2, .int x2), (3, .int x3)]) hx hb dX4_works_24 hl (by decide) rfl (fun ls hl => ?_)
        refine lv_iload hx hb dX4_works_26 (lv_at hl 0 rfl) ?_
        refine lv_iconst (v := (1 : Int32)) hx hb dX4_works_28 (by decide) ?_
        refine lv_icmp_eq (tgt := 38) hx hb dX4_works_29 (by decide) (fun c15 => ?_) (fun c15 => ?_)
        · have h := ite_t c15 h
          exact B38 x1 x2 x3 y14 S _ _ _ hP hS (lv_sub hl [1, 2, 3, 4, 0] rfl) h
        · have h := ite_f c15 h
          refine lv_iload hx hb dX4_works_32 (lv_at hl 0 rfl) ?_
          refine lv_iconst (v := (2 : Int32)) hx hb dX4_works_34 (by decide) ?_
          refine lv_icmp_ne (tgt := 86) hx hb dX4_works_35 (by decide) (fun c16 => ?_) (fun c16 => ?_)
          · have h := ite_f c16 h
            refine lv_iload hx hb dX4_works_86 (lv_at hl 0 rfl) ?_
            refine lv_iconst (v := (3 : Int32)) hx hb dX4_works_88 (by decide) ?_
            refine lv_icmp_ne (tgt := 119) hx hb dX4_works_89 (by decide) (fun c17 => ?_) (fun c17 => ?_)
            · have h := ite_f c17 h
              obtain ⟨y18, ey18⟩ : ∃ y : Int32, y = x2 + (-1 : Int32) := ⟨_, rfl⟩
              refine lv_iinc (v := y18) (lv' := [(2, .int y18), (4, .int y14), (0, .ref (o 24)), (1, .int x1), (3, .int x3)]) hx hb dX4_works_119 hl (k := 3) rfl (by rw [ey18]; rfl) (by decide) rfl (fun ls hl => ?_)
              have h := nm_at ey18 h
              refine lv_aload_n hx hb dX4_works_122 rfl (lv_at hl 2 rfl) ?_
              refine va_get (D := D) (ci := 4) (v := .ref (o 15)) (C := RX4) (T := TX4) (N := 24) hx hb hts in_X4 hown hK hP.1 0 rfl rfl 15 (by decide) (hts _ q1264) (fun _ h9 => h9) rfl dX4_works_123 ?_
              refine lv_iload_n hx hb dX4_works_126 rfl (lv_at hl 0 rfl) ?_
              refine lv_iconst (v := (1 : Int32)) hx hb dX4_works_127 (by decide) ?_
              refine lv_isub hx hb dX4_works_128 ?_
              refine lv_iload hx hb dX4_works_129 (lv_at hl 1 rfl) ?_
              refine lv_aload_n hx hb dX4_works_131 rfl (lv_at hl 2 rfl) ?_
              refine va_get (D := D) (ci := 4) (v := .ref (o 15)) (C := RX4) (T := TX4) (N := 24) hx hb hts in_X4 hown hK hP.1 0 rfl rfl 15 (by decide) (hts _ q1264) (fun _ h9 => h9) rfl dX4_works_132 ?_
              refine lv_iload_n hx hb dX4_works_135 rfl (lv_at hl 0 rfl) ?_
              refine lv_iconst (v := (1 : Int32)) hx hb dX4_works_136 (by decide) ?_
              refine lv_isub hx hb dX4_works_137 ?_
              obtain ⟨g19, h⟩ := chk_some h
              refine va_iald hx hb hK hP.1 14 0 rfl rfl (inB_in g19) dX4_works_138 ?_
              refine lv_aload_n hx hb dX4_works_139 rfl (lv_at hl 2 rfl) ?_
              refine va_get (D := D) (ci := 4) (v := .ref (o 15)) (C := RX4) (T := TX4) (N := 24) hx hb hts in_X4 hown hK hP.1 0 rfl rfl 15 (by decide) (hts _ q1264) (fun _ h9 => h9) rfl dX4_works_140 ?_
              refine lv_iload_n hx hb dX4_works_143 rfl (lv_at hl 0 rfl) ?_
              obtain ⟨g20, h⟩ := chk_some h
              refine va_iald hx hb hK hP.1 14 0 rfl rfl (inB_in g20) dX4_works_144 ?_
              obtain ⟨v23, S22, e21, h⟩ := bnd_some h
              refine gc0_i (va_runS (As := [.int y14, .int (mIA S 15 ((y18 - (1 : Int32))).toNatClampNeg), .int (mIA S 15 (y18).toNatClampNeg)]) (rest := [.int (y18 - (1 : Int32)), .ref (o 15)]) ⟨hx, hb, hml, hown, hts⟩ (mX4_twoOf (l := l) (D := D) (cA := cA) (o := o) (A := A) y14 (mIA S 15 ((y18 - (1 : Int32))).toNatClampNeg) (mIA S 15 (y18).toNatClampNeg) S e21) (va_cwS 3 hts (lw_S q1379 q1380 q90 q1381) rfl rfl rfl (by decide +kernel) ⟨Nat.le_of_ble_eq_true rfl, Nat.le_of_ble_eq_true rfl⟩) (gPreS mKst hK hA hS hP) rfl rfl hl.1 rfl (lv_room (Nat.le_of_ble_eq_true rfl)) dX4_works_145 ⟨Nat.zero_le _, Nat.zero_le _⟩) hS (fun H locs hP hS => ?_)
              obtain ⟨g24, h⟩ := chk_some h
              refine va_iast hx hb hK hP.1 hP.2 hS 14 0 rfl rfl (inB_in g24) dX4_works_148 (fun H locs hP1 hD1 hS => ?_)
              obtain ⟨S25, eS25⟩ : ∃ y : MS, y = (sIA S22 15 (upd (mIA S22 15) ((y18 - (1 : Int32))).toNatClampNeg v23)) := ⟨_, rfl⟩
              have hP : mP D cA o A S25 H := by rw [eS25]; exact ⟨hP1, hD1⟩
              have h := nm_at eS25 h
              exact B149 x1 y18 x3 S25 _ _ _ hP hS (lv_sub hl [2, 3, 0, 4] rfl) h
            · have h := ite_t c17 h
              refine lv_aload_n hx hb dX4_works_92 rfl (lv_at hl 1 rfl) ?_
              refine va_get (D := D) (ci := 4) (v := .ref (o 15)) (C := RX4) (T := TX4) (N := 24) hx hb hts in_X4 hown hK hP.1 0 rfl rfl 15 (by decide) (hts _ q1264) (fun _ h9 => h9) rfl dX4_works_93 ?_
              refine lv_iload_n hx hb dX4_works_96 rfl (lv_at hl 3 rfl) ?_
              refine lv_iconst (v := (1 : Int32)) hx hb dX4_works_97 (by decide) ?_
              refine lv_isub hx hb dX4_works_98 ?_
              refine lv_aload_n hx hb dX4_works_99 rfl (lv_at hl 1 rfl) ?_
              refine va_get (D := D) (ci := 4) (v := .ref (o 15)) (C := RX4) (T := TX4) (N := 24) hx hb hts in_X4 hown hK hP.1 0 rfl rfl 15 (by decide) (hts _ q1264) (fun _ h9 => h9) rfl dX4_works_100 ?_
              refine lv_iload_n hx hb dX4_works_103 rfl (lv_at hl 3 rfl) ?_
              refine lv_iconst (v := (1 : Int32)) hx hb dX4_works_104 (by decide) ?_
              refine lv_isub hx hb dX4_works_105 ?_
              obtain ⟨g26, h⟩ := chk_some h
              refine va_iald hx hb hK hP.1 14 0 rfl rfl (inB_in g26) dX4_works_106 ?_
              refine lv_if_ne (tgt := 114) hx hb dX4_works_107 (by decide) (fun c27 => ?_) (fun c27 => ?_)
              · have h := ite_f c27 h
                refine lv_iconst (v := (0 : Int32)) hx hb dX4_works_114 (by decide) ?_
                exact B115 x1 x2 x3 (x2 - (1 : Int32)) (0 : Int32) S _ _ _ hP hS (lv_sub hl [1, 2, 3, 4] rfl) h
              · have h := ite_t c27 h
                refine lv_iconst (v := (1 : Int32)) hx hb dX4_works_110 (by decide) ?_
                refine lv_goto (tgt := 115) hx hb dX4_works_111 (by decide) ?_
                exact B115 x1 x2 x3 (x2 - (1 : Int32)) (1 : Int32) S _ _ _ hP hS (lv_sub hl [1, 2, 3, 4] rfl) h
          · have h := ite_t c16 h
            exact B38 x1 x2 x3 y14 S _ _ _ hP hS (lv_sub hl [1, 2, 3, 4, 0] rfl) h
  unfold fX4_works at h
  refine lv_iconst (v := (0 : Int32)) hx hb dX4_works_0 (by decide) ?_
  refine lv_istore_n (lv' := [(2, .int (0 : Int32)), (0, .ref (o 24)), (1, .int x1)]) hx hb dX4_works_1 rfl hl (by decide) rfl (fun ls hl => ?_)
  refine lv_iconst (v := (0 : Int32)) hx hb dX4_works_2 (by decide) ?_
  refine lv_istore_n (lv' := [(3, .int (0 : Int32)), (2, .int (0 : Int32)), (0, .ref (o 24)), (1, .int x1)]) hx hb dX4_works_3 rfl hl (by decide) rfl (fun ls hl => ?_)
  exact L4 FU x1 (0 : Int32) (0 : Int32) S _ _ _ hP hS (lv_sub hl [2, 3, 1, 0] rfl) h

def bX4_held_19 (t0 : Int32) (S : MS) : Option (Int32 × MS) :=
some (t0, S)
def fX4_held (x0 : Int32) (x1 : Int32) (x2 : Int32) (S : MS) : Option (Int32 × MS) :=
(if x1 ≤ x0 then
(if x0 ≤ x2 then
bX4_held_19 x0 S
else
bX4_held_19 x2 S)
else
bX4_held_19 x1 S)
set_option maxHeartbeats 4000000 in
set_option maxRecDepth 100000 in
theorem mX4_held {l : Launch} {D : va_G} {cA : Nat → ClassId} {o : Nat → Nat} {A : Nat → Prop} (x0 : Int32) (x1 : Int32) (x2 : Int32) (S : MS) {out : (Int32 × MS)} (h : fX4_held x0 x1 x2 S = some out) : Met l yX4_held (ws_ yX4_held cX4_held 3 (some .int)) ({ frames := 0, cells := 0, slots := 0, locals := 0 } : Room) (gPc (mK D cA) (mP D cA o A) A [.int x0, .int x1, .int x2] S) (gQi (mK D cA) (mP D cA o A) A out) 0 0 A := by
  refine gMet_z (by decide) (Nat.le_of_ble_eq_true rfl) ?_ mKst
  intro p e s m below meth c Q ls args H locs hC hP hS hl ret
  obtain ⟨hx, hb, hml, hown, hts, hA, hK⟩ := hC
  have hown : s.vm.findClass RX4 = some m.cls := hown
  have hl : lv_has ls 3 [(0, .int x0), (1, .int x1), (2, .int x2)] := hl
  have B19 : ∀ (t0 : Int32) (S : MS) (H : Heap) (locs : List Loc) (ls : Array Slot), mP D cA o A S H → va_S A s.heap H locs → lv_has ls 3 [] → bX4_held_19  t0 S = some out → W p l e ({ frames := 0, cells := 0, slots := 0, locals := 0 } : Room) s m args below meth c H locs 0 0 Q (F0 m 19 ls [.int t0]) := by
    intro t0 S H locs ls hP hS hl h
    unfold bX4_held_19 at h
    exact ret _ _ _ _ _ _ dX4_held_19 rfl hP hS h
  unfold fX4_held at h
  refine lv_iload_n hx hb dX4_held_0 rfl (lv_at hl 0 rfl) ?_
  refine lv_iload_n hx hb dX4_held_1 rfl (lv_at hl 1 rfl) ?_
  refine lv_icmp_ge (tgt := 9) hx hb dX4_held_2 (by decide) (fun c1 => ?_) (fun c1 => ?_)
  · have h := ite_t c1 h
    refine lv_iload_n hx hb dX4_held_9 rfl (lv_at hl 0 rfl) ?_
    refine lv_iload_n hx hb dX4_held_10 rfl (lv_at hl 2 rfl) ?_
    refine lv_icmp_le (tgt := 18) hx hb dX4_held_11 (by decide) (fun c2 => ?_) (fun c2 => ?_)
    · have h := ite_t c2 h
      refine lv_iload_n hx hb dX4_held_18 rfl (lv_at hl 0 rfl) ?_
      exact B19 x0 S _ _ _ hP hS (lv_sub hl [] rfl) h
    · have h := ite_f c2 h
      refine lv_iload_n hx hb dX4_held_14 rfl (lv_at hl 2 rfl) ?_
      refine lv_goto (tgt := 19) hx hb dX4_held_15 (by decide) ?_
      exact B19 x2 S _ _ _ hP hS (lv_sub hl [] rfl) h
  · have h := ite_f c1 h
    refine lv_iload_n hx hb dX4_held_5 rfl (lv_at hl 1 rfl) ?_
    refine lv_goto (tgt := 19) hx hb dX4_held_6 (by decide) ?_
    exact B19 x1 S _ _ _ hP hS (lv_sub hl [] rfl) h

def bX4_gives_77 (t0 : Int32) (S : MS) : Option (Int32 × MS) :=
some (t0, S)
def bX4_gives_52 (x1 : Int32) (t0 : Int32) (S : MS) : Option (Int32 × MS) :=
(if x1 = 0 then
bnd (fX4_held t0 (1 : Int32) (4 : Int32) S) fun v7 S6 =>
bX4_gives_77 v7 S6
else
bnd (fX4_held t0 (-30 : Int32) (30 : Int32) S) fun v4 S3 =>
bX4_gives_77 v4 S3)
def fX4_gives (x1 : Int32) (x2 : Int32) (x3 : Int32) (x4 : Int32) (S : MS) : Option (Int32 × MS) :=
nm ((140 : Int32) + ((121 : Int32) * x1)) fun y8 =>
nm (sIA S 14 (upd (mIA S 14) ((0 : Int32)).toNatClampNeg x2)) fun S9 =>
nm (sIA S9 14 (upd (mIA S9 14) ((1 : Int32)).toNatClampNeg x3)) fun S10 =>
nm (sIA S10 14 (upd (mIA S10 14) ((2 : Int32)).toNatClampNeg x4)) fun S11 =>
chk (inB y8 382) ((if (mIA S11 0 (y8).toNatClampNeg) ≤ 0 then
bX4_gives_52 x1 x2 S11
else
bnd (fX4_works y8 S11) fun v16 S15 =>
bX4_gives_52 x1 v16 S15))
set_option maxHeartbeats 4000000 in
set_option maxRecDepth 100000 in
theorem mX4_gives {l : Launch} {D : va_G} {cA : Nat → ClassId} {o : Nat → Nat} {A : Nat → Prop} (x1 : Int32) (x2 : Int32) (x3 : Int32) (x4 : Int32) (S : MS) {out : (Int32 × MS)} (h : fX4_gives x1 x2 x3 x4 S = some out) : Met l yX4_gives (ws_ yX4_gives cX4_gives 7 (some .int)) ({ frames := 2, cells := 0, slots := 0, locals := 46 } : Room) (gPc (mK D cA) (mP D cA o A) A [.ref (o 24), .int x1, .int x2, .int x3, .int x4] S) (gQi (mK D cA) (mP D cA o A) A out) 0 0 A := by
  refine gMet_z (by decide) (Nat.le_of_ble_eq_true rfl) ?_ mKst
  intro p e s m below meth c Q ls args H locs hC hP hS hl ret
  obtain ⟨hx, hb, hml, hown, hts, hA, hK⟩ := hC
  have hown : s.vm.findClass RX4 = some m.cls := hown
  have hl : lv_has ls 7 [(0, .ref (o 24)), (1, .int x1), (2, .int x2), (3, .int x3), (4, .int x4)] := hl
  have B77 : ∀ (t0 : Int32) (S : MS) (H : Heap) (locs : List Loc) (ls : Array Slot), mP D cA o A S H → va_S A s.heap H locs → lv_has ls 7 [(0, .ref (o 24))] → bX4_gives_77  t0 S = some out → W p l e ({ frames := 2, cells := 0, slots := 0, locals := 46 } : Room) s m args below meth c H locs 0 0 Q (F0 m 77 ls [.int t0]) := by
    intro t0 S H locs ls hP hS hl h
    unfold bX4_gives_77 at h
    exact ret _ _ _ _ _ _ dX4_gives_77 rfl hP hS h
  have B52 : ∀ (x1 : Int32) (t0 : Int32) (S : MS) (H : Heap) (locs : List Loc) (ls : Array Slot), mP D cA o A S H → va_S A s.heap H locs → lv_has ls 7 [(0, .ref (o 24)), (1, .int x1)] → bX4_gives_52  x1 t0 S = some out → W p l e ({ frames := 2, cells := 0, slots := 0, locals := 46 } : Room) s m args below meth c H locs 0 0 Q (F0 m 52 ls [.int t0]) := by
    intro x1 t0 S H locs ls hP hS hl h
    unfold bX4_gives_52 at h
    refine lv_istore (lv' := [(6, .int t0), (0, .ref (o 24)), (1, .int x1)]) hx hb dX4_gives_52 hl (by decide) rfl (fun ls hl => ?_)
    refine lv_iload_n hx hb dX4_gives_54 rfl (lv_at hl 2 rfl) ?_
    refine lv_if_ne (tgt := 68) hx hb dX4_gives_55 (by decide) (fun c1 => ?_) (fun c1 => ?_)
    · have h := ite_f c1 h
      refine lv_iload hx hb dX4_gives_68 (lv_at hl 0 rfl) ?_
      refine lv_bipush (v := (-30 : Int32)) hx hb dX4_gives_70 (by decide) ?_
      refine lv_bipush (v := (30 : Int32)) hx hb dX4_gives_72 (by decide) ?_
      obtain ⟨v4, S3, e2, h⟩ := bnd_some h
      refine gc0_i (va_runS (As := [.int t0, .int (-30 : Int32), .int (30 : Int32)]) (rest := []) ⟨hx, hb, hml, hown, hts⟩ (mX4_held (l := l) (D := D) (cA := cA) (o := o) (A := A) t0 (-30 : Int32) (30 : Int32) S e2) (va_cwS 3 hts (lw_S q1382 q1383 q90 q1384) rfl rfl rfl (by decide +kernel) ⟨Nat.le_of_ble_eq_true rfl, Nat.le_of_ble_eq_true rfl⟩) (gPreS mKst hK hA hS hP) rfl rfl hl.1 rfl (lv_room (Nat.le_of_ble_eq_true rfl)) dX4_gives_74 ⟨Nat.zero_le _, Nat.zero_le _⟩) hS (fun H locs hP hS => ?_)
      exact B77 v4 S3 _ _ _ hP hS (lv_sub hl [1] rfl) h
    · have h := ite_t c1 h
      refine lv_iload hx hb dX4_gives_58 (lv_at hl 0 rfl) ?_
      refine lv_iconst (v := (1 : Int32)) hx hb dX4_gives_60 (by decide) ?_
      refine lv_iconst (v := (4 : Int32)) hx hb dX4_gives_61 (by decide) ?_
      obtain ⟨v7, S6, e5, h⟩ := bnd_some h
      refine gc0_i (va_runS (As := [.int t0, .int (1 : Int32), .int (4 : Int32)]) (rest := []) ⟨hx, hb, hml, hown, hts⟩ (mX4_held (l := l) (D := D) (cA := cA) (o := o) (A := A) t0 (1 : Int32) (4 : Int32) S e5) (va_cwS 3 hts (lw_S q1382 q1383 q90 q1384) rfl rfl rfl (by decide +kernel) ⟨Nat.le_of_ble_eq_true rfl, Nat.le_of_ble_eq_true rfl⟩) (gPreS mKst hK hA hS hP) rfl rfl hl.1 rfl (lv_room (Nat.le_of_ble_eq_true rfl)) dX4_gives_62 ⟨Nat.zero_le _, Nat.zero_le _⟩) hS (fun H locs hP hS => ?_)
      refine lv_goto (tgt := 77) hx hb dX4_gives_65 (by decide) ?_
      exact B77 v7 S6 _ _ _ hP hS (lv_sub hl [1] rfl) h
  unfold fX4_gives at h
  refine lv_sipush (v := (140 : Int32)) hx hb dX4_gives_0 (by decide) ?_
  refine lv_bipush (v := (121 : Int32)) hx hb dX4_gives_3 (by decide) ?_
  refine lv_iload_n hx hb dX4_gives_5 rfl (lv_at hl 1 rfl) ?_
  refine lv_imul hx hb dX4_gives_6 ?_
  refine lv_iadd hx hb dX4_gives_7 ?_
  refine lv_topi (fun y8 ey8 => ?_)
  have h := nm_at ey8 h
  refine lv_istore (lv' := [(5, .int y8), (0, .ref (o 24)), (1, .int x1), (2, .int x2), (3, .int x3), (4, .int x4)]) hx hb dX4_gives_8 hl (by decide) rfl (fun ls hl => ?_)
  refine lv_aload_n hx hb dX4_gives_10 rfl (lv_at hl 1 rfl) ?_
  refine va_get (D := D) (ci := 4) (v := .ref (o 14)) (C := RX4) (T := TX4) (N := 24) hx hb hts in_X4 hown hK hP.1 0 rfl rfl 14 (by decide) (hts _ q1263) (fun _ h9 => h9) rfl dX4_gives_11 ?_
  refine lv_iconst (v := (0 : Int32)) hx hb dX4_gives_14 (by decide) ?_
  refine lv_iload_n hx hb dX4_gives_15 rfl (lv_at hl 3 rfl) ?_
  refine va_iast hx hb hK hP.1 hP.2 hS 13 0 rfl rfl (inB_in (by decide)) dX4_gives_16 (fun H locs hP1 hD1 hS => ?_)
  obtain ⟨S9, eS9⟩ : ∃ y : MS, y = (sIA S 14 (upd (mIA S 14) ((0 : Int32)).toNatClampNeg x2)) := ⟨_, rfl⟩
  have hP : mP D cA o A S9 H := by rw [eS9]; exact ⟨hP1, hD1⟩
  have h := nm_at eS9 h
  refine lv_aload_n hx hb dX4_gives_17 rfl (lv_at hl 1 rfl) ?_
  refine va_get (D := D) (ci := 4) (v := .ref (o 14)) (C := RX4) (T := TX4) (N := 24) hx hb hts in_X4 hown hK hP.1 0 rfl rfl 14 (by decide) (hts _ q1263) (fun _ h9 => h9) rfl dX4_gives_18 ?_
  refine lv_iconst (v := (1 : Int32)) hx hb dX4_gives_21 (by decide) ?_
  refine lv_iload_n hx hb dX4_gives_22 rfl (lv_at hl 4 rfl) ?_
  refine va_iast hx hb hK hP.1 hP.2 hS 13 0 rfl rfl (inB_in (by decide)) dX4_gives_23 (fun H locs hP1 hD1 hS => ?_)
  obtain ⟨S10, eS10⟩ : ∃ y : MS, y = (sIA S9 14 (upd (mIA S9 14) ((1 : Int32)).toNatClampNeg x3)) := ⟨_, rfl⟩
  have hP : mP D cA o A S10 H := by rw [eS10]; exact ⟨hP1, hD1⟩
  have h := nm_at eS10 h
  refine lv_aload_n hx hb dX4_gives_24 rfl (lv_at hl 1 rfl) ?_
  refine va_get (D := D) (ci := 4) (v := .ref (o 14)) (C := RX4) (T := TX4) (N := 24) hx hb hts in_X4 hown hK hP.1 0 rfl rfl 14 (by decide) (hts _ q1263) (fun _ h9 => h9) rfl dX4_gives_25 ?_
  refine lv_iconst (v := (2 : Int32)) hx hb dX4_gives_28 (by decide) ?_
  refine lv_iload hx hb dX4_gives_29 (lv_at hl 5 rfl) ?_
  refine va_iast hx hb hK hP.1 hP.2 hS 13 0 rfl rfl (inB_in (by decide)) dX4_gives_31 (fun H locs hP1 hD1 hS => ?_)
  obtain ⟨S11, eS11⟩ : ∃ y : MS, y = (sIA S10 14 (upd (mIA S10 14) ((2 : Int32)).toNatClampNeg x4)) := ⟨_, rfl⟩
  have hP : mP D cA o A S11 H := by rw [eS11]; exact ⟨hP1, hD1⟩
  have h := nm_at eS11 h
  refine lv_aload_n hx hb dX4_gives_32 rfl (lv_at hl 1 rfl) ?_
  refine va_get (D := D) (ci := 4) (v := .ref (o 0)) (C := RX4) (T := TX4) (N := 24) hx hb hts in_X4 hown hK hP.1 0 rfl rfl 0 (by decide) (hts _ q1249) (fun _ h9 => h9) rfl dX4_gives_33 ?_
  refine lv_iload hx hb dX4_gives_36 (lv_at hl 0 rfl) ?_
  obtain ⟨g12, h⟩ := chk_some h
  refine va_iald hx hb hK hP.1 1 0 rfl rfl (inB_in g12) dX4_gives_38 ?_
  refine lv_if_le (tgt := 51) hx hb dX4_gives_39 (by decide) (fun c13 => ?_) (fun c13 => ?_)
  · have h := ite_t c13 h
    refine lv_iload_n hx hb dX4_gives_51 rfl (lv_at hl 3 rfl) ?_
    exact B52 x1 x2 S11 _ _ _ hP hS (lv_sub hl [1, 2] rfl) h
  · have h := ite_f c13 h
    refine lv_aload_n hx hb dX4_gives_42 rfl (lv_at hl 1 rfl) ?_
    refine lv_iload hx hb dX4_gives_43 (lv_at hl 0 rfl) ?_
    obtain ⟨v16, S15, e14, h⟩ := bnd_some h
    refine gc0_i (va_runV (As := [.int y8]) (rest := []) ⟨hx, hb, hml, hown, hts⟩ (mX4_works (l := l) (D := D) (cA := cA) (o := o) (A := A) y8 S11 e14) (cwV 1 hts (lw_V q1375 q1377 qs38 q90 q1378) rfl rfl rfl (by decide +kernel) ⟨Nat.le_of_ble_eq_true rfl, Nat.le_of_ble_eq_true rfl⟩) (gPreV mKst hK hA hS hP (mRecv hK hP)) rfl rfl hl.1 rfl (lv_room (Nat.le_of_ble_eq_true rfl)) dX4_gives_45 ⟨Nat.zero_le _, Nat.zero_le _⟩) hS (fun H locs hP hS => ?_)
    refine lv_goto (tgt := 52) hx hb dX4_gives_48 (by decide) ?_
    exact B52 x1 v16 S15 _ _ _ hP hS (lv_sub hl [1, 2] rfl) h

def fX4_weight (x1 : Int32) (S : MS) : Option (Int32 × MS) :=
bnd (fX4_weighsBy x1 S) fun v3 S2 =>
bnd (fX4_touching x1 S2) fun v6 S5 =>
bnd (fX4_gives (0 : Int32) v3 v6 ((mIA S5 0 ((0 : Int32)).toNatClampNeg) - (mIA S5 0 ((0 : Int32)).toNatClampNeg) / (8 : Int32) * (8 : Int32)) S5) fun v9 S8 =>
some (v9, S8)
set_option maxHeartbeats 4000000 in
set_option maxRecDepth 100000 in
theorem mX4_weight {l : Launch} {D : va_G} {cA : Nat → ClassId} {o : Nat → Nat} {A : Nat → Prop} (x1 : Int32) (S : MS) {out : (Int32 × MS)} (h : fX4_weight x1 S = some out) : Met l yX4_weight (ws_ yX4_weight cX4_weight 2 (some .int)) ({ frames := 3, cells := 0, slots := 0, locals := 72 } : Room) (gPc (mK D cA) (mP D cA o A) A [.ref (o 24), .int x1] S) (gQi (mK D cA) (mP D cA o A) A out) 0 0 A := by
  refine gMet_z (by decide) (Nat.le_of_ble_eq_true rfl) ?_ mKst
  intro p e s m below meth c Q ls args H locs hC hP hS hl ret
  obtain ⟨hx, hb, hml, hown, hts, hA, hK⟩ := hC
  have hown : s.vm.findClass RX4 = some m.cls := hown
  have hl : lv_has ls 2 [(0, .ref (o 24)), (1, .int x1)] := hl
  unfold fX4_weight at h
  refine lv_aload_n hx hb dX4_weight_0 rfl (lv_at hl 0 rfl) ?_
  refine lv_iconst (v := (0 : Int32)) hx hb dX4_weight_1 (by decide) ?_
  refine lv_aload_n hx hb dX4_weight_2 rfl (lv_at hl 0 rfl) ?_
  refine lv_iload_n hx hb dX4_weight_3 rfl (lv_at hl 1 rfl) ?_
  obtain ⟨v3, S2, e1, h⟩ := bnd_some h
  refine gc0_i (va_runV (As := [.int x1]) (rest := [.int (0 : Int32), .ref (o 24)]) ⟨hx, hb, hml, hown, hts⟩ (mX4_weighsBy (l := l) (D := D) (cA := cA) (o := o) (A := A) x1 S e1) (cwV 1 hts (lw_V q1363 q1365 qs35 q90 q1366) rfl rfl rfl (by decide +kernel) ⟨Nat.le_of_ble_eq_true rfl, Nat.le_of_ble_eq_true rfl⟩) (gPreV mKst hK hA hS hP (mRecv hK hP)) rfl rfl hl.1 rfl (lv_room (Nat.le_of_ble_eq_true rfl)) dX4_weight_4 ⟨Nat.zero_le _, Nat.zero_le _⟩) hS (fun H locs hP hS => ?_)
  refine lv_aload_n hx hb dX4_weight_7 rfl (lv_at hl 0 rfl) ?_
  refine lv_iload_n hx hb dX4_weight_8 rfl (lv_at hl 1 rfl) ?_
  obtain ⟨v6, S5, e4, h⟩ := bnd_some h
  refine gc0_i (va_runV (As := [.int x1]) (rest := [.int v3, .int (0 : Int32), .ref (o 24)]) ⟨hx, hb, hml, hown, hts⟩ (mX4_touching (l := l) (D := D) (cA := cA) (o := o) (A := A) x1 S2 e4) (cwV 1 hts (lw_V q1367 q1369 qs36 q90 q1370) rfl rfl rfl (by decide +kernel) ⟨Nat.le_of_ble_eq_true rfl, Nat.le_of_ble_eq_true rfl⟩) (gPreV mKst hK hA hS hP (mRecv hK hP)) rfl rfl hl.1 rfl (lv_room (Nat.le_of_ble_eq_true rfl)) dX4_weight_9 ⟨Nat.zero_le _, Nat.zero_le _⟩) hS (fun H locs hP hS => ?_)
  refine lv_aload_n hx hb dX4_weight_12 rfl (lv_at hl 0 rfl) ?_
  refine va_get (D := D) (ci := 4) (v := .ref (o 0)) (C := RX4) (T := TX4) (N := 24) hx hb hts in_X4 hown hK hP.1 0 rfl rfl 0 (by decide) (hts _ q1249) (fun _ h9 => h9) rfl dX4_weight_13 ?_
  refine lv_iconst (v := (0 : Int32)) hx hb dX4_weight_16 (by decide) ?_
  refine va_iald hx hb hK hP.1 1 0 rfl rfl (inB_in (by decide)) dX4_weight_17 ?_
  refine lv_bipush (v := (8 : Int32)) hx hb dX4_weight_18 (by decide) ?_
  refine lv_irem hx hb dX4_weight_20 (by decide) ?_
  obtain ⟨v9, S8, e7, h⟩ := bnd_some h
  refine gc0_i (va_runV (As := [.int (0 : Int32), .int v3, .int v6, .int ((mIA S5 0 ((0 : Int32)).toNatClampNeg) - (mIA S5 0 ((0 : Int32)).toNatClampNeg) / (8 : Int32) * (8 : Int32))]) (rest := []) ⟨hx, hb, hml, hown, hts⟩ (mX4_gives (l := l) (D := D) (cA := cA) (o := o) (A := A) (0 : Int32) v3 v6 ((mIA S5 0 ((0 : Int32)).toNatClampNeg) - (mIA S5 0 ((0 : Int32)).toNatClampNeg) / (8 : Int32) * (8 : Int32)) S5 e7) (cwV 4 hts (lw_V q1371 q1373 qs37 q90 q1374) rfl rfl rfl (by decide +kernel) ⟨Nat.le_of_ble_eq_true rfl, Nat.le_of_ble_eq_true rfl⟩) (gPreV mKst hK hA hS hP (mRecv hK hP)) rfl rfl hl.1 rfl (lv_room (Nat.le_of_ble_eq_true rfl)) dX4_weight_21 ⟨Nat.zero_le _, Nat.zero_le _⟩) hS (fun H locs hP hS => ?_)
  exact ret _ _ _ _ _ _ dX4_weight_24 rfl hP hS h

def bX4_readBy_90 (x1 : Int32) (t0 : Int32) (S : MS) : Option (Int32 × MS) :=
bnd (fX4_of x1 (1 : Int32) S) fun v3 S2 =>
some ((t0 - v3), S2)
def fX4_readBy (x1 : Int32) (S : MS) : Option (Int32 × MS) :=
bnd (fX4_of x1 (4 : Int32) S) fun v6 S5 =>
bnd (fX4_of x1 (0 : Int32) S5) fun v9 S8 =>
(if v9 = (3 : Int32) then
bnd (fX4_of x1 (1 : Int32) S8) fun v13 S12 =>
some (((v6 + (v13 - v13 / (3 : Int32) * (3 : Int32))) - (1 : Int32)), S12)
else
(if v9 = (4 : Int32) then
bnd (fX4_of x1 (1 : Int32) S8) fun v17 S16 =>
chk (ne0 (v17 + (1 : Int32))) (some ((v6 + ((mIA S8 0 ((0 : Int32)).toNatClampNeg) - (mIA S8 0 ((0 : Int32)).toNatClampNeg) / (v17 + (1 : Int32)) * (v17 + (1 : Int32)))), S16))
else
(if v9 = (5 : Int32) then
some (((2 : Int32) * (v6 / (2 : Int32))), S8)
else
(if v9 = (6 : Int32) then
(if 0 ≤ v6 then
bX4_readBy_90 x1 v6 S8
else
bX4_readBy_90 x1 (0 : Int32) S8)
else
some (v6, S8)))))
set_option maxHeartbeats 4000000 in
set_option maxRecDepth 100000 in
theorem mX4_readBy {l : Launch} {D : va_G} {cA : Nat → ClassId} {o : Nat → Nat} {A : Nat → Prop} (x1 : Int32) (S : MS) {out : (Int32 × MS)} (h : fX4_readBy x1 S = some out) : Met l yX4_readBy (ws_ yX4_readBy cX4_readBy 3 (some .int)) ({ frames := 1, cells := 0, slots := 0, locals := 22 } : Room) (gPc (mK D cA) (mP D cA o A) A [.ref (o 24), .int x1] S) (gQi (mK D cA) (mP D cA o A) A out) 0 0 A := by
  refine gMet_z (by decide) (Nat.le_of_ble_eq_true rfl) ?_ mKst
  intro p e s m below meth c Q ls args H locs hC hP hS hl ret
  obtain ⟨hx, hb, hml, hown, hts, hA, hK⟩ := hC
  have hown : s.vm.findClass RX4 = some m.cls := hown
  have hl : lv_has ls 3 [(0, .ref (o 24)), (1, .int x1)] := hl
  have B90 : ∀ (x1 : Int32) (t0 : Int32) (S : MS) (H : Heap) (locs : List Loc) (ls : Array Slot), mP D cA o A S H → va_S A s.heap H locs → lv_has ls 3 [(0, .ref (o 24)), (1, .int x1)] → bX4_readBy_90  x1 t0 S = some out → W p l e ({ frames := 1, cells := 0, slots := 0, locals := 22 } : Room) s m args below meth c H locs 0 0 Q (F0 m 90 ls [.int t0]) := by
    intro x1 t0 S H locs ls hP hS hl h
    unfold bX4_readBy_90 at h
    refine lv_aload_n hx hb dX4_readBy_90 rfl (lv_at hl 0 rfl) ?_
    refine lv_iload_n hx hb dX4_readBy_91 rfl (lv_at hl 1 rfl) ?_
    refine lv_iconst (v := (1 : Int32)) hx hb dX4_readBy_92 (by decide) ?_
    obtain ⟨v3, S2, e1, h⟩ := bnd_some h
    refine gc0_i (va_runV (As := [.int x1, .int (1 : Int32)]) (rest := [.int t0]) ⟨hx, hb, hml, hown, hts⟩ (mX4_of (l := l) (D := D) (cA := cA) (o := o) (A := A) x1 (1 : Int32) S e1) (cwV 2 hts (lw_V q1355 q1357 qs33 q90 q1358) rfl rfl rfl (by decide +kernel) ⟨Nat.le_of_ble_eq_true rfl, Nat.le_of_ble_eq_true rfl⟩) (gPreV mKst hK hA hS hP (mRecv hK hP)) rfl rfl hl.1 rfl (lv_room (Nat.le_of_ble_eq_true rfl)) dX4_readBy_93 ⟨Nat.zero_le _, Nat.zero_le _⟩) hS (fun H locs hP hS => ?_)
    refine lv_isub hx hb dX4_readBy_96 ?_
    exact ret _ _ _ _ _ _ dX4_readBy_97 rfl hP hS h
  unfold fX4_readBy at h
  refine lv_aload_n hx hb dX4_readBy_0 rfl (lv_at hl 0 rfl) ?_
  refine lv_iload_n hx hb dX4_readBy_1 rfl (lv_at hl 1 rfl) ?_
  refine lv_iconst (v := (4 : Int32)) hx hb dX4_readBy_2 (by decide) ?_
  obtain ⟨v6, S5, e4, h⟩ := bnd_some h
  refine gc0_i (va_runV (As := [.int x1, .int (4 : Int32)]) (rest := []) ⟨hx, hb, hml, hown, hts⟩ (mX4_of (l := l) (D := D) (cA := cA) (o := o) (A := A) x1 (4 : Int32) S e4) (cwV 2 hts (lw_V q1355 q1357 qs33 q90 q1358) rfl rfl rfl (by decide +kernel) ⟨Nat.le_of_ble_eq_true rfl, Nat.le_of_ble_eq_true rfl⟩) (gPreV mKst hK hA hS hP (mRecv hK hP)) rfl rfl hl.1 rfl (lv_room (Nat.le_of_ble_eq_true rfl)) dX4_readBy_3 ⟨Nat.zero_le _, Nat.zero_le _⟩) hS (fun H locs hP hS => ?_)
  refine lv_istore_n (lv' := [(2, .int v6), (0, .ref (o 24)), (1, .int x1)]) hx hb dX4_readBy_6 rfl hl (by decide) rfl (fun ls hl => ?_)
  refine lv_aload_n hx hb dX4_readBy_7 rfl (lv_at hl 1 rfl) ?_
  refine lv_iload_n hx hb dX4_readBy_8 rfl (lv_at hl 2 rfl) ?_
  refine lv_iconst (v := (0 : Int32)) hx hb dX4_readBy_9 (by decide) ?_
  obtain ⟨v9, S8, e7, h⟩ := bnd_some h
  refine gc0_i (va_runV (As := [.int x1, .int (0 : Int32)]) (rest := []) ⟨hx, hb, hml, hown, hts⟩ (mX4_of (l := l) (D := D) (cA := cA) (o := o) (A := A) x1 (0 : Int32) S5 e7) (cwV 2 hts (lw_V q1355 q1357 qs33 q90 q1358) rfl rfl rfl (by decide +kernel) ⟨Nat.le_of_ble_eq_true rfl, Nat.le_of_ble_eq_true rfl⟩) (gPreV mKst hK hA hS hP (mRecv hK hP)) rfl rfl hl.1 rfl (lv_room (Nat.le_of_ble_eq_true rfl)) dX4_readBy_10 ⟨Nat.zero_le _, Nat.zero_le _⟩) hS (fun H locs hP hS => ?_)
  by_cases c10 : v9 = (3 : Int32)
  · have h := ite_t c10 h
    refine lv_tableIn (off := 31) (tgt := 44) hx hb dX4_readBy_13 (by rw [c10]; decide) (by rw [c10]; decide) (by rw [c10]; rfl) (by decide) ?_
    refine lv_iload_n hx hb dX4_readBy_44 rfl (lv_at hl 0 rfl) ?_
    refine lv_aload_n hx hb dX4_readBy_45 rfl (lv_at hl 1 rfl) ?_
    refine lv_iload_n hx hb dX4_readBy_46 rfl (lv_at hl 2 rfl) ?_
    refine lv_iconst (v := (1 : Int32)) hx hb dX4_readBy_47 (by decide) ?_
    obtain ⟨v13, S12, e11, h⟩ := bnd_some h
    refine gc0_i (va_runV (As := [.int x1, .int (1 : Int32)]) (rest := [.int v6]) ⟨hx, hb, hml, hown, hts⟩ (mX4_of (l := l) (D := D) (cA := cA) (o := o) (A := A) x1 (1 : Int32) S8 e11) (cwV 2 hts (lw_V q1355 q1357 qs33 q90 q1358) rfl rfl rfl (by decide +kernel) ⟨Nat.le_of_ble_eq_true rfl, Nat.le_of_ble_eq_true rfl⟩) (gPreV mKst hK hA hS hP (mRecv hK hP)) rfl rfl hl.1 rfl (lv_room (Nat.le_of_ble_eq_true rfl)) dX4_readBy_48 ⟨Nat.zero_le _, Nat.zero_le _⟩) hS (fun H locs hP hS => ?_)
    refine lv_iconst (v := (3 : Int32)) hx hb dX4_readBy_51 (by decide) ?_
    refine lv_irem hx hb dX4_readBy_52 (by decide) ?_
    refine lv_iadd hx hb dX4_readBy_53 ?_
    refine lv_iconst (v := (1 : Int32)) hx hb dX4_readBy_54 (by decide) ?_
    refine lv_isub hx hb dX4_readBy_55 ?_
    exact ret _ _ _ _ _ _ dX4_readBy_56 rfl hP hS h
  · have h := ite_f c10 h
    by_cases c14 : v9 = (4 : Int32)
    · have h := ite_t c14 h
      refine lv_tableIn (off := 44) (tgt := 57) hx hb dX4_readBy_13 (by rw [c14]; decide) (by rw [c14]; decide) (by rw [c14]; rfl) (by decide) ?_
      refine lv_iload_n hx hb dX4_readBy_57 rfl (lv_at hl 0 rfl) ?_
      refine lv_aload_n hx hb dX4_readBy_58 rfl (lv_at hl 1 rfl) ?_
      refine va_get (D := D) (ci := 4) (v := .ref (o 0)) (C := RX4) (T := TX4) (N := 24) hx hb hts in_X4 hown hK hP.1 0 rfl rfl 0 (by decide) (hts _ q1249) (fun _ h9 => h9) rfl dX4_readBy_59 ?_
      refine lv_iconst (v := (0 : Int32)) hx hb dX4_readBy_62 (by decide) ?_
      refine va_iald hx hb hK hP.1 1 0 rfl rfl (inB_in (by decide)) dX4_readBy_63 ?_
      refine lv_aload_n hx hb dX4_readBy_64 rfl (lv_at hl 1 rfl) ?_
      refine lv_iload_n hx hb dX4_readBy_65 rfl (lv_at hl 2 rfl) ?_
      refine lv_iconst (v := (1 : Int32)) hx hb dX4_readBy_66 (by decide) ?_
      obtain ⟨v17, S16, e15, h⟩ := bnd_some h
      refine gc0_i (va_runV (As := [.int x1, .int (1 : Int32)]) (rest := [.int (mIA S8 0 ((0 : Int32)).toNatClampNeg), .int v6]) ⟨hx, hb, hml, hown, hts⟩ (mX4_of (l := l) (D := D) (cA := cA) (o := o) (A := A) x1 (1 : Int32) S8 e15) (cwV 2 hts (lw_V q1355 q1357 qs33 q90 q1358) rfl rfl rfl (by decide +kernel) ⟨Nat.le_of_ble_eq_true rfl, Nat.le_of_ble_eq_true rfl⟩) (gPreV mKst hK hA hS hP (mRecv hK hP)) rfl rfl hl.1 rfl (lv_room (Nat.le_of_ble_eq_true rfl)) dX4_readBy_67 ⟨Nat.zero_le _, Nat.zero_le _⟩) hS (fun H locs hP hS => ?_)
      refine lv_iconst (v := (1 : Int32)) hx hb dX4_readBy_70 (by decide) ?_
      refine lv_iadd hx hb dX4_readBy_71 ?_
      obtain ⟨g18, h⟩ := chk_some h
      refine lv_irem hx hb dX4_readBy_72 (ne0_n g18) ?_
      refine lv_iadd hx hb dX4_readBy_73 ?_
      exact ret _ _ _ _ _ _ dX4_readBy_74 rfl hP hS h
    · have h := ite_f c14 h
      by_cases c19 : v9 = (5 : Int32)
      · have h := ite_t c19 h
        refine lv_tableIn (off := 62) (tgt := 75) hx hb dX4_readBy_13 (by rw [c19]; decide) (by rw [c19]; decide) (by rw [c19]; rfl) (by decide) ?_
        refine lv_iconst (v := (2 : Int32)) hx hb dX4_readBy_75 (by decide) ?_
        refine lv_iload_n hx hb dX4_readBy_76 rfl (lv_at hl 0 rfl) ?_
        refine lv_iconst (v := (2 : Int32)) hx hb dX4_readBy_77 (by decide) ?_
        refine lv_idiv hx hb dX4_readBy_78 (by decide) ?_
        refine lv_imul hx hb dX4_readBy_79 ?_
        exact ret _ _ _ _ _ _ dX4_readBy_80 rfl hP hS h
      · have h := ite_f c19 h
        by_cases c20 : v9 = (6 : Int32)
        · have h := ite_t c20 h
          refine lv_tableIn (off := 68) (tgt := 81) hx hb dX4_readBy_13 (by rw [c20]; decide) (by rw [c20]; decide) (by rw [c20]; rfl) (by decide) ?_
          refine lv_iload_n hx hb dX4_readBy_81 rfl (lv_at hl 0 rfl) ?_
          refine lv_if_ge (tgt := 89) hx hb dX4_readBy_82 (by decide) (fun c21 => ?_) (fun c21 => ?_)
          · have h := ite_t c21 h
            refine lv_iload_n hx hb dX4_readBy_89 rfl (lv_at hl 0 rfl) ?_
            exact B90 x1 v6 S8 _ _ _ hP hS (lv_sub hl [1, 2] rfl) h
          · have h := ite_f c21 h
            refine lv_iconst (v := (0 : Int32)) hx hb dX4_readBy_85 (by decide) ?_
            refine lv_goto (tgt := 90) hx hb dX4_readBy_86 (by decide) ?_
            exact B90 x1 (0 : Int32) S8 _ _ _ hP hS (lv_sub hl [1, 2] rfl) h
        · have h := ite_f c20 h
          have nc10 := lv_neT (a := 3) c10 (by decide)
          have nc14 := lv_neT (a := 4) c14 (by decide)
          have nc19 := lv_neT (a := 5) c19 (by decide)
          have nc20 := lv_neT (a := 6) c20 (by decide)
          refine lv_tableOut (tgt := 98) hx hb dX4_readBy_13 (by omega) (by decide) ?_
          refine lv_iload_n hx hb dX4_readBy_98 rfl (lv_at hl 0 rfl) ?_
          exact ret _ _ _ _ _ _ dX4_readBy_99 rfl hP hS h

def fX4_saysOf (x1 : Int32) (S : MS) : Option (Int32 × MS) :=
bnd (fX4_readBy x1 S) fun v3 S2 =>
bnd (fX4_of x1 (4 : Int32) S2) fun v6 S5 =>
bnd (fX4_gives (1 : Int32) v3 v6 ((mIA S5 0 ((0 : Int32)).toNatClampNeg) - (mIA S5 0 ((0 : Int32)).toNatClampNeg) / (8 : Int32) * (8 : Int32)) S5) fun v9 S8 =>
some (v9, S8)
set_option maxHeartbeats 4000000 in
set_option maxRecDepth 100000 in
theorem mX4_saysOf {l : Launch} {D : va_G} {cA : Nat → ClassId} {o : Nat → Nat} {A : Nat → Prop} (x1 : Int32) (S : MS) {out : (Int32 × MS)} (h : fX4_saysOf x1 S = some out) : Met l yX4_saysOf (ws_ yX4_saysOf cX4_saysOf 2 (some .int)) ({ frames := 3, cells := 0, slots := 0, locals := 72 } : Room) (gPc (mK D cA) (mP D cA o A) A [.ref (o 24), .int x1] S) (gQi (mK D cA) (mP D cA o A) A out) 0 0 A := by
  refine gMet_z (by decide) (Nat.le_of_ble_eq_true rfl) ?_ mKst
  intro p e s m below meth c Q ls args H locs hC hP hS hl ret
  obtain ⟨hx, hb, hml, hown, hts, hA, hK⟩ := hC
  have hown : s.vm.findClass RX4 = some m.cls := hown
  have hl : lv_has ls 2 [(0, .ref (o 24)), (1, .int x1)] := hl
  unfold fX4_saysOf at h
  refine lv_aload_n hx hb dX4_saysOf_0 rfl (lv_at hl 0 rfl) ?_
  refine lv_iconst (v := (1 : Int32)) hx hb dX4_saysOf_1 (by decide) ?_
  refine lv_aload_n hx hb dX4_saysOf_2 rfl (lv_at hl 0 rfl) ?_
  refine lv_iload_n hx hb dX4_saysOf_3 rfl (lv_at hl 1 rfl) ?_
  obtain ⟨v3, S2, e1, h⟩ := bnd_some h
  refine gc0_i (va_runV (As := [.int x1]) (rest := [.int (1 : Int32), .ref (o 24)]) ⟨hx, hb, hml, hown, hts⟩ (mX4_readBy (l := l) (D := D) (cA := cA) (o := o) (A := A) x1 S e1) (cwV 1 hts (lw_V q1389 q1391 qs40 q90 q1392) rfl rfl rfl (by decide +kernel) ⟨Nat.le_of_ble_eq_true rfl, Nat.le_of_ble_eq_true rfl⟩) (gPreV mKst hK hA hS hP (mRecv hK hP)) rfl rfl hl.1 rfl (lv_room (Nat.le_of_ble_eq_true rfl)) dX4_saysOf_4 ⟨Nat.zero_le _, Nat.zero_le _⟩) hS (fun H locs hP hS => ?_)
  refine lv_aload_n hx hb dX4_saysOf_7 rfl (lv_at hl 0 rfl) ?_
  refine lv_iload_n hx hb dX4_saysOf_8 rfl (lv_at hl 1 rfl) ?_
  refine lv_iconst (v := (4 : Int32)) hx hb dX4_saysOf_9 (by decide) ?_
  obtain ⟨v6, S5, e4, h⟩ := bnd_some h
  refine gc0_i (va_runV (As := [.int x1, .int (4 : Int32)]) (rest := [.int v3, .int (1 : Int32), .ref (o 24)]) ⟨hx, hb, hml, hown, hts⟩ (mX4_of (l := l) (D := D) (cA := cA) (o := o) (A := A) x1 (4 : Int32) S2 e4) (cwV 2 hts (lw_V q1355 q1357 qs33 q90 q1358) rfl rfl rfl (by decide +kernel) ⟨Nat.le_of_ble_eq_true rfl, Nat.le_of_ble_eq_true rfl⟩) (gPreV mKst hK hA hS hP (mRecv hK hP)) rfl rfl hl.1 rfl (lv_room (Nat.le_of_ble_eq_true rfl)) dX4_saysOf_10 ⟨Nat.zero_le _, Nat.zero_le _⟩) hS (fun H locs hP hS => ?_)
  refine lv_aload_n hx hb dX4_saysOf_13 rfl (lv_at hl 0 rfl) ?_
  refine va_get (D := D) (ci := 4) (v := .ref (o 0)) (C := RX4) (T := TX4) (N := 24) hx hb hts in_X4 hown hK hP.1 0 rfl rfl 0 (by decide) (hts _ q1249) (fun _ h9 => h9) rfl dX4_saysOf_14 ?_
  refine lv_iconst (v := (0 : Int32)) hx hb dX4_saysOf_17 (by decide) ?_
  refine va_iald hx hb hK hP.1 1 0 rfl rfl (inB_in (by decide)) dX4_saysOf_18 ?_
  refine lv_bipush (v := (8 : Int32)) hx hb dX4_saysOf_19 (by decide) ?_
  refine lv_irem hx hb dX4_saysOf_21 (by decide) ?_
  obtain ⟨v9, S8, e7, h⟩ := bnd_some h
  refine gc0_i (va_runV (As := [.int (1 : Int32), .int v3, .int v6, .int ((mIA S5 0 ((0 : Int32)).toNatClampNeg) - (mIA S5 0 ((0 : Int32)).toNatClampNeg) / (8 : Int32) * (8 : Int32))]) (rest := []) ⟨hx, hb, hml, hown, hts⟩ (mX4_gives (l := l) (D := D) (cA := cA) (o := o) (A := A) (1 : Int32) v3 v6 ((mIA S5 0 ((0 : Int32)).toNatClampNeg) - (mIA S5 0 ((0 : Int32)).toNatClampNeg) / (8 : Int32) * (8 : Int32)) S5 e7) (cwV 4 hts (lw_V q1371 q1373 qs37 q90 q1374) rfl rfl rfl (by decide +kernel) ⟨Nat.le_of_ble_eq_true rfl, Nat.le_of_ble_eq_true rfl⟩) (gPreV mKst hK hA hS hP (mRecv hK hP)) rfl rfl hl.1 rfl (lv_room (Nat.le_of_ble_eq_true rfl)) dX4_saysOf_22 ⟨Nat.zero_le _, Nat.zero_le _⟩) hS (fun H locs hP hS => ?_)
  exact ret _ _ _ _ _ _ dX4_saysOf_25 rfl hP hS h

def bX4_adds_122 (S : MS) : Option MS :=
some S
def fX4_adds (x1 : Int32) (S : MS) : Option MS :=
bnd (fX4_weight x1 S) fun v3 S2 =>
nm ((v3).toInt64) fun y4 =>
bnd (fX4_of x1 (2 : Int32) S2) fun v7 S6 =>
bnd (fX4_of x1 (3 : Int32) S6) fun v10 S9 =>
nm ((5 : Int32) * v10) fun y11 =>
chk (inB y11 16) (chk (inB y11 16) (nm (sLA S9 8 (vp_updL (mLA S9 8) (y11).toNatClampNeg ((mLA S9 8 (y11).toNatClampNeg) + y4))) fun S14 =>
chk (inB v10 4) (bnd (fX4_saysOf x1 S14) fun v18 S17 =>
chk (inB v10 4) (nm (sLA S17 9 (vp_updL (mLA S17 9) (v10).toNatClampNeg ((mLA S14 9 (v10).toNatClampNeg) + (y4 * ((v18).toInt64))))) fun S20 =>
(if v7 < 0 then
bX4_adds_122 S20
else
nm ((5 : Int32) * v7) fun y22 =>
chk (inB y22 16) (chk (inB y22 16) (nm (sLA S20 8 (vp_updL (mLA S20 8) (y22).toNatClampNeg ((mLA S20 8 (y22).toNatClampNeg) + y4))) fun S25 =>
nm (((4 : Int32) * v7) + v10) fun y26 =>
chk (inB y26 16) (chk (inB y26 16) (nm (sLA S25 8 (vp_updL (mLA S25 8) (y26).toNatClampNeg ((mLA S25 8 (y26).toNatClampNeg) - y4))) fun S29 =>
nm (((4 : Int32) * v10) + v7) fun y30 =>
chk (inB y30 16) (chk (inB y30 16) (nm (sLA S29 8 (vp_updL (mLA S29 8) (y30).toNatClampNeg ((mLA S29 8 (y30).toNatClampNeg) - y4))) fun S33 =>
chk (inB v7 4) (bnd (fX4_saysOf x1 S33) fun v37 S36 =>
chk (inB v7 4) (nm (sLA S36 9 (vp_updL (mLA S36 9) (v7).toNatClampNeg ((mLA S33 9 (v7).toNatClampNeg) - (y4 * ((v37).toInt64))))) fun S39 =>
bX4_adds_122 S39)))))))))))))
set_option maxHeartbeats 4000000 in
set_option maxRecDepth 100000 in
theorem mX4_adds {l : Launch} {D : va_G} {cA : Nat → ClassId} {o : Nat → Nat} {A : Nat → Prop} (x1 : Int32) (S : MS) {out : MS} (h : fX4_adds x1 S = some out) : Met l yX4_adds (ws_ yX4_adds cX4_adds 6 none) ({ frames := 4, cells := 0, slots := 0, locals := 93 } : Room) (gPc (mK D cA) (mP D cA o A) A [.ref (o 24), .int x1] S) (gQv (mK D cA) (mP D cA o A) A out) 0 0 A := by
  refine gMet_v (by decide) (Nat.le_of_ble_eq_true rfl) ?_ mKst
  intro p e s m below meth c Q ls args H locs hC hP hS hl _ ret
  obtain ⟨hx, hb, hml, hown, hts, hA, hK⟩ := hC
  have hown : s.vm.findClass RX4 = some m.cls := hown
  have hl : lv_has ls 6 [(0, .ref (o 24)), (1, .int x1)] := hl
  have B122 : ∀  (S : MS) (H : Heap) (locs : List Loc) (ls : Array Slot), mP D cA o A S H → va_S A s.heap H locs → lv_has ls 6 [(0, .ref (o 24))] → bX4_adds_122   S = some out → W p l e ({ frames := 4, cells := 0, slots := 0, locals := 93 } : Room) s m args below meth c H locs 0 0 Q (F0 m 122 ls []) := by
    intro  S H locs ls hP hS hl h
    unfold bX4_adds_122 at h
    exact ret _ _ _ _ _ dX4_adds_122 hP hS h
  unfold fX4_adds at h
  refine lv_aload_n hx hb dX4_adds_0 rfl (lv_at hl 0 rfl) ?_
  refine lv_iload_n hx hb dX4_adds_1 rfl (lv_at hl 1 rfl) ?_
  obtain ⟨v3, S2, e1, h⟩ := bnd_some h
  refine gc0_i (va_runV (As := [.int x1]) (rest := []) ⟨hx, hb, hml, hown, hts⟩ (mX4_weight (l := l) (D := D) (cA := cA) (o := o) (A := A) x1 S e1) (cwV 1 hts (lw_V q1359 q1361 qs34 q90 q1362) rfl rfl rfl (by decide +kernel) ⟨Nat.le_of_ble_eq_true rfl, Nat.le_of_ble_eq_true rfl⟩) (gPreV mKst hK hA hS hP (mRecv hK hP)) rfl rfl hl.1 rfl (lv_room (Nat.le_of_ble_eq_true rfl)) dX4_adds_2 ⟨Nat.zero_le _, Nat.zero_le _⟩) hS (fun H locs hP hS => ?_)
  refine lv_i2l hx hb dX4_adds_5 rfl ?_
  refine lv_topl (fun y4 ey4 => ?_)
  have h := nm_at ey4 h
  refine lv_lstore_n (lv' := [(2, .long y4), (0, .ref (o 24)), (1, .int x1)]) hx hb dX4_adds_6 rfl hl (by decide) rfl (fun ls hl => ?_)
  refine lv_aload_n hx hb dX4_adds_7 rfl (lv_at hl 1 rfl) ?_
  refine lv_iload_n hx hb dX4_adds_8 rfl (lv_at hl 2 rfl) ?_
  refine lv_iconst (v := (2 : Int32)) hx hb dX4_adds_9 (by decide) ?_
  obtain ⟨v7, S6, e5, h⟩ := bnd_some h
  refine gc0_i (va_runV (As := [.int x1, .int (2 : Int32)]) (rest := []) ⟨hx, hb, hml, hown, hts⟩ (mX4_of (l := l) (D := D) (cA := cA) (o := o) (A := A) x1 (2 : Int32) S2 e5) (cwV 2 hts (lw_V q1355 q1357 qs33 q90 q1358) rfl rfl rfl (by decide +kernel) ⟨Nat.le_of_ble_eq_true rfl, Nat.le_of_ble_eq_true rfl⟩) (gPreV mKst hK hA hS hP (mRecv hK hP)) rfl rfl hl.1 rfl (lv_room (Nat.le_of_ble_eq_true rfl)) dX4_adds_10 ⟨Nat.zero_le _, Nat.zero_le _⟩) hS (fun H locs hP hS => ?_)
  refine lv_istore (lv' := [(4, .int v7), (2, .long y4), (0, .ref (o 24)), (1, .int x1)]) hx hb dX4_adds_13 hl (by decide) rfl (fun ls hl => ?_)
  refine lv_aload_n hx hb dX4_adds_15 rfl (lv_at hl 2 rfl) ?_
  refine lv_iload_n hx hb dX4_adds_16 rfl (lv_at hl 3 rfl) ?_
  refine lv_iconst (v := (3 : Int32)) hx hb dX4_adds_17 (by decide) ?_
  obtain ⟨v10, S9, e8, h⟩ := bnd_some h
  refine gc0_i (va_runV (As := [.int x1, .int (3 : Int32)]) (rest := []) ⟨hx, hb, hml, hown, hts⟩ (mX4_of (l := l) (D := D) (cA := cA) (o := o) (A := A) x1 (3 : Int32) S6 e8) (cwV 2 hts (lw_V q1355 q1357 qs33 q90 q1358) rfl rfl rfl (by decide +kernel) ⟨Nat.le_of_ble_eq_true rfl, Nat.le_of_ble_eq_true rfl⟩) (gPreV mKst hK hA hS hP (mRecv hK hP)) rfl rfl hl.1 rfl (lv_room (Nat.le_of_ble_eq_true rfl)) dX4_adds_18 ⟨Nat.zero_le _, Nat.zero_le _⟩) hS (fun H locs hP hS => ?_)
  refine lv_istore (lv' := [(5, .int v10), (4, .int v7), (2, .long y4), (0, .ref (o 24)), (1, .int x1)]) hx hb dX4_adds_21 hl (by decide) rfl (fun ls hl => ?_)
  refine lv_aload_n hx hb dX4_adds_23 rfl (lv_at hl 3 rfl) ?_
  refine va_get (D := D) (ci := 4) (v := .ref (o 8)) (C := RX4) (T := TX4) (N := 24) hx hb hts in_X4 hown hK hP.1 0 rfl rfl 8 (by decide) (hts _ q1257) (fun _ h9 => h9) rfl dX4_adds_24 ?_
  refine lv_iconst (v := (5 : Int32)) hx hb dX4_adds_27 (by decide) ?_
  refine lv_iload hx hb dX4_adds_28 (lv_at hl 0 rfl) ?_
  refine lv_imul hx hb dX4_adds_30 ?_
  refine lv_topi (fun y11 ey11 => ?_)
  have h := nm_at ey11 h
  refine lv_dup2_11 hx hb dX4_adds_31 rfl rfl ?_
  obtain ⟨g12, h⟩ := chk_some h
  refine va_lald hx hb hK hP.1 8 3 rfl rfl (inB_in g12) dX4_adds_32 ?_
  refine lv_lload_n hx hb dX4_adds_33 rfl (lv_at hl 2 rfl) ?_
  refine lv_ladd hx hb dX4_adds_34 ?_
  obtain ⟨g13, h⟩ := chk_some h
  refine va_last hx hb hK hP.1 hP.2 hS 8 3 rfl rfl (inB_in g13) dX4_adds_35 (fun H locs hP1 hD1 hS => ?_)
  obtain ⟨S14, eS14⟩ : ∃ y : MS, y = (sLA S9 8 (vp_updL (mLA S9 8) (y11).toNatClampNeg ((mLA S9 8 (y11).toNatClampNeg) + y4))) := ⟨_, rfl⟩
  have hP : mP D cA o A S14 H := by rw [eS14]; exact ⟨hP1, hD1⟩
  have h := nm_at eS14 h
  refine lv_aload_n hx hb dX4_adds_36 rfl (lv_at hl 3 rfl) ?_
  refine va_get (D := D) (ci := 4) (v := .ref (o 9)) (C := RX4) (T := TX4) (N := 24) hx hb hts in_X4 hown hK hP.1 0 rfl rfl 9 (by decide) (hts _ q1258) (fun _ h9 => h9) rfl dX4_adds_37 ?_
  refine lv_iload hx hb dX4_adds_40 (lv_at hl 0 rfl) ?_
  refine lv_dup2_11 hx hb dX4_adds_42 rfl rfl ?_
  obtain ⟨g15, h⟩ := chk_some h
  refine va_lald hx hb hK hP.1 9 3 rfl rfl (inB_in g15) dX4_adds_43 ?_
  refine lv_lload_n hx hb dX4_adds_44 rfl (lv_at hl 2 rfl) ?_
  refine lv_aload_n hx hb dX4_adds_45 rfl (lv_at hl 3 rfl) ?_
  refine lv_iload_n hx hb dX4_adds_46 rfl (lv_at hl 4 rfl) ?_
  obtain ⟨v18, S17, e16, h⟩ := bnd_some h
  refine gc0_i (va_runV (As := [.int x1]) (rest := [.long y4, .long (mLA S14 9 (v10).toNatClampNeg), .int v10, .ref (o 9)]) ⟨hx, hb, hml, hown, hts⟩ (mX4_saysOf (l := l) (D := D) (cA := cA) (o := o) (A := A) x1 S14 e16) (cwV 1 hts (lw_V q1385 q1387 qs39 q90 q1388) rfl rfl rfl (by decide +kernel) ⟨Nat.le_of_ble_eq_true rfl, Nat.le_of_ble_eq_true rfl⟩) (gPreV mKst hK hA hS hP (mRecv hK hP)) rfl rfl hl.1 rfl (lv_room (Nat.le_of_ble_eq_true rfl)) dX4_adds_47 ⟨Nat.zero_le _, Nat.zero_le _⟩) hS (fun H locs hP hS => ?_)
  refine lv_i2l hx hb dX4_adds_50 rfl ?_
  refine lv_lmul hx hb dX4_adds_51 ?_
  refine lv_ladd hx hb dX4_adds_52 ?_
  obtain ⟨g19, h⟩ := chk_some h
  refine va_last hx hb hK hP.1 hP.2 hS 9 3 rfl rfl (inB_in g19) dX4_adds_53 (fun H locs hP1 hD1 hS => ?_)
  obtain ⟨S20, eS20⟩ : ∃ y : MS, y = (sLA S17 9 (vp_updL (mLA S17 9) (v10).toNatClampNeg ((mLA S14 9 (v10).toNatClampNeg) + (y4 * ((v18).toInt64))))) := ⟨_, rfl⟩
  have hP : mP D cA o A S20 H := by rw [eS20]; exact ⟨hP1, hD1⟩
  have h := nm_at eS20 h
  refine lv_iload hx hb dX4_adds_54 (lv_at hl 1 rfl) ?_
  refine lv_if_lt (tgt := 122) hx hb dX4_adds_56 (by decide) (fun c21 => ?_) (fun c21 => ?_)
  · have h := ite_t c21 h
    exact B122 S20 _ _ _ hP hS (lv_sub hl [3] rfl) h
  · have h := ite_f c21 h
    refine lv_aload_n hx hb dX4_adds_59 rfl (lv_at hl 3 rfl) ?_
    refine va_get (D := D) (ci := 4) (v := .ref (o 8)) (C := RX4) (T := TX4) (N := 24) hx hb hts in_X4 hown hK hP.1 0 rfl rfl 8 (by decide) (hts _ q1257) (fun _ h9 => h9) rfl dX4_adds_60 ?_
    refine lv_iconst (v := (5 : Int32)) hx hb dX4_adds_63 (by decide) ?_
    refine lv_iload hx hb dX4_adds_64 (lv_at hl 1 rfl) ?_
    refine lv_imul hx hb dX4_adds_66 ?_
    refine lv_topi (fun y22 ey22 => ?_)
    have h := nm_at ey22 h
    refine lv_dup2_11 hx hb dX4_adds_67 rfl rfl ?_
    obtain ⟨g23, h⟩ := chk_some h
    refine va_lald hx hb hK hP.1 8 3 rfl rfl (inB_in g23) dX4_adds_68 ?_
    refine lv_lload_n hx hb dX4_adds_69 rfl (lv_at hl 2 rfl) ?_
    refine lv_ladd hx hb dX4_adds_70 ?_
    obtain ⟨g24, h⟩ := chk_some h
    refine va_last hx hb hK hP.1 hP.2 hS 8 3 rfl rfl (inB_in g24) dX4_adds_71 (fun H locs hP1 hD1 hS => ?_)
    obtain ⟨S25, eS25⟩ : ∃ y : MS, y = (sLA S20 8 (vp_updL (mLA S20 8) (y22).toNatClampNeg ((mLA S20 8 (y22).toNatClampNeg) + y4))) := ⟨_, rfl⟩
    have hP : mP D cA o A S25 H := by rw [eS25]; exact ⟨hP1, hD1⟩
    have h := nm_at eS25 h
    refine lv_aload_n hx hb dX4_adds_72 rfl (lv_at hl 3 rfl) ?_
    refine va_get (D := D) (ci := 4) (v := .ref (o 8)) (C := RX4) (T := TX4) (N := 24) hx hb hts in_X4 hown hK hP.1 0 rfl rfl 8 (by decide) (hts _ q1257) (fun _ h9 => h9) rfl dX4_adds_73 ?_
    refine lv_iconst (v := (4 : Int32)) hx hb dX4_adds_76 (by decide) ?_
    refine lv_iload hx hb dX4_adds_77 (lv_at hl 1 rfl) ?_
    refine lv_imul hx hb dX4_adds_79 ?_
    refine lv_iload hx hb dX4_adds_80 (lv_at hl 0 rfl) ?_
    refine lv_iadd hx hb dX4_adds_82 ?_
    refine lv_topi (fun y26 ey26 => ?_)
    have h := nm_at ey26 h
    refine lv_dup2_11 hx hb dX4_adds_83 rfl rfl ?_
    obtain ⟨g27, h⟩ := chk_some h
    refine va_lald hx hb hK hP.1 8 3 rfl rfl (inB_in g27) dX4_adds_84 ?_
    refine lv_lload_n hx hb dX4_adds_85 rfl (lv_at hl 2 rfl) ?_
    refine lv_lsub hx hb dX4_adds_86 ?_
    obtain ⟨g28, h⟩ := chk_some h
    refine va_last hx hb hK hP.1 hP.2 hS 8 3 rfl rfl (inB_in g28) dX4_adds_87 (fun H locs hP1 hD1 hS => ?_)
    obtain ⟨S29, eS29⟩ : ∃ y : MS, y = (sLA S25 8 (vp_updL (mLA S25 8) (y26).toNatClampNeg ((mLA S25 8 (y26).toNatClampNeg) - y4))) := ⟨_, rfl⟩
    have hP : mP D cA o A S29 H := by rw [eS29]; exact ⟨hP1, hD1⟩
    have h := nm_at eS29 h
    refine lv_aload_n hx hb dX4_adds_88 rfl (lv_at hl 3 rfl) ?_
    refine va_get (D := D) (ci := 4) (v := .ref (o 8)) (C := RX4) (T := TX4) (N := 24) hx hb hts in_X4 hown hK hP.1 0 rfl rfl 8 (by decide) (hts _ q1257) (fun _ h9 => h9) rfl dX4_adds_89 ?_
    refine lv_iconst (v := (4 : Int32)) hx hb dX4_adds_92 (by decide) ?_
    refine lv_iload hx hb dX4_adds_93 (lv_at hl 0 rfl) ?_
    refine lv_imul hx hb dX4_adds_95 ?_
    refine lv_iload hx hb dX4_adds_96 (lv_at hl 1 rfl) ?_
    refine lv_iadd hx hb dX4_adds_98 ?_
    refine lv_topi (fun y30 ey30 => ?_)
    have h := nm_at ey30 h
    refine lv_dup2_11 hx hb dX4_adds_99 rfl rfl ?_
    obtain ⟨g31, h⟩ := chk_some h
    refine va_lald hx hb hK hP.1 8 3 rfl rfl (inB_in g31) dX4_adds_100 ?_
    refine lv_lload_n hx hb dX4_adds_101 rfl (lv_at hl 2 rfl) ?_
    refine lv_lsub hx hb dX4_adds_102 ?_
    obtain ⟨g32, h⟩ := chk_some h
    refine va_last hx hb hK hP.1 hP.2 hS 8 3 rfl rfl (inB_in g32) dX4_adds_103 (fun H locs hP1 hD1 hS => ?_)
    obtain ⟨S33, eS33⟩ : ∃ y : MS, y = (sLA S29 8 (vp_updL (mLA S29 8) (y30).toNatClampNeg ((mLA S29 8 (y30).toNatClampNeg) - y4))) := ⟨_, rfl⟩
    have hP : mP D cA o A S33 H := by rw [eS33]; exact ⟨hP1, hD1⟩
    have h := nm_at eS33 h
    refine lv_aload_n hx hb dX4_adds_104 rfl (lv_at hl 3 rfl) ?_
    refine va_get (D := D) (ci := 4) (v := .ref (o 9)) (C := RX4) (T := TX4) (N := 24) hx hb hts in_X4 hown hK hP.1 0 rfl rfl 9 (by decide) (hts _ q1258) (fun _ h9 => h9) rfl dX4_adds_105 ?_
    refine lv_iload hx hb dX4_adds_108 (lv_at hl 1 rfl) ?_
    refine lv_dup2_11 hx hb dX4_adds_110 rfl rfl ?_
    obtain ⟨g34, h⟩ := chk_some h
    refine va_lald hx hb hK hP.1 9 3 rfl rfl (inB_in g34) dX4_adds_111 ?_
    refine lv_lload_n hx hb dX4_adds_112 rfl (lv_at hl 2 rfl) ?_
    refine lv_aload_n hx hb dX4_adds_113 rfl (lv_at hl 3 rfl) ?_
    refine lv_iload_n hx hb dX4_adds_114 rfl (lv_at hl 4 rfl) ?_
    obtain ⟨v37, S36, e35, h⟩ := bnd_some h
    refine gc0_i (va_runV (As := [.int x1]) (rest := [.long y4, .long (mLA S33 9 (v7).toNatClampNeg), .int v7, .ref (o 9)]) ⟨hx, hb, hml, hown, hts⟩ (mX4_saysOf (l := l) (D := D) (cA := cA) (o := o) (A := A) x1 S33 e35) (cwV 1 hts (lw_V q1385 q1387 qs39 q90 q1388) rfl rfl rfl (by decide +kernel) ⟨Nat.le_of_ble_eq_true rfl, Nat.le_of_ble_eq_true rfl⟩) (gPreV mKst hK hA hS hP (mRecv hK hP)) rfl rfl hl.1 rfl (lv_room (Nat.le_of_ble_eq_true rfl)) dX4_adds_115 ⟨Nat.zero_le _, Nat.zero_le _⟩) hS (fun H locs hP hS => ?_)
    refine lv_i2l hx hb dX4_adds_118 rfl ?_
    refine lv_lmul hx hb dX4_adds_119 ?_
    refine lv_lsub hx hb dX4_adds_120 ?_
    obtain ⟨g38, h⟩ := chk_some h
    refine va_last hx hb hK hP.1 hP.2 hS 9 3 rfl rfl (inB_in g38) dX4_adds_121 (fun H locs hP1 hD1 hS => ?_)
    obtain ⟨S39, eS39⟩ : ∃ y : MS, y = (sLA S36 9 (vp_updL (mLA S36 9) (v7).toNatClampNeg ((mLA S33 9 (v7).toNatClampNeg) - (y4 * ((v37).toInt64))))) := ⟨_, rfl⟩
    have hP : mP D cA o A S39 H := by rw [eS39]; exact ⟨hP1, hD1⟩
    have h := nm_at eS39 h
    exact B122 S39 _ _ _ hP hS (lv_sub hl [3] rfl) h

def bX4_look_30 (t0 : Int32) (S : MS) : Option (Int32 × MS) :=
some (t0, S)
def fX4_look (S : MS) : Option (Int32 × MS) :=
(if (mIA S 0 ((6 : Int32)).toNatClampNeg) ≤ (mIF S 17) then
bX4_look_30 (-1 : Int32) S
else
chk (inB ((56 : Int32) + (mIF S 17)) 382) (bX4_look_30 (mIA S 0 (((56 : Int32) + (mIF S 17))).toNatClampNeg) S))
set_option maxHeartbeats 4000000 in
set_option maxRecDepth 100000 in
theorem mX4_look {l : Launch} {D : va_G} {cA : Nat → ClassId} {o : Nat → Nat} {A : Nat → Prop} (S : MS) {out : (Int32 × MS)} (h : fX4_look  S = some out) : Met l yX4_look (ws_ yX4_look cX4_look 1 (some .int)) ({ frames := 0, cells := 0, slots := 0, locals := 0 } : Room) (gPc (mK D cA) (mP D cA o A) A [.ref (o 24)] S) (gQi (mK D cA) (mP D cA o A) A out) 0 0 A := by
  refine gMet_z (by decide) (Nat.le_of_ble_eq_true rfl) ?_ mKst
  intro p e s m below meth c Q ls args H locs hC hP hS hl ret
  obtain ⟨hx, hb, hml, hown, hts, hA, hK⟩ := hC
  have hown : s.vm.findClass RX4 = some m.cls := hown
  have hl : lv_has ls 1 [(0, .ref (o 24))] := hl
  have B30 : ∀ (t0 : Int32) (S : MS) (H : Heap) (locs : List Loc) (ls : Array Slot), mP D cA o A S H → va_S A s.heap H locs → lv_has ls 1 [(0, .ref (o 24))] → bX4_look_30  t0 S = some out → W p l e ({ frames := 0, cells := 0, slots := 0, locals := 0 } : Room) s m args below meth c H locs 0 0 Q (F0 m 30 ls [.int t0]) := by
    intro t0 S H locs ls hP hS hl h
    unfold bX4_look_30 at h
    exact ret _ _ _ _ _ _ dX4_look_30 rfl hP hS h
  unfold fX4_look at h
  refine lv_aload_n hx hb dX4_look_0 rfl (lv_at hl 0 rfl) ?_
  refine va_get (D := D) (ci := 4) (v := .int (mIF S 17)) (C := RX4) (T := TX4) (N := 24) hx hb hts in_X4 hown hK hP.1 0 rfl rfl 17 (by decide) (hts _ q1266) (fun _ h9 => h9) rfl dX4_look_1 ?_
  refine lv_aload_n hx hb dX4_look_4 rfl (lv_at hl 0 rfl) ?_
  refine va_get (D := D) (ci := 4) (v := .ref (o 0)) (C := RX4) (T := TX4) (N := 24) hx hb hts in_X4 hown hK hP.1 0 rfl rfl 0 (by decide) (hts _ q1249) (fun _ h9 => h9) rfl dX4_look_5 ?_
  refine lv_bipush (v := (6 : Int32)) hx hb dX4_look_8 (by decide) ?_
  refine va_iald hx hb hK hP.1 1 0 rfl rfl (inB_in (by decide)) dX4_look_10 ?_
  refine lv_icmp_ge (tgt := 29) hx hb dX4_look_11 (by decide) (fun c1 => ?_) (fun c1 => ?_)
  · have h := ite_t c1 h
    refine lv_iconst (v := (-1 : Int32)) hx hb dX4_look_29 (by decide) ?_
    exact B30 (-1 : Int32) S _ _ _ hP hS hl h
  · have h := ite_f c1 h
    refine lv_aload_n hx hb dX4_look_14 rfl (lv_at hl 0 rfl) ?_
    refine va_get (D := D) (ci := 4) (v := .ref (o 0)) (C := RX4) (T := TX4) (N := 24) hx hb hts in_X4 hown hK hP.1 0 rfl rfl 0 (by decide) (hts _ q1249) (fun _ h9 => h9) rfl dX4_look_15 ?_
    refine lv_bipush (v := (56 : Int32)) hx hb dX4_look_18 (by decide) ?_
    refine lv_aload_n hx hb dX4_look_20 rfl (lv_at hl 0 rfl) ?_
    refine va_get (D := D) (ci := 4) (v := .int (mIF S 17)) (C := RX4) (T := TX4) (N := 24) hx hb hts in_X4 hown hK hP.1 0 rfl rfl 17 (by decide) (hts _ q1266) (fun _ h9 => h9) rfl dX4_look_21 ?_
    refine lv_iadd hx hb dX4_look_24 ?_
    obtain ⟨g2, h⟩ := chk_some h
    refine va_iald hx hb hK hP.1 1 0 rfl rfl (inB_in g2) dX4_look_25 ?_
    refine lv_goto (tgt := 30) hx hb dX4_look_26 (by decide) ?_
    exact B30 (mIA S 0 (((56 : Int32) + (mIF S 17))).toNatClampNeg) S _ _ _ hP hS hl h

def bX4_nameOf_90 (t0 : Int32) (S : MS) : Option (Int32 × MS) :=
some (t0, S)
def bX4_nameOf_68 (x1 : Int32) (S : MS) : Option (Int32 × MS) :=
(if (mIF S 20) = 0 then
(if x1 = (119 : Int32) then
bX4_nameOf_90 (0 : Int32) S
else
bX4_nameOf_90 (1 : Int32) S)
else
bX4_nameOf_90 (-1 : Int32) S)
def bX4_nameOf_117 (S : MS) : Option (Int32 × MS) :=
some ((-1 : Int32), S)
def bX4_nameOf_114 (t0 : Int32) (S : MS) : Option (Int32 × MS) :=
some (t0, S)
def bX4_nameOf_91 (x1 : Int32) (S : MS) : Option (Int32 × MS) :=
(if (mIF S 20) = (1 : Int32) then
(if x1 = (115 : Int32) then
bX4_nameOf_114 (0 : Int32) S
else
bX4_nameOf_114 (1 : Int32) S)
else
bX4_nameOf_114 (-1 : Int32) S)
def fX4_nameOf (x1 : Int32) (S : MS) : Option (Int32 × MS) :=
(if x1 = (107 : Int32) then
bX4_nameOf_68 x1 S
else
(if x1 = (110 : Int32) then
some ((2 : Int32), S)
else
(if x1 = (115 : Int32) then
bX4_nameOf_91 x1 S
else
(if x1 = (116 : Int32) then
bX4_nameOf_91 x1 S
else
(if x1 = (119 : Int32) then
bX4_nameOf_68 x1 S
else
bX4_nameOf_117 S)))))
set_option maxHeartbeats 4000000 in
set_option maxRecDepth 100000 in
theorem mX4_nameOf {l : Launch} {D : va_G} {cA : Nat → ClassId} {o : Nat → Nat} {A : Nat → Prop} (x1 : Int32) (S : MS) {out : (Int32 × MS)} (h : fX4_nameOf x1 S = some out) : Met l yX4_nameOf (ws_ yX4_nameOf cX4_nameOf 2 (some .int)) ({ frames := 0, cells := 0, slots := 0, locals := 0 } : Room) (gPc (mK D cA) (mP D cA o A) A [.ref (o 24), .int x1] S) (gQi (mK D cA) (mP D cA o A) A out) 0 0 A := by
  refine gMet_z (by decide) (Nat.le_of_ble_eq_true rfl) ?_ mKst
  intro p e s m below meth c Q ls args H locs hC hP hS hl ret
  obtain ⟨hx, hb, hml, hown, hts, hA, hK⟩ := hC
  have hown : s.vm.findClass RX4 = some m.cls := hown
  have hl : lv_has ls 2 [(0, .ref (o 24)), (1, .int x1)] := hl
  have B90 : ∀ (t0 : Int32) (S : MS) (H : Heap) (locs : List Loc) (ls : Array Slot), mP D cA o A S H → va_S A s.heap H locs → lv_has ls 2 [(0, .ref (o 24))] → bX4_nameOf_90  t0 S = some out → W p l e ({ frames := 0, cells := 0, slots := 0, locals := 0 } : Room) s m args below meth c H locs 0 0 Q (F0 m 90 ls [.int t0]) := by
    intro t0 S H locs ls hP hS hl h
    unfold bX4_nameOf_90 at h
    exact ret _ _ _ _ _ _ dX4_nameOf_90 rfl hP hS h
  have B68 : ∀ (x1 : Int32) (S : MS) (H : Heap) (locs : List Loc) (ls : Array Slot), mP D cA o A S H → va_S A s.heap H locs → lv_has ls 2 [(0, .ref (o 24)), (1, .int x1)] → bX4_nameOf_68  x1 S = some out → W p l e ({ frames := 0, cells := 0, slots := 0, locals := 0 } : Room) s m args below meth c H locs 0 0 Q (F0 m 68 ls []) := by
    intro x1 S H locs ls hP hS hl h
    unfold bX4_nameOf_68 at h
    refine lv_aload_n hx hb dX4_nameOf_68 rfl (lv_at hl 0 rfl) ?_
    refine va_get (D := D) (ci := 4) (v := .int (mIF S 20)) (C := RX4) (T := TX4) (N := 24) hx hb hts in_X4 hown hK hP.1 0 rfl rfl 20 (by decide) (hts _ q1269) (fun _ h9 => h9) rfl dX4_nameOf_69 ?_
    refine lv_if_eq (tgt := 79) hx hb dX4_nameOf_72 (by decide) (fun c1 => ?_) (fun c1 => ?_)
    · have h := ite_t c1 h
      refine lv_iload_n hx hb dX4_nameOf_79 rfl (lv_at hl 1 rfl) ?_
      refine lv_bipush (v := (119 : Int32)) hx hb dX4_nameOf_80 (by decide) ?_
      refine lv_icmp_ne (tgt := 89) hx hb dX4_nameOf_82 (by decide) (fun c2 => ?_) (fun c2 => ?_)
      · have h := ite_f c2 h
        refine lv_iconst (v := (1 : Int32)) hx hb dX4_nameOf_89 (by decide) ?_
        exact B90 (1 : Int32) S _ _ _ hP hS (lv_sub hl [0] rfl) h
      · have h := ite_t c2 h
        refine lv_iconst (v := (0 : Int32)) hx hb dX4_nameOf_85 (by decide) ?_
        refine lv_goto (tgt := 90) hx hb dX4_nameOf_86 (by decide) ?_
        exact B90 (0 : Int32) S _ _ _ hP hS (lv_sub hl [0] rfl) h
    · have h := ite_f c1 h
      refine lv_iconst (v := (-1 : Int32)) hx hb dX4_nameOf_75 (by decide) ?_
      refine lv_goto (tgt := 90) hx hb dX4_nameOf_76 (by decide) ?_
      exact B90 (-1 : Int32) S _ _ _ hP hS (lv_sub hl [0] rfl) h
  have B117 : ∀  (S : MS) (H : Heap) (locs : List Loc) (ls : Array Slot), mP D cA o A S H → va_S A s.heap H locs → lv_has ls 2 [(0, .ref (o 24))] → bX4_nameOf_117   S = some out → W p l e ({ frames := 0, cells := 0, slots := 0, locals := 0 } : Room) s m args below meth c H locs 0 0 Q (F0 m 117 ls []) := by
    intro  S H locs ls hP hS hl h
    unfold bX4_nameOf_117 at h
    refine lv_iconst (v := (-1 : Int32)) hx hb dX4_nameOf_117 (by decide) ?_
    exact ret _ _ _ _ _ _ dX4_nameOf_118 rfl hP hS h
  have B114 : ∀ (t0 : Int32) (S : MS) (H : Heap) (locs : List Loc) (ls : Array Slot), mP D cA o A S H → va_S A s.heap H locs → lv_has ls 2 [(0, .ref (o 24))] → bX4_nameOf_114  t0 S = some out → W p l e ({ frames := 0, cells := 0, slots := 0, locals := 0 } : Room) s m args below meth c H locs 0 0 Q (F0 m 114 ls [.int t0]) := by
    intro t0 S H locs ls hP hS hl h
    unfold bX4_nameOf_114 at h
    exact ret _ _ _ _ _ _ dX4_nameOf_114 rfl hP hS h
  have B91 : ∀ (x1 : Int32) (S : MS) (H : Heap) (locs : List Loc) (ls : Array Slot), mP D cA o A S H → va_S A s.heap H locs → lv_has ls 2 [(0, .ref (o 24)), (1, .int x1)] → bX4_nameOf_91  x1 S = some out → W p l e ({ frames := 0, cells := 0, slots := 0, locals := 0 } : Room) s m args below meth c H locs 0 0 Q (F0 m 91 ls []) := by
    intro x1 S H locs ls hP hS hl h
    unfold bX4_nameOf_91 at h
    refine lv_aload_n hx hb dX4_nameOf_91 rfl (lv_at hl 0 rfl) ?_
    refine va_get (D := D) (ci := 4) (v := .int (mIF S 20)) (C := RX4) (T := TX4) (N := 24) hx hb hts in_X4 hown hK hP.1 0 rfl rfl 20 (by decide) (hts _ q1269) (fun _ h9 => h9) rfl dX4_nameOf_92 ?_
    refine lv_iconst (v := (1 : Int32)) hx hb dX4_nameOf_95 (by decide) ?_
    refine lv_icmp_eq (tgt := 103) hx hb dX4_nameOf_96 (by decide) (fun c3 => ?_) (fun c3 => ?_)
    · have h := ite_t c3 h
      refine lv_iload_n hx hb dX4_nameOf_103 rfl (lv_at hl 1 rfl) ?_
      refine lv_bipush (v := (115 : Int32)) hx hb dX4_nameOf_104 (by decide) ?_
      refine lv_icmp_ne (tgt := 113) hx hb dX4_nameOf_106 (by decide) (fun c4 => ?_) (fun c4 => ?_)
      · have h := ite_f c4 h
        refine lv_iconst (v := (1 : Int32)) hx hb dX4_nameOf_113 (by decide) ?_
        exact B114 (1 : Int32) S _ _ _ hP hS (lv_sub hl [0] rfl) h
      · have h := ite_t c4 h
        refine lv_iconst (v := (0 : Int32)) hx hb dX4_nameOf_109 (by decide) ?_
        refine lv_goto (tgt := 114) hx hb dX4_nameOf_110 (by decide) ?_
        exact B114 (0 : Int32) S _ _ _ hP hS (lv_sub hl [0] rfl) h
    · have h := ite_f c3 h
      refine lv_iconst (v := (-1 : Int32)) hx hb dX4_nameOf_99 (by decide) ?_
      refine lv_goto (tgt := 114) hx hb dX4_nameOf_100 (by decide) ?_
      exact B114 (-1 : Int32) S _ _ _ hP hS (lv_sub hl [0] rfl) h
  unfold fX4_nameOf at h
  refine lv_iload_n hx hb dX4_nameOf_0 rfl (lv_at hl 1 rfl) ?_
  by_cases c5 : x1 = (107 : Int32)
  · have h := ite_t c5 h
    refine lv_tableIn (off := 67) (tgt := 68) hx hb dX4_nameOf_1 (by rw [c5]; decide) (by rw [c5]; decide) (by rw [c5]; rfl) (by decide) ?_
    exact B68 x1 S _ _ _ hP hS hl h
  · have h := ite_f c5 h
    by_cases c6 : x1 = (110 : Int32)
    · have h := ite_t c6 h
      refine lv_tableIn (off := 114) (tgt := 115) hx hb dX4_nameOf_1 (by rw [c6]; decide) (by rw [c6]; decide) (by rw [c6]; rfl) (by decide) ?_
      refine lv_iconst (v := (2 : Int32)) hx hb dX4_nameOf_115 (by decide) ?_
      exact ret _ _ _ _ _ _ dX4_nameOf_116 rfl hP hS h
    · have h := ite_f c6 h
      by_cases c7 : x1 = (115 : Int32)
      · have h := ite_t c7 h
        refine lv_tableIn (off := 90) (tgt := 91) hx hb dX4_nameOf_1 (by rw [c7]; decide) (by rw [c7]; decide) (by rw [c7]; rfl) (by decide) ?_
        exact B91 x1 S _ _ _ hP hS hl h
      · have h := ite_f c7 h
        by_cases c8 : x1 = (116 : Int32)
        · have h := ite_t c8 h
          refine lv_tableIn (off := 90) (tgt := 91) hx hb dX4_nameOf_1 (by rw [c8]; decide) (by rw [c8]; decide) (by rw [c8]; rfl) (by decide) ?_
          exact B91 x1 S _ _ _ hP hS hl h
        · have h := ite_f c8 h
          by_cases c9 : x1 = (119 : Int32)
          · have h := ite_t c9 h
            refine lv_tableIn (off := 67) (tgt := 68) hx hb dX4_nameOf_1 (by rw [c9]; decide) (by rw [c9]; decide) (by rw [c9]; rfl) (by decide) ?_
            exact B68 x1 S _ _ _ hP hS hl h
          · have h := ite_f c9 h
            have nc5 := lv_neT (a := 107) c5 (by decide)
            have nc6 := lv_neT (a := 110) c6 (by decide)
            have nc7 := lv_neT (a := 115) c7 (by decide)
            have nc8 := lv_neT (a := 116) c8 (by decide)
            have nc9 := lv_neT (a := 119) c9 (by decide)
            have hd10 : W p l e ({ frames := 0, cells := 0, slots := 0, locals := 0 } : Room) s m args below meth c H locs 0 0 Q (F0 m 117 ls []) := by
              exact B117 S _ _ _ hP hS (lv_sub hl [0] rfl) h
            by_cases u11 : (x1).toInt < 107 ∨ 119 < (x1).toInt
            · exact lv_tableOut (tgt := 117) hx hb dX4_nameOf_1 u11 (by decide) hd10
            · have q12 : (x1).toInt = 108 ∨ (x1).toInt = 109 ∨ (x1).toInt = 111 ∨ (x1).toInt = 112 ∨ (x1).toInt = 113 ∨ (x1).toInt = 114 ∨ (x1).toInt = 117 ∨ (x1).toInt = 118 := by omega
              rcases q12 with q12 | q12 | q12 | q12 | q12 | q12 | q12 | q12
              · have c13 : x1 = (108 : Int32) := Int32.toInt_inj.mp (q12.trans (by decide))
                exact lv_tableIn (off := 116) (tgt := 117) hx hb dX4_nameOf_1 (by rw [c13]; decide) (by rw [c13]; decide) (by rw [c13]; rfl) (by decide) hd10
              · have c14 : x1 = (109 : Int32) := Int32.toInt_inj.mp (q12.trans (by decide))
                exact lv_tableIn (off := 116) (tgt := 117) hx hb dX4_nameOf_1 (by rw [c14]; decide) (by rw [c14]; decide) (by rw [c14]; rfl) (by decide) hd10
              · have c15 : x1 = (111 : Int32) := Int32.toInt_inj.mp (q12.trans (by decide))
                exact lv_tableIn (off := 116) (tgt := 117) hx hb dX4_nameOf_1 (by rw [c15]; decide) (by rw [c15]; decide) (by rw [c15]; rfl) (by decide) hd10
              · have c16 : x1 = (112 : Int32) := Int32.toInt_inj.mp (q12.trans (by decide))
                exact lv_tableIn (off := 116) (tgt := 117) hx hb dX4_nameOf_1 (by rw [c16]; decide) (by rw [c16]; decide) (by rw [c16]; rfl) (by decide) hd10
              · have c17 : x1 = (113 : Int32) := Int32.toInt_inj.mp (q12.trans (by decide))
                exact lv_tableIn (off := 116) (tgt := 117) hx hb dX4_nameOf_1 (by rw [c17]; decide) (by rw [c17]; decide) (by rw [c17]; rfl) (by decide) hd10
              · have c18 : x1 = (114 : Int32) := Int32.toInt_inj.mp (q12.trans (by decide))
                exact lv_tableIn (off := 116) (tgt := 117) hx hb dX4_nameOf_1 (by rw [c18]; decide) (by rw [c18]; decide) (by rw [c18]; rfl) (by decide) hd10
              · have c19 : x1 = (117 : Int32) := Int32.toInt_inj.mp (q12.trans (by decide))
                exact lv_tableIn (off := 116) (tgt := 117) hx hb dX4_nameOf_1 (by rw [c19]; decide) (by rw [c19]; decide) (by rw [c19]; rfl) (by decide) hd10
              · have c20 : x1 = (118 : Int32) := Int32.toInt_inj.mp (q12.trans (by decide))
                exact lv_tableIn (off := 116) (tgt := 117) hx hb dX4_nameOf_1 (by rw [c20]; decide) (by rw [c20]; decide) (by rw [c20]; rfl) (by decide) hd10

def bX4_lays_42 (S : MS) : Option MS :=
some S
def fX4_lays (x1 : Int32) (x2 : Int32) (S : MS) : Option MS :=
(if (60 : Int32) ≤ (mIF S 16) then
bX4_lays_42 S
else
chk (inB (mIF S 16) 60) (nm (sIA S 12 (upd (mIA S 12) ((mIF S 16)).toNatClampNeg x1)) fun S3 =>
chk (inB (mIF S3 16) 60) (nm (sIA S3 13 (upd (mIA S3 13) ((mIF S3 16)).toNatClampNeg x2)) fun S5 =>
nm ((mIF S5 16) + (1 : Int32)) fun y6 =>
bX4_lays_42 (sIF S5 16 y6))))
set_option maxHeartbeats 4000000 in
set_option maxRecDepth 100000 in
theorem mX4_lays {l : Launch} {D : va_G} {cA : Nat → ClassId} {o : Nat → Nat} {A : Nat → Prop} (x1 : Int32) (x2 : Int32) (S : MS) {out : MS} (h : fX4_lays x1 x2 S = some out) : Met l yX4_lays (ws_ yX4_lays cX4_lays 3 none) ({ frames := 0, cells := 0, slots := 0, locals := 0 } : Room) (gPc (mK D cA) (mP D cA o A) A [.ref (o 24), .int x1, .int x2] S) (gQv (mK D cA) (mP D cA o A) A out) 0 0 A := by
  refine gMet_v (by decide) (Nat.le_of_ble_eq_true rfl) ?_ mKst
  intro p e s m below meth c Q ls args H locs hC hP hS hl _ ret
  obtain ⟨hx, hb, hml, hown, hts, hA, hK⟩ := hC
  have hown : s.vm.findClass RX4 = some m.cls := hown
  have hl : lv_has ls 3 [(0, .ref (o 24)), (1, .int x1), (2, .int x2)] := hl
  have B42 : ∀  (S : MS) (H : Heap) (locs : List Loc) (ls : Array Slot), mP D cA o A S H → va_S A s.heap H locs → lv_has ls 3 [(0, .ref (o 24))] → bX4_lays_42   S = some out → W p l e ({ frames := 0, cells := 0, slots := 0, locals := 0 } : Room) s m args below meth c H locs 0 0 Q (F0 m 42 ls []) := by
    intro  S H locs ls hP hS hl h
    unfold bX4_lays_42 at h
    exact ret _ _ _ _ _ dX4_lays_42 hP hS h
  unfold fX4_lays at h
  refine lv_aload_n hx hb dX4_lays_0 rfl (lv_at hl 0 rfl) ?_
  refine va_get (D := D) (ci := 4) (v := .int (mIF S 16)) (C := RX4) (T := TX4) (N := 24) hx hb hts in_X4 hown hK hP.1 0 rfl rfl 16 (by decide) (hts _ q1265) (fun _ h9 => h9) rfl dX4_lays_1 ?_
  refine lv_aload_n hx hb dX4_lays_4 rfl (lv_at hl 0 rfl) ?_
  refine va_get (D := D) (ci := 4) (v := .ref (o 12)) (C := RX4) (T := TX4) (N := 24) hx hb hts in_X4 hown hK hP.1 0 rfl rfl 12 (by decide) (hts _ q1261) (fun _ h9 => h9) rfl dX4_lays_5 ?_
  refine va_alen (v := (60 : Int32)) hx hb hK hP.1 11 0 rfl rfl rfl dX4_lays_8 ?_
  refine lv_icmp_ge (tgt := 42) hx hb dX4_lays_9 (by decide) (fun c1 => ?_) (fun c1 => ?_)
  · have h := ite_t c1 h
    exact B42 S _ _ _ hP hS (lv_sub hl [0] rfl) h
  · have h := ite_f c1 h
    refine lv_aload_n hx hb dX4_lays_12 rfl (lv_at hl 0 rfl) ?_
    refine va_get (D := D) (ci := 4) (v := .ref (o 12)) (C := RX4) (T := TX4) (N := 24) hx hb hts in_X4 hown hK hP.1 0 rfl rfl 12 (by decide) (hts _ q1261) (fun _ h9 => h9) rfl dX4_lays_13 ?_
    refine lv_aload_n hx hb dX4_lays_16 rfl (lv_at hl 0 rfl) ?_
    refine va_get (D := D) (ci := 4) (v := .int (mIF S 16)) (C := RX4) (T := TX4) (N := 24) hx hb hts in_X4 hown hK hP.1 0 rfl rfl 16 (by decide) (hts _ q1265) (fun _ h9 => h9) rfl dX4_lays_17 ?_
    refine lv_iload_n hx hb dX4_lays_20 rfl (lv_at hl 1 rfl) ?_
    obtain ⟨g2, h⟩ := chk_some h
    refine va_iast hx hb hK hP.1 hP.2 hS 11 0 rfl rfl (inB_in g2) dX4_lays_21 (fun H locs hP1 hD1 hS => ?_)
    obtain ⟨S3, eS3⟩ : ∃ y : MS, y = (sIA S 12 (upd (mIA S 12) ((mIF S 16)).toNatClampNeg x1)) := ⟨_, rfl⟩
    have hP : mP D cA o A S3 H := by rw [eS3]; exact ⟨hP1, hD1⟩
    have h := nm_at eS3 h
    refine lv_aload_n hx hb dX4_lays_22 rfl (lv_at hl 0 rfl) ?_
    refine va_get (D := D) (ci := 4) (v := .ref (o 13)) (C := RX4) (T := TX4) (N := 24) hx hb hts in_X4 hown hK hP.1 0 rfl rfl 13 (by decide) (hts _ q1262) (fun _ h9 => h9) rfl dX4_lays_23 ?_
    refine lv_aload_n hx hb dX4_lays_26 rfl (lv_at hl 0 rfl) ?_
    refine va_get (D := D) (ci := 4) (v := .int (mIF S3 16)) (C := RX4) (T := TX4) (N := 24) hx hb hts in_X4 hown hK hP.1 0 rfl rfl 16 (by decide) (hts _ q1265) (fun _ h9 => h9) rfl dX4_lays_27 ?_
    refine lv_iload_n hx hb dX4_lays_30 rfl (lv_at hl 2 rfl) ?_
    obtain ⟨g4, h⟩ := chk_some h
    refine va_iast hx hb hK hP.1 hP.2 hS 12 0 rfl rfl (inB_in g4) dX4_lays_31 (fun H locs hP1 hD1 hS => ?_)
    obtain ⟨S5, eS5⟩ : ∃ y : MS, y = (sIA S3 13 (upd (mIA S3 13) ((mIF S3 16)).toNatClampNeg x2)) := ⟨_, rfl⟩
    have hP : mP D cA o A S5 H := by rw [eS5]; exact ⟨hP1, hD1⟩
    have h := nm_at eS5 h
    refine lv_aload_n hx hb dX4_lays_32 rfl (lv_at hl 0 rfl) ?_
    refine lv_dup hx hb dX4_lays_33 rfl ?_
    refine va_get (D := D) (ci := 4) (v := .int (mIF S5 16)) (C := RX4) (T := TX4) (N := 24) hx hb hts in_X4 hown hK hP.1 0 rfl rfl 16 (by decide) (hts _ q1265) (fun _ h9 => h9) rfl dX4_lays_34 ?_
    refine lv_iconst (v := (1 : Int32)) hx hb dX4_lays_37 (by decide) ?_
    refine lv_iadd hx hb dX4_lays_38 ?_
    refine lv_topi (fun y6 ey6 => ?_)
    have h := nm_at ey6 h
    refine va_put (D := D) (ci := 4) (v := .int y6) (ty := .int) (C := RX4) (T := TX4) (N := 24) hx hb hts in_X4 tyX4 tyX4_ok nmX4 hown hK hP.1 hP.2 hS 0 rfl rfl 16 (by decide) (hts _ q1265) (fun _ h9 => h9) rfl (by decide +kernel) rfl rfl (Nat.le_of_ble_eq_true rfl) dX4_lays_39 (fun H locs hP1 hD1 hS => ?_)
    have hP : mP D cA o A (sIF S5 16 y6) H := ⟨hP1, hD1⟩
    exact B42 (sIF S5 16 y6) _ _ _ hP hS (lv_sub hl [0] rfl) h

def bX4_in_15 (t0 : Int32) (S : MS) : Option (Int32 × MS) :=
chk (isB t0) (some (t0, S))
def bX4_in_14 (S : MS) : Option (Int32 × MS) :=
bX4_in_15 (0 : Int32) S
def fX4_in (x0 : Int32) (x1 : Int32) (x2 : Int32) (S : MS) : Option (Int32 × MS) :=
(if x0 < x1 then
bX4_in_14 S
else
(if x2 < x0 then
bX4_in_14 S
else
bX4_in_15 (1 : Int32) S))
set_option maxHeartbeats 4000000 in
set_option maxRecDepth 100000 in
theorem mX4_in {l : Launch} {D : va_G} {cA : Nat → ClassId} {o : Nat → Nat} {A : Nat → Prop} (x0 : Int32) (x1 : Int32) (x2 : Int32) (S : MS) {out : (Int32 × MS)} (h : fX4_in x0 x1 x2 S = some out) : Met l yX4_in (ws_ yX4_in cX4_in 3 (some .boolean)) ({ frames := 0, cells := 0, slots := 0, locals := 0 } : Room) (gPc (mK D cA) (mP D cA o A) A [.int x0, .int x1, .int x2] S) (gQi (mK D cA) (mP D cA o A) A out) 0 0 A := by
  refine gMet_z (by decide) (Nat.le_of_ble_eq_true rfl) ?_ mKst
  intro p e s m below meth c Q ls args H locs hC hP hS hl ret
  obtain ⟨hx, hb, hml, hown, hts, hA, hK⟩ := hC
  have hown : s.vm.findClass RX4 = some m.cls := hown
  have hl : lv_has ls 3 [(0, .int x0), (1, .int x1), (2, .int x2)] := hl
  have B15 : ∀ (t0 : Int32) (S : MS) (H : Heap) (locs : List Loc) (ls : Array Slot), mP D cA o A S H → va_S A s.heap H locs → lv_has ls 3 [] → bX4_in_15  t0 S = some out → W p l e ({ frames := 0, cells := 0, slots := 0, locals := 0 } : Room) s m args below meth c H locs 0 0 Q (F0 m 15 ls [.int t0]) := by
    intro t0 S H locs ls hP hS hl h
    unfold bX4_in_15 at h
    obtain ⟨g1, h⟩ := chk_some h
    exact ret _ _ _ _ _ _ dX4_in_15 (isB_nar g1) hP hS h
  have B14 : ∀  (S : MS) (H : Heap) (locs : List Loc) (ls : Array Slot), mP D cA o A S H → va_S A s.heap H locs → lv_has ls 3 [] → bX4_in_14   S = some out → W p l e ({ frames := 0, cells := 0, slots := 0, locals := 0 } : Room) s m args below meth c H locs 0 0 Q (F0 m 14 ls []) := by
    intro  S H locs ls hP hS hl h
    unfold bX4_in_14 at h
    refine lv_iconst (v := (0 : Int32)) hx hb dX4_in_14 (by decide) ?_
    exact B15 (0 : Int32) S _ _ _ hP hS hl h
  unfold fX4_in at h
  refine lv_iload_n hx hb dX4_in_0 rfl (lv_at hl 0 rfl) ?_
  refine lv_iload_n hx hb dX4_in_1 rfl (lv_at hl 1 rfl) ?_
  refine lv_icmp_lt (tgt := 14) hx hb dX4_in_2 (by decide) (fun c2 => ?_) (fun c2 => ?_)
  · have h := ite_t c2 h
    exact B14 S _ _ _ hP hS (lv_sub hl [] rfl) h
  · have h := ite_f c2 h
    refine lv_iload_n hx hb dX4_in_5 rfl (lv_at hl 0 rfl) ?_
    refine lv_iload_n hx hb dX4_in_6 rfl (lv_at hl 2 rfl) ?_
    refine lv_icmp_gt (tgt := 14) hx hb dX4_in_7 (by decide) (fun c3 => ?_) (fun c3 => ?_)
    · have h := ite_t c3 h
      exact B14 S _ _ _ hP hS (lv_sub hl [] rfl) h
    · have h := ite_f c3 h
      refine lv_iconst (v := (1 : Int32)) hx hb dX4_in_10 (by decide) ?_
      refine lv_goto (tgt := 15) hx hb dX4_in_11 (by decide) ?_
      exact B15 (1 : Int32) S _ _ _ hP hS (lv_sub hl [] rfl) h

def bX4_number_62 (x1 : Int32) (t1 : Int32) (S : MS) : Option MS :=
chk (isB t1) (bn1 (fX4_lays (1 : Int32) x1 (sIF S 19 t1)) fun S3 =>
some S3)
def bX4_number_52 (x1 : Int32) (x2 : Int32) (S : MS) : Option MS :=
(if x2 = 0 then
bX4_number_62 x1 (1 : Int32) S
else
bX4_number_62 x1 (0 : Int32) S)
def bX4_number_4 (k4 : Int32 → Int32 → MS → Option MS) (x1 : Int32) (x2 : Int32) (S : MS) : Option MS :=
(if (4 : Int32) ≤ x2 then
bX4_number_52 x1 x2 S
else
bnd (fX4_look  S) fun v8 S7 =>
bnd (fX4_in v8 (48 : Int32) (57 : Int32) S7) fun v11 S10 =>
(if v11 = 0 then
bX4_number_52 x1 x2 S10
else
bnd (fX4_look  S10) fun v15 S14 =>
nm ((((10 : Int32) * x1) + v15) - (48 : Int32)) fun y16 =>
nm ((mIF S14 17) + (1 : Int32)) fun y17 =>
nm (x2 + (1 : Int32)) fun y18 =>
k4 y16 y18 (sIF S14 17 y17)))
def lX4_number_4 : Nat → (Int32 → Int32 → MS → Option MS)
  | 0 => fun _ _ _ => none
  | n + 1 => bX4_number_4 (lX4_number_4 n)
def fX4_number (S : MS) : Option MS :=
lX4_number_4 FU (0 : Int32) (0 : Int32) S
set_option maxHeartbeats 4000000 in
set_option maxRecDepth 100000 in
theorem mX4_number {l : Launch} {D : va_G} {cA : Nat → ClassId} {o : Nat → Nat} {A : Nat → Prop} (S : MS) {out : MS} (h : fX4_number  S = some out) : Met l yX4_number (ws_ yX4_number cX4_number 3 none) ({ frames := 1, cells := 0, slots := 0, locals := 22 } : Room) (gPc (mK D cA) (mP D cA o A) A [.ref (o 24)] S) (gQv (mK D cA) (mP D cA o A) A out) 0 0 A := by
  refine gMet_v (by decide) (Nat.le_of_ble_eq_true rfl) ?_ mKst
  intro p e s m below meth c Q ls args H locs hC hP hS hl _ ret
  obtain ⟨hx, hb, hml, hown, hts, hA, hK⟩ := hC
  have hown : s.vm.findClass RX4 = some m.cls := hown
  have hl : lv_has ls 3 [(0, .ref (o 24))] := hl
  have B62 : ∀ (x1 : Int32) (t1 : Int32) (S : MS) (H : Heap) (locs : List Loc) (ls : Array Slot), mP D cA o A S H → va_S A s.heap H locs → lv_has ls 3 [(0, .ref (o 24)), (1, .int x1)] → bX4_number_62  x1 t1 S = some out → W p l e ({ frames := 1, cells := 0, slots := 0, locals := 22 } : Room) s m args below meth c H locs 0 0 Q (F0 m 62 ls [.int t1, .ref (o 24)]) := by
    intro x1 t1 S H locs ls hP hS hl h
    unfold bX4_number_62 at h
    obtain ⟨g1, h⟩ := chk_some h
    refine va_put (D := D) (ci := 4) (v := .int t1) (ty := .boolean) (C := RX4) (T := TX4) (N := 24) hx hb hts in_X4 tyX4 tyX4_ok nmX4 hown hK hP.1 hP.2 hS 0 rfl rfl 19 (by decide) (hts _ q1268) (fun _ h9 => h9) rfl (by decide +kernel) (isB_nar g1) (isB_fit g1) (Nat.le_of_ble_eq_true rfl) dX4_number_62 (fun H locs hP1 hD1 hS => ?_)
    have hP : mP D cA o A (sIF S 19 t1) H := ⟨hP1, hD1⟩
    refine lv_aload_n hx hb dX4_number_65 rfl (lv_at hl 0 rfl) ?_
    refine lv_iconst (v := (1 : Int32)) hx hb dX4_number_66 (by decide) ?_
    refine lv_iload_n hx hb dX4_number_67 rfl (lv_at hl 1 rfl) ?_
    obtain ⟨S3, e2, h⟩ := bn1_some h
    refine gc0_v (va_runV (As := [.int (1 : Int32), .int x1]) (rest := []) ⟨hx, hb, hml, hown, hts⟩ (mX4_lays (l := l) (D := D) (cA := cA) (o := o) (A := A) (1 : Int32) x1 (sIF S 19 t1) e2) (cwV 2 hts (lw_V q1464 q1466 qs50 q90 q1467) rfl rfl rfl (by decide +kernel) ⟨Nat.le_of_ble_eq_true rfl, Nat.le_of_ble_eq_true rfl⟩) (gPreV mKst hK hA hS hP (mRecv hK hP)) rfl rfl hl.1 rfl (lv_room (Nat.le_of_ble_eq_true rfl)) dX4_number_68 ⟨Nat.zero_le _, Nat.zero_le _⟩) hS (fun H locs hP hS => ?_)
    exact ret _ _ _ _ _ dX4_number_71 hP hS h
  have B52 : ∀ (x1 : Int32) (x2 : Int32) (S : MS) (H : Heap) (locs : List Loc) (ls : Array Slot), mP D cA o A S H → va_S A s.heap H locs → lv_has ls 3 [(0, .ref (o 24)), (1, .int x1), (2, .int x2)] → bX4_number_52  x1 x2 S = some out → W p l e ({ frames := 1, cells := 0, slots := 0, locals := 22 } : Room) s m args below meth c H locs 0 0 Q (F0 m 52 ls []) := by
    intro x1 x2 S H locs ls hP hS hl h
    unfold bX4_number_52 at h
    refine lv_aload_n hx hb dX4_number_52 rfl (lv_at hl 0 rfl) ?_
    refine lv_iload_n hx hb dX4_number_53 rfl (lv_at hl 2 rfl) ?_
    refine lv_if_ne (tgt := 61) hx hb dX4_number_54 (by decide) (fun c4 => ?_) (fun c4 => ?_)
    · have h := ite_f c4 h
      refine lv_iconst (v := (0 : Int32)) hx hb dX4_number_61 (by decide) ?_
      exact B62 x1 (0 : Int32) S _ _ _ hP hS (lv_sub hl [0, 1] rfl) h
    · have h := ite_t c4 h
      refine lv_iconst (v := (1 : Int32)) hx hb dX4_number_57 (by decide) ?_
      refine lv_goto (tgt := 62) hx hb dX4_number_58 (by decide) ?_
      exact B62 x1 (1 : Int32) S _ _ _ hP hS (lv_sub hl [0, 1] rfl) h
  have L4 : ∀ (n4 : Nat) (x1 : Int32) (x2 : Int32) (S : MS) (H : Heap) (locs : List Loc) (ls : Array Slot), mP D cA o A S H → va_S A s.heap H locs → lv_has ls 3 [(0, .ref (o 24)), (1, .int x1), (2, .int x2)] → lX4_number_4 n4 x1 x2 S = some out → W p l e ({ frames := 1, cells := 0, slots := 0, locals := 22 } : Room) s m args below meth c H locs 0 0 Q (F0 m 4 ls []) := by
    intro n4
    induction n4 with
    | zero =>
      intro x1 x2 S H locs ls hP hS hl h
      cases h
    | succ n4 ih4 =>
      intro x1 x2 S H locs ls hP hS hl h
      replace h : bX4_number_4 (lX4_number_4 n4) x1 x2 S = some out := h
      unfold bX4_number_4 at h
      refine lv_iload_n hx hb dX4_number_4 rfl (lv_at hl 2 rfl) ?_
      refine lv_iconst (v := (4 : Int32)) hx hb dX4_number_5 (by decide) ?_
      refine lv_icmp_ge (tgt := 52) hx hb dX4_number_6 (by decide) (fun c5 => ?_) (fun c5 => ?_)
      · have h := ite_t c5 h
        exact B52 x1 x2 S _ _ _ hP hS hl h
      · have h := ite_f c5 h
        refine lv_aload_n hx hb dX4_number_9 rfl (lv_at hl 0 rfl) ?_
        obtain ⟨v8, S7, e6, h⟩ := bnd_some h
        refine gc0_i (va_runV (As := []) (rest := []) ⟨hx, hb, hml, hown, hts⟩ (mX4_look (l := l) (D := D) (cA := cA) (o := o) (A := A)  S e6) (cwV 0 hts (lw_V q1456 q1458 qs48 q90 q1459) rfl rfl rfl (by decide +kernel) ⟨Nat.le_of_ble_eq_true rfl, Nat.le_of_ble_eq_true rfl⟩) (gPreV mKst hK hA hS hP (mRecv hK hP)) rfl rfl hl.1 rfl (lv_room (Nat.le_of_ble_eq_true rfl)) dX4_number_10 ⟨Nat.zero_le _, Nat.zero_le _⟩) hS (fun H locs hP hS => ?_)
        refine lv_bipush (v := (48 : Int32)) hx hb dX4_number_13 (by decide) ?_
        refine lv_bipush (v := (57 : Int32)) hx hb dX4_number_15 (by decide) ?_
        obtain ⟨v11, S10, e9, h⟩ := bnd_some h
        refine gc0_i (va_runS (As := [.int v8, .int (48 : Int32), .int (57 : Int32)]) (rest := []) ⟨hx, hb, hml, hown, hts⟩ (mX4_in (l := l) (D := D) (cA := cA) (o := o) (A := A) v8 (48 : Int32) (57 : Int32) S7 e9) (va_cwS 3 hts (lw_S q1329 q1330 q90 q1331) rfl rfl rfl (by decide +kernel) ⟨Nat.le_of_ble_eq_true rfl, Nat.le_of_ble_eq_true rfl⟩) (gPreS mKst hK hA hS hP) rfl rfl hl.1 rfl (lv_room (Nat.le_of_ble_eq_true rfl)) dX4_number_17 ⟨Nat.zero_le _, Nat.zero_le _⟩) hS (fun H locs hP hS => ?_)
        refine lv_if_eq (tgt := 52) hx hb dX4_number_20 (by decide) (fun c12 => ?_) (fun c12 => ?_)
        · have h := ite_t c12 h
          exact B52 x1 x2 S10 _ _ _ hP hS hl h
        · have h := ite_f c12 h
          refine lv_bipush (v := (10 : Int32)) hx hb dX4_number_23 (by decide) ?_
          refine lv_iload_n hx hb dX4_number_25 rfl (lv_at hl 1 rfl) ?_
          refine lv_imul hx hb dX4_number_26 ?_
          refine lv_aload_n hx hb dX4_number_27 rfl (lv_at hl 0 rfl) ?_
          obtain ⟨v15, S14, e13, h⟩ := bnd_some h
          refine gc0_i (va_runV (As := []) (rest := [.int ((10 : Int32) * x1)]) ⟨hx, hb, hml, hown, hts⟩ (mX4_look (l := l) (D := D) (cA := cA) (o := o) (A := A)  S10 e13) (cwV 0 hts (lw_V q1456 q1458 qs48 q90 q1459) rfl rfl rfl (by decide +kernel) ⟨Nat.le_of_ble_eq_true rfl, Nat.le_of_ble_eq_true rfl⟩) (gPreV mKst hK hA hS hP (mRecv hK hP)) rfl rfl hl.1 rfl (lv_room (Nat.le_of_ble_eq_true rfl)) dX4_number_28 ⟨Nat.zero_le _, Nat.zero_le _⟩) hS (fun H locs hP hS => ?_)
          refine lv_iadd hx hb dX4_number_31 ?_
          refine lv_bipush (v := (48 : Int32)) hx hb dX4_number_32 (by decide) ?_
          refine lv_isub hx hb dX4_number_34 ?_
          refine lv_topi (fun y16 ey16 => ?_)
          have h := nm_at ey16 h
          refine lv_istore_n (lv' := [(1, .int y16), (0, .ref (o 24)), (2, .int x2)]) hx hb dX4_number_35 rfl hl (by decide) rfl (fun ls hl => ?_)
          refine lv_aload_n hx hb dX4_number_36 rfl (lv_at hl 1 rfl) ?_
          refine lv_dup hx hb dX4_number_37 rfl ?_
          refine va_get (D := D) (ci := 4) (v := .int (mIF S14 17)) (C := RX4) (T := TX4) (N := 24) hx hb hts in_X4 hown hK hP.1 0 rfl rfl 17 (by decide) (hts _ q1266) (fun _ h9 => h9) rfl dX4_number_38 ?_
          refine lv_iconst (v := (1 : Int32)) hx hb dX4_number_41 (by decide) ?_
          refine lv_iadd hx hb dX4_number_42 ?_
          refine lv_topi (fun y17 ey17 => ?_)
          have h := nm_at ey17 h
          refine va_put (D := D) (ci := 4) (v := .int y17) (ty := .int) (C := RX4) (T := TX4) (N := 24) hx hb hts in_X4 tyX4 tyX4_ok nmX4 hown hK hP.1 hP.2 hS 0 rfl rfl 17 (by decide) (hts _ q1266) (fun _ h9 => h9) rfl (by decide +kernel) rfl rfl (Nat.le_of_ble_eq_true rfl) dX4_number_43 (fun H locs hP1 hD1 hS => ?_)
          have hP : mP D cA o A (sIF S14 17 y17) H := ⟨hP1, hD1⟩
          obtain ⟨y18, ey18⟩ : ∃ y : Int32, y = x2 + (1 : Int32) := ⟨_, rfl⟩
          refine lv_iinc (v := y18) (lv' := [(2, .int y18), (1, .int y16), (0, .ref (o 24))]) hx hb dX4_number_46 hl (k := 2) rfl (by rw [ey18]; rfl) (by decide) rfl (fun ls hl => ?_)
          have h := nm_at ey18 h
          refine lv_goto (tgt := 4) hx hb dX4_number_49 (by decide) ?_
          exact ih4 y16 y18 (sIF S14 17 y17) _ _ _ hP hS (lv_sub hl [2, 1, 0] rfl) h
  unfold fX4_number at h
  refine lv_iconst (v := (0 : Int32)) hx hb dX4_number_0 (by decide) ?_
  refine lv_istore_n (lv' := [(1, .int (0 : Int32)), (0, .ref (o 24))]) hx hb dX4_number_1 rfl hl (by decide) rfl (fun ls hl => ?_)
  refine lv_iconst (v := (0 : Int32)) hx hb dX4_number_2 (by decide) ?_
  refine lv_istore_n (lv' := [(2, .int (0 : Int32)), (1, .int (0 : Int32)), (0, .ref (o 24))]) hx hb dX4_number_3 rfl hl (by decide) rfl (fun ls hl => ?_)
  exact L4 FU (0 : Int32) (0 : Int32) S _ _ _ hP hS (lv_sub hl [2, 1, 0] rfl) h

def bX4_one_58 (rc : Int32 → MS → Option MS) (S : MS) : Option MS :=
some S
def bX4_one_46 (rc : Int32 → MS → Option MS) (x1 : Int32) (S : MS) : Option MS :=
bn1 (rc x1 S) fun S2 =>
bX4_one_58 rc S2
def fX4_one (rc : Int32 → MS → Option MS) (S : MS) : Option MS :=
bnd (fX4_look  S) fun v5 S4 =>
bnd (fX4_nameOf v5 S4) fun v8 S7 =>
(if v8 < 0 then
(if v5 = (33 : Int32) then
bX4_one_46 rc v5 S7
else
(if v5 = (40 : Int32) then
bX4_one_46 rc v5 S7
else
bn1 (fX4_number  S7) fun S13 =>
bX4_one_58 rc S13))
else
nm ((mIF S7 17) + (1 : Int32)) fun y14 =>
bn1 (fX4_lays (2 : Int32) v8 (sIF S7 17 y14)) fun S16 =>
bX4_one_58 rc S16)
set_option maxHeartbeats 4000000 in
set_option maxRecDepth 100000 in
theorem mX4_one {l : Launch} {D : va_G} {cA : Nat → ClassId} {o : Nat → Nat} {A : Nat → Prop} (d : Nat) (rc : Int32 → MS → Option MS) (hrc : ∀ (a0 : Int32) (S : MS) (out : MS), rc a0 S = some out → Met l yX4_opens (ws_ yX4_opens cX4_opens 2 none) ({ frames := 7 * d + 1, cells := 0, slots := 0, locals := 147 * d + 22 } : Room) (gPc (mK D cA) (mP D cA o A) A [.ref (o 24), .int a0] S) (gQv (mK D cA) (mP D cA o A) A out) 0 0 A) (S : MS) {out : MS} (h : fX4_one rc  S = some out) : Met l yX4_one (ws_ yX4_one cX4_one 3 none) ({ frames := 7 * d + 2, cells := 0, slots := 0, locals := 147 * d + 44 } : Room) (gPc (mK D cA) (mP D cA o A) A [.ref (o 24)] S) (gQv (mK D cA) (mP D cA o A) A out) 0 0 A := by
  refine gMet_v (by decide) (Nat.le_of_ble_eq_true rfl) ?_ mKst
  intro p e s m below meth c Q ls args H locs hC hP hS hl _ ret
  obtain ⟨hx, hb, hml, hown, hts, hA, hK⟩ := hC
  have hown : s.vm.findClass RX4 = some m.cls := hown
  have hl : lv_has ls 3 [(0, .ref (o 24))] := hl
  have B58 : ∀  (S : MS) (H : Heap) (locs : List Loc) (ls : Array Slot), mP D cA o A S H → va_S A s.heap H locs → lv_has ls 3 [(0, .ref (o 24))] → bX4_one_58 rc  S = some out → W p l e ({ frames := 7 * d + 2, cells := 0, slots := 0, locals := 147 * d + 44 } : Room) s m args below meth c H locs 0 0 Q (F0 m 58 ls []) := by
    intro  S H locs ls hP hS hl h
    unfold bX4_one_58 at h
    exact ret _ _ _ _ _ dX4_one_58 hP hS h
  have B46 : ∀ (x1 : Int32) (S : MS) (H : Heap) (locs : List Loc) (ls : Array Slot), mP D cA o A S H → va_S A s.heap H locs → lv_has ls 3 [(0, .ref (o 24)), (1, .int x1)] → bX4_one_46 rc x1 S = some out → W p l e ({ frames := 7 * d + 2, cells := 0, slots := 0, locals := 147 * d + 44 } : Room) s m args below meth c H locs 0 0 Q (F0 m 46 ls []) := by
    intro x1 S H locs ls hP hS hl h
    unfold bX4_one_46 at h
    refine lv_aload_n hx hb dX4_one_46 rfl (lv_at hl 0 rfl) ?_
    refine lv_iload_n hx hb dX4_one_47 rfl (lv_at hl 1 rfl) ?_
    obtain ⟨S2, e1, h⟩ := bn1_some h
    refine gc0_v (va_runV (As := [.int x1]) (rest := []) ⟨hx, hb, hml, hown, hts⟩ (hrc x1 S _ e1) (cwV 1 hts (lw_V q1468 q1470 qs51 q90 q1471) rfl rfl rfl (by decide +kernel) ⟨by dsimp only; omega, by dsimp only; omega⟩) (gPreV mKst hK hA hS hP (mRecv hK hP)) rfl rfl hl.1 rfl (lv_room (Nat.le_of_ble_eq_true rfl)) dX4_one_48 ⟨Nat.zero_le _, Nat.zero_le _⟩) hS (fun H locs hP hS => ?_)
    refine lv_goto (tgt := 58) hx hb dX4_one_51 (by decide) ?_
    exact B58 S2 _ _ _ hP hS (lv_sub hl [0] rfl) h
  unfold fX4_one at h
  refine lv_aload_n hx hb dX4_one_0 rfl (lv_at hl 0 rfl) ?_
  obtain ⟨v5, S4, e3, h⟩ := bnd_some h
  refine gc0_i (va_runV (As := []) (rest := []) ⟨hx, hb, hml, hown, hts⟩ (mX4_look (l := l) (D := D) (cA := cA) (o := o) (A := A)  S e3) (cwV 0 hts (lw_V q1456 q1458 qs48 q90 q1459) rfl rfl rfl (by decide +kernel) ⟨by dsimp only; omega, by dsimp only; omega⟩) (gPreV mKst hK hA hS hP (mRecv hK hP)) rfl rfl hl.1 rfl (lv_room (Nat.le_of_ble_eq_true rfl)) dX4_one_1 ⟨Nat.zero_le _, Nat.zero_le _⟩) hS (fun H locs hP hS => ?_)
  refine lv_istore_n (lv' := [(1, .int v5), (0, .ref (o 24))]) hx hb dX4_one_4 rfl hl (by decide) rfl (fun ls hl => ?_)
  refine lv_aload_n hx hb dX4_one_5 rfl (lv_at hl 1 rfl) ?_
  refine lv_iload_n hx hb dX4_one_6 rfl (lv_at hl 0 rfl) ?_
  obtain ⟨v8, S7, e6, h⟩ := bnd_some h
  refine gc0_i (va_runV (As := [.int v5]) (rest := []) ⟨hx, hb, hml, hown, hts⟩ (mX4_nameOf (l := l) (D := D) (cA := cA) (o := o) (A := A) v5 S4 e6) (cwV 1 hts (lw_V q1460 q1462 qs49 q90 q1463) rfl rfl rfl (by decide +kernel) ⟨by dsimp only; omega, by dsimp only; omega⟩) (gPreV mKst hK hA hS hP (mRecv hK hP)) rfl rfl hl.1 rfl (lv_room (Nat.le_of_ble_eq_true rfl)) dX4_one_7 ⟨Nat.zero_le _, Nat.zero_le _⟩) hS (fun H locs hP hS => ?_)
  refine lv_istore_n (lv' := [(2, .int v8), (1, .int v5), (0, .ref (o 24))]) hx hb dX4_one_10 rfl hl (by decide) rfl (fun ls hl => ?_)
  refine lv_iload_n hx hb dX4_one_11 rfl (lv_at hl 0 rfl) ?_
  refine lv_if_lt (tgt := 34) hx hb dX4_one_12 (by decide) (fun c9 => ?_) (fun c9 => ?_)
  · have h := ite_t c9 h
    refine lv_iload_n hx hb dX4_one_34 rfl (lv_at hl 1 rfl) ?_
    refine lv_bipush (v := (33 : Int32)) hx hb dX4_one_35 (by decide) ?_
    refine lv_icmp_eq (tgt := 46) hx hb dX4_one_37 (by decide) (fun c10 => ?_) (fun c10 => ?_)
    · have h := ite_t c10 h
      exact B46 v5 S7 _ _ _ hP hS (lv_sub hl [2, 1] rfl) h
    · have h := ite_f c10 h
      refine lv_iload_n hx hb dX4_one_40 rfl (lv_at hl 1 rfl) ?_
      refine lv_bipush (v := (40 : Int32)) hx hb dX4_one_41 (by decide) ?_
      refine lv_icmp_ne (tgt := 54) hx hb dX4_one_43 (by decide) (fun c11 => ?_) (fun c11 => ?_)
      · have h := ite_f c11 h
        refine lv_aload_n hx hb dX4_one_54 rfl (lv_at hl 2 rfl) ?_
        obtain ⟨S13, e12, h⟩ := bn1_some h
        refine gc0_v (va_runV (As := []) (rest := []) ⟨hx, hb, hml, hown, hts⟩ (mX4_number (l := l) (D := D) (cA := cA) (o := o) (A := A)  S7 e12) (cwV 0 hts (lw_V q1472 q1474 qs52 q90 q1475) rfl rfl rfl (by decide +kernel) ⟨by dsimp only; omega, by dsimp only; omega⟩) (gPreV mKst hK hA hS hP (mRecv hK hP)) rfl rfl hl.1 rfl (lv_room (Nat.le_of_ble_eq_true rfl)) dX4_one_55 ⟨Nat.zero_le _, Nat.zero_le _⟩) hS (fun H locs hP hS => ?_)
        exact B58 S13 _ _ _ hP hS (lv_sub hl [2] rfl) h
      · have h := ite_t c11 h
        exact B46 v5 S7 _ _ _ hP hS (lv_sub hl [2, 1] rfl) h
  · have h := ite_f c9 h
    refine lv_aload_n hx hb dX4_one_15 rfl (lv_at hl 2 rfl) ?_
    refine lv_dup hx hb dX4_one_16 rfl ?_
    refine va_get (D := D) (ci := 4) (v := .int (mIF S7 17)) (C := RX4) (T := TX4) (N := 24) hx hb hts in_X4 hown hK hP.1 0 rfl rfl 17 (by decide) (hts _ q1266) (fun _ h9 => h9) rfl dX4_one_17 ?_
    refine lv_iconst (v := (1 : Int32)) hx hb dX4_one_20 (by decide) ?_
    refine lv_iadd hx hb dX4_one_21 ?_
    refine lv_topi (fun y14 ey14 => ?_)
    have h := nm_at ey14 h
    refine va_put (D := D) (ci := 4) (v := .int y14) (ty := .int) (C := RX4) (T := TX4) (N := 24) hx hb hts in_X4 tyX4 tyX4_ok nmX4 hown hK hP.1 hP.2 hS 0 rfl rfl 17 (by decide) (hts _ q1266) (fun _ h9 => h9) rfl (by decide +kernel) rfl rfl (Nat.le_of_ble_eq_true rfl) dX4_one_22 (fun H locs hP1 hD1 hS => ?_)
    have hP : mP D cA o A (sIF S7 17 y14) H := ⟨hP1, hD1⟩
    refine lv_aload_n hx hb dX4_one_25 rfl (lv_at hl 2 rfl) ?_
    refine lv_iconst (v := (2 : Int32)) hx hb dX4_one_26 (by decide) ?_
    refine lv_iload_n hx hb dX4_one_27 rfl (lv_at hl 0 rfl) ?_
    obtain ⟨S16, e15, h⟩ := bn1_some h
    refine gc0_v (va_runV (As := [.int (2 : Int32), .int v8]) (rest := []) ⟨hx, hb, hml, hown, hts⟩ (mX4_lays (l := l) (D := D) (cA := cA) (o := o) (A := A) (2 : Int32) v8 (sIF S7 17 y14) e15) (cwV 2 hts (lw_V q1464 q1466 qs50 q90 q1467) rfl rfl rfl (by decide +kernel) ⟨by dsimp only; omega, by dsimp only; omega⟩) (gPreV mKst hK hA hS hP (mRecv hK hP)) rfl rfl hl.1 rfl (lv_room (Nat.le_of_ble_eq_true rfl)) dX4_one_28 ⟨Nat.zero_le _, Nat.zero_le _⟩) hS (fun H locs hP hS => ?_)
    refine lv_goto (tgt := 58) hx hb dX4_one_31 (by decide) ?_
    exact B58 S16 _ _ _ hP hS (lv_sub hl [2] rfl) h

def bX4_times_66 (rc : Int32 → MS → Option MS) (S : MS) : Option MS :=
some S
def bX4_times_38 (rc : Int32 → MS → Option MS) (k4 : MS → Option MS) (S : MS) : Option MS :=
bnd (fX4_look  S) fun v3 S2 =>
nm ((mIF S2 17) + (1 : Int32)) fun y4 =>
bn1 (fX4_one rc  (sIF S2 17 y4)) fun S6 =>
bn1 (fX4_lays v3 (0 : Int32) S6) fun S8 =>
k4 S8
def bX4_times_4 (rc : Int32 → MS → Option MS) (k4 : MS → Option MS) (S : MS) : Option MS :=
(if (mIF S 19) = 0 then
bnd (fX4_look  S) fun v12 S11 =>
(if v12 = (42 : Int32) then
bX4_times_38 rc k4 S11
else
bnd (fX4_look  S11) fun v16 S15 =>
(if v16 = (47 : Int32) then
bX4_times_38 rc k4 S15
else
bnd (fX4_look  S15) fun v20 S19 =>
(if v20 = (37 : Int32) then
bX4_times_38 rc k4 S19
else
bX4_times_66 rc S19)))
else
bX4_times_66 rc S)
def lX4_times_4 (rc : Int32 → MS → Option MS) : Nat → (MS → Option MS)
  | 0 => fun _ => none
  | n + 1 => bX4_times_4 rc (lX4_times_4 rc n)
def fX4_times (rc : Int32 → MS → Option MS) (S : MS) : Option MS :=
bn1 (fX4_one rc  S) fun S23 =>
lX4_times_4 rc FU S23
set_option maxHeartbeats 4000000 in
set_option maxRecDepth 100000 in
theorem mX4_times {l : Launch} {D : va_G} {cA : Nat → ClassId} {o : Nat → Nat} {A : Nat → Prop} (d : Nat) (rc : Int32 → MS → Option MS) (hrc : ∀ (a0 : Int32) (S : MS) (out : MS), rc a0 S = some out → Met l yX4_opens (ws_ yX4_opens cX4_opens 2 none) ({ frames := 7 * d + 1, cells := 0, slots := 0, locals := 147 * d + 22 } : Room) (gPc (mK D cA) (mP D cA o A) A [.ref (o 24), .int a0] S) (gQv (mK D cA) (mP D cA o A) A out) 0 0 A) (S : MS) {out : MS} (h : fX4_times rc  S = some out) : Met l yX4_times (ws_ yX4_times cX4_times 2 none) ({ frames := 7 * d + 3, cells := 0, slots := 0, locals := 147 * d + 66 } : Room) (gPc (mK D cA) (mP D cA o A) A [.ref (o 24)] S) (gQv (mK D cA) (mP D cA o A) A out) 0 0 A := by
  refine gMet_v (by decide) (Nat.le_of_ble_eq_true rfl) ?_ mKst
  intro p e s m below meth c Q ls args H locs hC hP hS hl _ ret
  obtain ⟨hx, hb, hml, hown, hts, hA, hK⟩ := hC
  have hown : s.vm.findClass RX4 = some m.cls := hown
  have hl : lv_has ls 2 [(0, .ref (o 24))] := hl
  have B66 : ∀  (S : MS) (H : Heap) (locs : List Loc) (ls : Array Slot), mP D cA o A S H → va_S A s.heap H locs → lv_has ls 2 [(0, .ref (o 24))] → bX4_times_66 rc  S = some out → W p l e ({ frames := 7 * d + 3, cells := 0, slots := 0, locals := 147 * d + 66 } : Room) s m args below meth c H locs 0 0 Q (F0 m 66 ls []) := by
    intro  S H locs ls hP hS hl h
    unfold bX4_times_66 at h
    exact ret _ _ _ _ _ dX4_times_66 hP hS h
  have L4 : ∀ (n4 : Nat)  (S : MS) (H : Heap) (locs : List Loc) (ls : Array Slot), mP D cA o A S H → va_S A s.heap H locs → lv_has ls 2 [(0, .ref (o 24))] → lX4_times_4 rc n4  S = some out → W p l e ({ frames := 7 * d + 3, cells := 0, slots := 0, locals := 147 * d + 66 } : Room) s m args below meth c H locs 0 0 Q (F0 m 4 ls []) := by
    intro n4
    induction n4 with
    | zero =>
      intro  S H locs ls hP hS hl h
      cases h
    | succ n4 ih4 =>
      have B38 : ∀  (S : MS) (H : Heap) (locs : List Loc) (ls : Array Slot), mP D cA o A S H → va_S A s.heap H locs → lv_has ls 2 [(0, .ref (o 24))] → bX4_times_38 rc (lX4_times_4 rc n4)  S = some out → W p l e ({ frames := 7 * d + 3, cells := 0, slots := 0, locals := 147 * d + 66 } : Room) s m args below meth c H locs 0 0 Q (F0 m 38 ls []) := by
        intro  S H locs ls hP hS hl h
        unfold bX4_times_38 at h
        refine lv_aload_n hx hb dX4_times_38 rfl (lv_at hl 0 rfl) ?_
        obtain ⟨v3, S2, e1, h⟩ := bnd_some h
        refine gc0_i (va_runV (As := []) (rest := []) ⟨hx, hb, hml, hown, hts⟩ (mX4_look (l := l) (D := D) (cA := cA) (o := o) (A := A)  S e1) (cwV 0 hts (lw_V q1456 q1458 qs48 q90 q1459) rfl rfl rfl (by decide +kernel) ⟨by dsimp only; omega, by dsimp only; omega⟩) (gPreV mKst hK hA hS hP (mRecv hK hP)) rfl rfl hl.1 rfl (lv_room (Nat.le_of_ble_eq_true rfl)) dX4_times_39 ⟨Nat.zero_le _, Nat.zero_le _⟩) hS (fun H locs hP hS => ?_)
        refine lv_istore_n (lv' := [(1, .int v3), (0, .ref (o 24))]) hx hb dX4_times_42 rfl hl (by decide) rfl (fun ls hl => ?_)
        refine lv_aload_n hx hb dX4_times_43 rfl (lv_at hl 1 rfl) ?_
        refine lv_dup hx hb dX4_times_44 rfl ?_
        refine va_get (D := D) (ci := 4) (v := .int (mIF S2 17)) (C := RX4) (T := TX4) (N := 24) hx hb hts in_X4 hown hK hP.1 0 rfl rfl 17 (by decide) (hts _ q1266) (fun _ h9 => h9) rfl dX4_times_45 ?_
        refine lv_iconst (v := (1 : Int32)) hx hb dX4_times_48 (by decide) ?_
        refine lv_iadd hx hb dX4_times_49 ?_
        refine lv_topi (fun y4 ey4 => ?_)
        have h := nm_at ey4 h
        refine va_put (D := D) (ci := 4) (v := .int y4) (ty := .int) (C := RX4) (T := TX4) (N := 24) hx hb hts in_X4 tyX4 tyX4_ok nmX4 hown hK hP.1 hP.2 hS 0 rfl rfl 17 (by decide) (hts _ q1266) (fun _ h9 => h9) rfl (by decide +kernel) rfl rfl (Nat.le_of_ble_eq_true rfl) dX4_times_50 (fun H locs hP1 hD1 hS => ?_)
        have hP : mP D cA o A (sIF S2 17 y4) H := ⟨hP1, hD1⟩
        refine lv_aload_n hx hb dX4_times_53 rfl (lv_at hl 1 rfl) ?_
        obtain ⟨S6, e5, h⟩ := bn1_some h
        refine gc0_v (va_runV (As := []) (rest := []) ⟨hx, hb, hml, hown, hts⟩ (mX4_one (l := l) (D := D) (cA := cA) (o := o) (A := A) d rc hrc  (sIF S2 17 y4) e5) (cwV 0 hts (lw_V q1452 q1454 qs47 q90 q1455) rfl rfl rfl (by decide +kernel) ⟨by dsimp only; omega, by dsimp only; omega⟩) (gPreV mKst hK hA hS hP (mRecv hK hP)) rfl rfl hl.1 rfl (lv_room (Nat.le_of_ble_eq_true rfl)) dX4_times_54 ⟨Nat.zero_le _, Nat.zero_le _⟩) hS (fun H locs hP hS => ?_)
        refine lv_aload_n hx hb dX4_times_57 rfl (lv_at hl 1 rfl) ?_
        refine lv_iload_n hx hb dX4_times_58 rfl (lv_at hl 0 rfl) ?_
        refine lv_iconst (v := (0 : Int32)) hx hb dX4_times_59 (by decide) ?_
        obtain ⟨S8, e7, h⟩ := bn1_some h
        refine gc0_v (va_runV (As := [.int v3, .int (0 : Int32)]) (rest := []) ⟨hx, hb, hml, hown, hts⟩ (mX4_lays (l := l) (D := D) (cA := cA) (o := o) (A := A) v3 (0 : Int32) S6 e7) (cwV 2 hts (lw_V q1464 q1466 qs50 q90 q1467) rfl rfl rfl (by decide +kernel) ⟨by dsimp only; omega, by dsimp only; omega⟩) (gPreV mKst hK hA hS hP (mRecv hK hP)) rfl rfl hl.1 rfl (lv_room (Nat.le_of_ble_eq_true rfl)) dX4_times_60 ⟨Nat.zero_le _, Nat.zero_le _⟩) hS (fun H locs hP hS => ?_)
        refine lv_goto (tgt := 4) hx hb dX4_times_63 (by decide) ?_
        exact ih4 S8 _ _ _ hP hS (lv_sub hl [1] rfl) h
      intro  S H locs ls hP hS hl h
      replace h : bX4_times_4 rc (lX4_times_4 rc n4)  S = some out := h
      unfold bX4_times_4 at h
      refine lv_aload_n hx hb dX4_times_4 rfl (lv_at hl 0 rfl) ?_
      refine va_get (D := D) (ci := 4) (v := .int (mIF S 19)) (C := RX4) (T := TX4) (N := 24) hx hb hts in_X4 hown hK hP.1 0 rfl rfl 19 (by decide) (hts _ q1268) (fun _ h9 => h9) rfl dX4_times_5 ?_
      refine lv_if_ne (tgt := 66) hx hb dX4_times_8 (by decide) (fun c9 => ?_) (fun c9 => ?_)
      · have h := ite_f c9 h
        exact B66 S _ _ _ hP hS hl h
      · have h := ite_t c9 h
        refine lv_aload_n hx hb dX4_times_11 rfl (lv_at hl 0 rfl) ?_
        obtain ⟨v12, S11, e10, h⟩ := bnd_some h
        refine gc0_i (va_runV (As := []) (rest := []) ⟨hx, hb, hml, hown, hts⟩ (mX4_look (l := l) (D := D) (cA := cA) (o := o) (A := A)  S e10) (cwV 0 hts (lw_V q1456 q1458 qs48 q90 q1459) rfl rfl rfl (by decide +kernel) ⟨by dsimp only; omega, by dsimp only; omega⟩) (gPreV mKst hK hA hS hP (mRecv hK hP)) rfl rfl hl.1 rfl (lv_room (Nat.le_of_ble_eq_true rfl)) dX4_times_12 ⟨Nat.zero_le _, Nat.zero_le _⟩) hS (fun H locs hP hS => ?_)
        refine lv_bipush (v := (42 : Int32)) hx hb dX4_times_15 (by decide) ?_
        refine lv_icmp_eq (tgt := 38) hx hb dX4_times_17 (by decide) (fun c13 => ?_) (fun c13 => ?_)
        · have h := ite_t c13 h
          exact B38 S11 _ _ _ hP hS hl h
        · have h := ite_f c13 h
          refine lv_aload_n hx hb dX4_times_20 rfl (lv_at hl 0 rfl) ?_
          obtain ⟨v16, S15, e14, h⟩ := bnd_some h
          refine gc0_i (va_runV (As := []) (rest := []) ⟨hx, hb, hml, hown, hts⟩ (mX4_look (l := l) (D := D) (cA := cA) (o := o) (A := A)  S11 e14) (cwV 0 hts (lw_V q1456 q1458 qs48 q90 q1459) rfl rfl rfl (by decide +kernel) ⟨by dsimp only; omega, by dsimp only; omega⟩) (gPreV mKst hK hA hS hP (mRecv hK hP)) rfl rfl hl.1 rfl (lv_room (Nat.le_of_ble_eq_true rfl)) dX4_times_21 ⟨Nat.zero_le _, Nat.zero_le _⟩) hS (fun H locs hP hS => ?_)
          refine lv_bipush (v := (47 : Int32)) hx hb dX4_times_24 (by decide) ?_
          refine lv_icmp_eq (tgt := 38) hx hb dX4_times_26 (by decide) (fun c17 => ?_) (fun c17 => ?_)
          · have h := ite_t c17 h
            exact B38 S15 _ _ _ hP hS hl h
          · have h := ite_f c17 h
            refine lv_aload_n hx hb dX4_times_29 rfl (lv_at hl 0 rfl) ?_
            obtain ⟨v20, S19, e18, h⟩ := bnd_some h
            refine gc0_i (va_runV (As := []) (rest := []) ⟨hx, hb, hml, hown, hts⟩ (mX4_look (l := l) (D := D) (cA := cA) (o := o) (A := A)  S15 e18) (cwV 0 hts (lw_V q1456 q1458 qs48 q90 q1459) rfl rfl rfl (by decide +kernel) ⟨by dsimp only; omega, by dsimp only; omega⟩) (gPreV mKst hK hA hS hP (mRecv hK hP)) rfl rfl hl.1 rfl (lv_room (Nat.le_of_ble_eq_true rfl)) dX4_times_30 ⟨Nat.zero_le _, Nat.zero_le _⟩) hS (fun H locs hP hS => ?_)
            refine lv_bipush (v := (37 : Int32)) hx hb dX4_times_33 (by decide) ?_
            refine lv_icmp_ne (tgt := 66) hx hb dX4_times_35 (by decide) (fun c21 => ?_) (fun c21 => ?_)
            · have h := ite_f c21 h
              exact B66 S19 _ _ _ hP hS hl h
            · have h := ite_t c21 h
              exact B38 S19 _ _ _ hP hS hl h
  unfold fX4_times at h
  refine lv_aload_n hx hb dX4_times_0 rfl (lv_at hl 0 rfl) ?_
  obtain ⟨S23, e22, h⟩ := bn1_some h
  refine gc0_v (va_runV (As := []) (rest := []) ⟨hx, hb, hml, hown, hts⟩ (mX4_one (l := l) (D := D) (cA := cA) (o := o) (A := A) d rc hrc  S e22) (cwV 0 hts (lw_V q1452 q1454 qs47 q90 q1455) rfl rfl rfl (by decide +kernel) ⟨by dsimp only; omega, by dsimp only; omega⟩) (gPreV mKst hK hA hS hP (mRecv hK hP)) rfl rfl hl.1 rfl (lv_room (Nat.le_of_ble_eq_true rfl)) dX4_times_1 ⟨Nat.zero_le _, Nat.zero_le _⟩) hS (fun H locs hP hS => ?_)
  exact L4 FU S23 _ _ _ hP hS hl h

def bX4_sumBy_57 (rc : Int32 → MS → Option MS) (S : MS) : Option MS :=
some S
def bX4_sumBy_29 (rc : Int32 → MS → Option MS) (k4 : MS → Option MS) (S : MS) : Option MS :=
bnd (fX4_look  S) fun v3 S2 =>
nm ((mIF S2 17) + (1 : Int32)) fun y4 =>
bn1 (fX4_times rc  (sIF S2 17 y4)) fun S6 =>
bn1 (fX4_lays v3 (0 : Int32) S6) fun S8 =>
k4 S8
def bX4_sumBy_4 (rc : Int32 → MS → Option MS) (k4 : MS → Option MS) (S : MS) : Option MS :=
(if (mIF S 19) = 0 then
bnd (fX4_look  S) fun v12 S11 =>
(if v12 = (43 : Int32) then
bX4_sumBy_29 rc k4 S11
else
bnd (fX4_look  S11) fun v16 S15 =>
(if v16 = (45 : Int32) then
bX4_sumBy_29 rc k4 S15
else
bX4_sumBy_57 rc S15))
else
bX4_sumBy_57 rc S)
def lX4_sumBy_4 (rc : Int32 → MS → Option MS) : Nat → (MS → Option MS)
  | 0 => fun _ => none
  | n + 1 => bX4_sumBy_4 rc (lX4_sumBy_4 rc n)
def fX4_sumBy (rc : Int32 → MS → Option MS) (S : MS) : Option MS :=
bn1 (fX4_times rc  S) fun S19 =>
lX4_sumBy_4 rc FU S19
set_option maxHeartbeats 4000000 in
set_option maxRecDepth 100000 in
theorem mX4_sumBy {l : Launch} {D : va_G} {cA : Nat → ClassId} {o : Nat → Nat} {A : Nat → Prop} (d : Nat) (rc : Int32 → MS → Option MS) (hrc : ∀ (a0 : Int32) (S : MS) (out : MS), rc a0 S = some out → Met l yX4_opens (ws_ yX4_opens cX4_opens 2 none) ({ frames := 7 * d + 1, cells := 0, slots := 0, locals := 147 * d + 22 } : Room) (gPc (mK D cA) (mP D cA o A) A [.ref (o 24), .int a0] S) (gQv (mK D cA) (mP D cA o A) A out) 0 0 A) (S : MS) {out : MS} (h : fX4_sumBy rc  S = some out) : Met l yX4_sumBy (ws_ yX4_sumBy cX4_sumBy 2 none) ({ frames := 7 * d + 4, cells := 0, slots := 0, locals := 147 * d + 87 } : Room) (gPc (mK D cA) (mP D cA o A) A [.ref (o 24)] S) (gQv (mK D cA) (mP D cA o A) A out) 0 0 A := by
  refine gMet_v (by decide) (Nat.le_of_ble_eq_true rfl) ?_ mKst
  intro p e s m below meth c Q ls args H locs hC hP hS hl _ ret
  obtain ⟨hx, hb, hml, hown, hts, hA, hK⟩ := hC
  have hown : s.vm.findClass RX4 = some m.cls := hown
  have hl : lv_has ls 2 [(0, .ref (o 24))] := hl
  have B57 : ∀  (S : MS) (H : Heap) (locs : List Loc) (ls : Array Slot), mP D cA o A S H → va_S A s.heap H locs → lv_has ls 2 [(0, .ref (o 24))] → bX4_sumBy_57 rc  S = some out → W p l e ({ frames := 7 * d + 4, cells := 0, slots := 0, locals := 147 * d + 87 } : Room) s m args below meth c H locs 0 0 Q (F0 m 57 ls []) := by
    intro  S H locs ls hP hS hl h
    unfold bX4_sumBy_57 at h
    exact ret _ _ _ _ _ dX4_sumBy_57 hP hS h
  have L4 : ∀ (n4 : Nat)  (S : MS) (H : Heap) (locs : List Loc) (ls : Array Slot), mP D cA o A S H → va_S A s.heap H locs → lv_has ls 2 [(0, .ref (o 24))] → lX4_sumBy_4 rc n4  S = some out → W p l e ({ frames := 7 * d + 4, cells := 0, slots := 0, locals := 147 * d + 87 } : Room) s m args below meth c H locs 0 0 Q (F0 m 4 ls []) := by
    intro n4
    induction n4 with
    | zero =>
      intro  S H locs ls hP hS hl h
      cases h
    | succ n4 ih4 =>
      have B29 : ∀  (S : MS) (H : Heap) (locs : List Loc) (ls : Array Slot), mP D cA o A S H → va_S A s.heap H locs → lv_has ls 2 [(0, .ref (o 24))] → bX4_sumBy_29 rc (lX4_sumBy_4 rc n4)  S = some out → W p l e ({ frames := 7 * d + 4, cells := 0, slots := 0, locals := 147 * d + 87 } : Room) s m args below meth c H locs 0 0 Q (F0 m 29 ls []) := by
        intro  S H locs ls hP hS hl h
        unfold bX4_sumBy_29 at h
        refine lv_aload_n hx hb dX4_sumBy_29 rfl (lv_at hl 0 rfl) ?_
        obtain ⟨v3, S2, e1, h⟩ := bnd_some h
        refine gc0_i (va_runV (As := []) (rest := []) ⟨hx, hb, hml, hown, hts⟩ (mX4_look (l := l) (D := D) (cA := cA) (o := o) (A := A)  S e1) (cwV 0 hts (lw_V q1456 q1458 qs48 q90 q1459) rfl rfl rfl (by decide +kernel) ⟨by dsimp only; omega, by dsimp only; omega⟩) (gPreV mKst hK hA hS hP (mRecv hK hP)) rfl rfl hl.1 rfl (lv_room (Nat.le_of_ble_eq_true rfl)) dX4_sumBy_30 ⟨Nat.zero_le _, Nat.zero_le _⟩) hS (fun H locs hP hS => ?_)
        refine lv_istore_n (lv' := [(1, .int v3), (0, .ref (o 24))]) hx hb dX4_sumBy_33 rfl hl (by decide) rfl (fun ls hl => ?_)
        refine lv_aload_n hx hb dX4_sumBy_34 rfl (lv_at hl 1 rfl) ?_
        refine lv_dup hx hb dX4_sumBy_35 rfl ?_
        refine va_get (D := D) (ci := 4) (v := .int (mIF S2 17)) (C := RX4) (T := TX4) (N := 24) hx hb hts in_X4 hown hK hP.1 0 rfl rfl 17 (by decide) (hts _ q1266) (fun _ h9 => h9) rfl dX4_sumBy_36 ?_
        refine lv_iconst (v := (1 : Int32)) hx hb dX4_sumBy_39 (by decide) ?_
        refine lv_iadd hx hb dX4_sumBy_40 ?_
        refine lv_topi (fun y4 ey4 => ?_)
        have h := nm_at ey4 h
        refine va_put (D := D) (ci := 4) (v := .int y4) (ty := .int) (C := RX4) (T := TX4) (N := 24) hx hb hts in_X4 tyX4 tyX4_ok nmX4 hown hK hP.1 hP.2 hS 0 rfl rfl 17 (by decide) (hts _ q1266) (fun _ h9 => h9) rfl (by decide +kernel) rfl rfl (Nat.le_of_ble_eq_true rfl) dX4_sumBy_41 (fun H locs hP1 hD1 hS => ?_)
        have hP : mP D cA o A (sIF S2 17 y4) H := ⟨hP1, hD1⟩
        refine lv_aload_n hx hb dX4_sumBy_44 rfl (lv_at hl 1 rfl) ?_
        obtain ⟨S6, e5, h⟩ := bn1_some h
        refine gc0_v (va_runV (As := []) (rest := []) ⟨hx, hb, hml, hown, hts⟩ (mX4_times (l := l) (D := D) (cA := cA) (o := o) (A := A) d rc hrc  (sIF S2 17 y4) e5) (cwV 0 hts (lw_V q1448 q1450 qs46 q90 q1451) rfl rfl rfl (by decide +kernel) ⟨by dsimp only; omega, by dsimp only; omega⟩) (gPreV mKst hK hA hS hP (mRecv hK hP)) rfl rfl hl.1 rfl (lv_room (Nat.le_of_ble_eq_true rfl)) dX4_sumBy_45 ⟨Nat.zero_le _, Nat.zero_le _⟩) hS (fun H locs hP hS => ?_)
        refine lv_aload_n hx hb dX4_sumBy_48 rfl (lv_at hl 1 rfl) ?_
        refine lv_iload_n hx hb dX4_sumBy_49 rfl (lv_at hl 0 rfl) ?_
        refine lv_iconst (v := (0 : Int32)) hx hb dX4_sumBy_50 (by decide) ?_
        obtain ⟨S8, e7, h⟩ := bn1_some h
        refine gc0_v (va_runV (As := [.int v3, .int (0 : Int32)]) (rest := []) ⟨hx, hb, hml, hown, hts⟩ (mX4_lays (l := l) (D := D) (cA := cA) (o := o) (A := A) v3 (0 : Int32) S6 e7) (cwV 2 hts (lw_V q1464 q1466 qs50 q90 q1467) rfl rfl rfl (by decide +kernel) ⟨by dsimp only; omega, by dsimp only; omega⟩) (gPreV mKst hK hA hS hP (mRecv hK hP)) rfl rfl hl.1 rfl (lv_room (Nat.le_of_ble_eq_true rfl)) dX4_sumBy_51 ⟨Nat.zero_le _, Nat.zero_le _⟩) hS (fun H locs hP hS => ?_)
        refine lv_goto (tgt := 4) hx hb dX4_sumBy_54 (by decide) ?_
        exact ih4 S8 _ _ _ hP hS (lv_sub hl [1] rfl) h
      intro  S H locs ls hP hS hl h
      replace h : bX4_sumBy_4 rc (lX4_sumBy_4 rc n4)  S = some out := h
      unfold bX4_sumBy_4 at h
      refine lv_aload_n hx hb dX4_sumBy_4 rfl (lv_at hl 0 rfl) ?_
      refine va_get (D := D) (ci := 4) (v := .int (mIF S 19)) (C := RX4) (T := TX4) (N := 24) hx hb hts in_X4 hown hK hP.1 0 rfl rfl 19 (by decide) (hts _ q1268) (fun _ h9 => h9) rfl dX4_sumBy_5 ?_
      refine lv_if_ne (tgt := 57) hx hb dX4_sumBy_8 (by decide) (fun c9 => ?_) (fun c9 => ?_)
      · have h := ite_f c9 h
        exact B57 S _ _ _ hP hS hl h
      · have h := ite_t c9 h
        refine lv_aload_n hx hb dX4_sumBy_11 rfl (lv_at hl 0 rfl) ?_
        obtain ⟨v12, S11, e10, h⟩ := bnd_some h
        refine gc0_i (va_runV (As := []) (rest := []) ⟨hx, hb, hml, hown, hts⟩ (mX4_look (l := l) (D := D) (cA := cA) (o := o) (A := A)  S e10) (cwV 0 hts (lw_V q1456 q1458 qs48 q90 q1459) rfl rfl rfl (by decide +kernel) ⟨by dsimp only; omega, by dsimp only; omega⟩) (gPreV mKst hK hA hS hP (mRecv hK hP)) rfl rfl hl.1 rfl (lv_room (Nat.le_of_ble_eq_true rfl)) dX4_sumBy_12 ⟨Nat.zero_le _, Nat.zero_le _⟩) hS (fun H locs hP hS => ?_)
        refine lv_bipush (v := (43 : Int32)) hx hb dX4_sumBy_15 (by decide) ?_
        refine lv_icmp_eq (tgt := 29) hx hb dX4_sumBy_17 (by decide) (fun c13 => ?_) (fun c13 => ?_)
        · have h := ite_t c13 h
          exact B29 S11 _ _ _ hP hS hl h
        · have h := ite_f c13 h
          refine lv_aload_n hx hb dX4_sumBy_20 rfl (lv_at hl 0 rfl) ?_
          obtain ⟨v16, S15, e14, h⟩ := bnd_some h
          refine gc0_i (va_runV (As := []) (rest := []) ⟨hx, hb, hml, hown, hts⟩ (mX4_look (l := l) (D := D) (cA := cA) (o := o) (A := A)  S11 e14) (cwV 0 hts (lw_V q1456 q1458 qs48 q90 q1459) rfl rfl rfl (by decide +kernel) ⟨by dsimp only; omega, by dsimp only; omega⟩) (gPreV mKst hK hA hS hP (mRecv hK hP)) rfl rfl hl.1 rfl (lv_room (Nat.le_of_ble_eq_true rfl)) dX4_sumBy_21 ⟨Nat.zero_le _, Nat.zero_le _⟩) hS (fun H locs hP hS => ?_)
          refine lv_bipush (v := (45 : Int32)) hx hb dX4_sumBy_24 (by decide) ?_
          refine lv_icmp_ne (tgt := 57) hx hb dX4_sumBy_26 (by decide) (fun c17 => ?_) (fun c17 => ?_)
          · have h := ite_f c17 h
            exact B57 S15 _ _ _ hP hS hl h
          · have h := ite_t c17 h
            exact B29 S15 _ _ _ hP hS hl h
  unfold fX4_sumBy at h
  refine lv_aload_n hx hb dX4_sumBy_0 rfl (lv_at hl 0 rfl) ?_
  obtain ⟨S19, e18, h⟩ := bn1_some h
  refine gc0_v (va_runV (As := []) (rest := []) ⟨hx, hb, hml, hown, hts⟩ (mX4_times (l := l) (D := D) (cA := cA) (o := o) (A := A) d rc hrc  S e18) (cwV 0 hts (lw_V q1448 q1450 qs46 q90 q1451) rfl rfl rfl (by decide +kernel) ⟨by dsimp only; omega, by dsimp only; omega⟩) (gPreV mKst hK hA hS hP (mRecv hK hP)) rfl rfl hl.1 rfl (lv_room (Nat.le_of_ble_eq_true rfl)) dX4_sumBy_1 ⟨Nat.zero_le _, Nat.zero_le _⟩) hS (fun H locs hP hS => ?_)
  exact L4 FU S19 _ _ _ hP hS hl h

def bX4_compares_54 (rc : Int32 → MS → Option MS) (S : MS) : Option MS :=
some S
def bX4_compares_34 (rc : Int32 → MS → Option MS) (x1 : Int32) (S : MS) : Option MS :=
nm ((mIF S 17) + (1 : Int32)) fun y1 =>
bn1 (fX4_sumBy rc  (sIF S 17 y1)) fun S3 =>
bn1 (fX4_lays x1 (0 : Int32) S3) fun S5 =>
bX4_compares_54 rc S5
def fX4_compares (rc : Int32 → MS → Option MS) (S : MS) : Option MS :=
bn1 (fX4_sumBy rc  S) fun S7 =>
bnd (fX4_look  S7) fun v10 S9 =>
(if (mIF S9 19) = 0 then
(if v10 = (60 : Int32) then
bX4_compares_34 rc v10 S9
else
(if v10 = (61 : Int32) then
bX4_compares_34 rc v10 S9
else
(if v10 = (62 : Int32) then
bX4_compares_34 rc v10 S9
else
bX4_compares_54 rc S9)))
else
bX4_compares_54 rc S9)
set_option maxHeartbeats 4000000 in
set_option maxRecDepth 100000 in
theorem mX4_compares {l : Launch} {D : va_G} {cA : Nat → ClassId} {o : Nat → Nat} {A : Nat → Prop} (d : Nat) (rc : Int32 → MS → Option MS) (hrc : ∀ (a0 : Int32) (S : MS) (out : MS), rc a0 S = some out → Met l yX4_opens (ws_ yX4_opens cX4_opens 2 none) ({ frames := 7 * d + 1, cells := 0, slots := 0, locals := 147 * d + 22 } : Room) (gPc (mK D cA) (mP D cA o A) A [.ref (o 24), .int a0] S) (gQv (mK D cA) (mP D cA o A) A out) 0 0 A) (S : MS) {out : MS} (h : fX4_compares rc  S = some out) : Met l yX4_compares (ws_ yX4_compares cX4_compares 2 none) ({ frames := 7 * d + 5, cells := 0, slots := 0, locals := 147 * d + 108 } : Room) (gPc (mK D cA) (mP D cA o A) A [.ref (o 24)] S) (gQv (mK D cA) (mP D cA o A) A out) 0 0 A := by
  refine gMet_v (by decide) (Nat.le_of_ble_eq_true rfl) ?_ mKst
  intro p e s m below meth c Q ls args H locs hC hP hS hl _ ret
  obtain ⟨hx, hb, hml, hown, hts, hA, hK⟩ := hC
  have hown : s.vm.findClass RX4 = some m.cls := hown
  have hl : lv_has ls 2 [(0, .ref (o 24))] := hl
  have B54 : ∀  (S : MS) (H : Heap) (locs : List Loc) (ls : Array Slot), mP D cA o A S H → va_S A s.heap H locs → lv_has ls 2 [(0, .ref (o 24))] → bX4_compares_54 rc  S = some out → W p l e ({ frames := 7 * d + 5, cells := 0, slots := 0, locals := 147 * d + 108 } : Room) s m args below meth c H locs 0 0 Q (F0 m 54 ls []) := by
    intro  S H locs ls hP hS hl h
    unfold bX4_compares_54 at h
    exact ret _ _ _ _ _ dX4_compares_54 hP hS h
  have B34 : ∀ (x1 : Int32) (S : MS) (H : Heap) (locs : List Loc) (ls : Array Slot), mP D cA o A S H → va_S A s.heap H locs → lv_has ls 2 [(0, .ref (o 24)), (1, .int x1)] → bX4_compares_34 rc x1 S = some out → W p l e ({ frames := 7 * d + 5, cells := 0, slots := 0, locals := 147 * d + 108 } : Room) s m args below meth c H locs 0 0 Q (F0 m 34 ls []) := by
    intro x1 S H locs ls hP hS hl h
    unfold bX4_compares_34 at h
    refine lv_aload_n hx hb dX4_compares_34 rfl (lv_at hl 0 rfl) ?_
    refine lv_dup hx hb dX4_compares_35 rfl ?_
    refine va_get (D := D) (ci := 4) (v := .int (mIF S 17)) (C := RX4) (T := TX4) (N := 24) hx hb hts in_X4 hown hK hP.1 0 rfl rfl 17 (by decide) (hts _ q1266) (fun _ h9 => h9) rfl dX4_compares_36 ?_
    refine lv_iconst (v := (1 : Int32)) hx hb dX4_compares_39 (by decide) ?_
    refine lv_iadd hx hb dX4_compares_40 ?_
    refine lv_topi (fun y1 ey1 => ?_)
    have h := nm_at ey1 h
    refine va_put (D := D) (ci := 4) (v := .int y1) (ty := .int) (C := RX4) (T := TX4) (N := 24) hx hb hts in_X4 tyX4 tyX4_ok nmX4 hown hK hP.1 hP.2 hS 0 rfl rfl 17 (by decide) (hts _ q1266) (fun _ h9 => h9) rfl (by decide +kernel) rfl rfl (Nat.le_of_ble_eq_true rfl) dX4_compares_41 (fun H locs hP1 hD1 hS => ?_)
    have hP : mP D cA o A (sIF S 17 y1) H := ⟨hP1, hD1⟩
    refine lv_aload_n hx hb dX4_compares_44 rfl (lv_at hl 0 rfl) ?_
    obtain ⟨S3, e2, h⟩ := bn1_some h
    refine gc0_v (va_runV (As := []) (rest := []) ⟨hx, hb, hml, hown, hts⟩ (mX4_sumBy (l := l) (D := D) (cA := cA) (o := o) (A := A) d rc hrc  (sIF S 17 y1) e2) (cwV 0 hts (lw_V q1444 q1446 qs45 q90 q1447) rfl rfl rfl (by decide +kernel) ⟨by dsimp only; omega, by dsimp only; omega⟩) (gPreV mKst hK hA hS hP (mRecv hK hP)) rfl rfl hl.1 rfl (lv_room (Nat.le_of_ble_eq_true rfl)) dX4_compares_45 ⟨Nat.zero_le _, Nat.zero_le _⟩) hS (fun H locs hP hS => ?_)
    refine lv_aload_n hx hb dX4_compares_48 rfl (lv_at hl 0 rfl) ?_
    refine lv_iload_n hx hb dX4_compares_49 rfl (lv_at hl 1 rfl) ?_
    refine lv_iconst (v := (0 : Int32)) hx hb dX4_compares_50 (by decide) ?_
    obtain ⟨S5, e4, h⟩ := bn1_some h
    refine gc0_v (va_runV (As := [.int x1, .int (0 : Int32)]) (rest := []) ⟨hx, hb, hml, hown, hts⟩ (mX4_lays (l := l) (D := D) (cA := cA) (o := o) (A := A) x1 (0 : Int32) S3 e4) (cwV 2 hts (lw_V q1464 q1466 qs50 q90 q1467) rfl rfl rfl (by decide +kernel) ⟨by dsimp only; omega, by dsimp only; omega⟩) (gPreV mKst hK hA hS hP (mRecv hK hP)) rfl rfl hl.1 rfl (lv_room (Nat.le_of_ble_eq_true rfl)) dX4_compares_51 ⟨Nat.zero_le _, Nat.zero_le _⟩) hS (fun H locs hP hS => ?_)
    exact B54 S5 _ _ _ hP hS (lv_sub hl [0] rfl) h
  unfold fX4_compares at h
  refine lv_aload_n hx hb dX4_compares_0 rfl (lv_at hl 0 rfl) ?_
  obtain ⟨S7, e6, h⟩ := bn1_some h
  refine gc0_v (va_runV (As := []) (rest := []) ⟨hx, hb, hml, hown, hts⟩ (mX4_sumBy (l := l) (D := D) (cA := cA) (o := o) (A := A) d rc hrc  S e6) (cwV 0 hts (lw_V q1444 q1446 qs45 q90 q1447) rfl rfl rfl (by decide +kernel) ⟨by dsimp only; omega, by dsimp only; omega⟩) (gPreV mKst hK hA hS hP (mRecv hK hP)) rfl rfl hl.1 rfl (lv_room (Nat.le_of_ble_eq_true rfl)) dX4_compares_1 ⟨Nat.zero_le _, Nat.zero_le _⟩) hS (fun H locs hP hS => ?_)
  refine lv_aload_n hx hb dX4_compares_4 rfl (lv_at hl 0 rfl) ?_
  obtain ⟨v10, S9, e8, h⟩ := bnd_some h
  refine gc0_i (va_runV (As := []) (rest := []) ⟨hx, hb, hml, hown, hts⟩ (mX4_look (l := l) (D := D) (cA := cA) (o := o) (A := A)  S7 e8) (cwV 0 hts (lw_V q1456 q1458 qs48 q90 q1459) rfl rfl rfl (by decide +kernel) ⟨by dsimp only; omega, by dsimp only; omega⟩) (gPreV mKst hK hA hS hP (mRecv hK hP)) rfl rfl hl.1 rfl (lv_room (Nat.le_of_ble_eq_true rfl)) dX4_compares_5 ⟨Nat.zero_le _, Nat.zero_le _⟩) hS (fun H locs hP hS => ?_)
  refine lv_istore_n (lv' := [(1, .int v10), (0, .ref (o 24))]) hx hb dX4_compares_8 rfl hl (by decide) rfl (fun ls hl => ?_)
  refine lv_aload_n hx hb dX4_compares_9 rfl (lv_at hl 1 rfl) ?_
  refine va_get (D := D) (ci := 4) (v := .int (mIF S9 19)) (C := RX4) (T := TX4) (N := 24) hx hb hts in_X4 hown hK hP.1 0 rfl rfl 19 (by decide) (hts _ q1268) (fun _ h9 => h9) rfl dX4_compares_10 ?_
  refine lv_if_ne (tgt := 54) hx hb dX4_compares_13 (by decide) (fun c11 => ?_) (fun c11 => ?_)
  · have h := ite_f c11 h
    exact B54 S9 _ _ _ hP hS (lv_sub hl [1] rfl) h
  · have h := ite_t c11 h
    refine lv_iload_n hx hb dX4_compares_16 rfl (lv_at hl 0 rfl) ?_
    refine lv_bipush (v := (60 : Int32)) hx hb dX4_compares_17 (by decide) ?_
    refine lv_icmp_eq (tgt := 34) hx hb dX4_compares_19 (by decide) (fun c12 => ?_) (fun c12 => ?_)
    · have h := ite_t c12 h
      exact B34 v10 S9 _ _ _ hP hS (lv_sub hl [1, 0] rfl) h
    · have h := ite_f c12 h
      refine lv_iload_n hx hb dX4_compares_22 rfl (lv_at hl 0 rfl) ?_
      refine lv_bipush (v := (61 : Int32)) hx hb dX4_compares_23 (by decide) ?_
      refine lv_icmp_eq (tgt := 34) hx hb dX4_compares_25 (by decide) (fun c13 => ?_) (fun c13 => ?_)
      · have h := ite_t c13 h
        exact B34 v10 S9 _ _ _ hP hS (lv_sub hl [1, 0] rfl) h
      · have h := ite_f c13 h
        refine lv_iload_n hx hb dX4_compares_28 rfl (lv_at hl 0 rfl) ?_
        refine lv_bipush (v := (62 : Int32)) hx hb dX4_compares_29 (by decide) ?_
        refine lv_icmp_ne (tgt := 54) hx hb dX4_compares_31 (by decide) (fun c14 => ?_) (fun c14 => ?_)
        · have h := ite_f c14 h
          exact B54 S9 _ _ _ hP hS (lv_sub hl [1] rfl) h
        · have h := ite_t c14 h
          exact B34 v10 S9 _ _ _ hP hS (lv_sub hl [1, 0] rfl) h

def bX4_all_44 (rc : Int32 → MS → Option MS) (S : MS) : Option MS :=
some S
def bX4_all_4 (rc : Int32 → MS → Option MS) (k4 : MS → Option MS) (S : MS) : Option MS :=
(if (mIF S 19) = 0 then
bnd (fX4_look  S) fun v4 S3 =>
(if v4 = (38 : Int32) then
nm ((mIF S3 17) + (1 : Int32)) fun y6 =>
bn1 (fX4_compares rc  (sIF S3 17 y6)) fun S8 =>
bn1 (fX4_lays (38 : Int32) (0 : Int32) S8) fun S10 =>
k4 S10
else
bX4_all_44 rc S3)
else
bX4_all_44 rc S)
def lX4_all_4 (rc : Int32 → MS → Option MS) : Nat → (MS → Option MS)
  | 0 => fun _ => none
  | n + 1 => bX4_all_4 rc (lX4_all_4 rc n)
def fX4_all (rc : Int32 → MS → Option MS) (S : MS) : Option MS :=
bn1 (fX4_compares rc  S) fun S12 =>
lX4_all_4 rc FU S12
set_option maxHeartbeats 4000000 in
set_option maxRecDepth 100000 in
theorem mX4_all {l : Launch} {D : va_G} {cA : Nat → ClassId} {o : Nat → Nat} {A : Nat → Prop} (d : Nat) (rc : Int32 → MS → Option MS) (hrc : ∀ (a0 : Int32) (S : MS) (out : MS), rc a0 S = some out → Met l yX4_opens (ws_ yX4_opens cX4_opens 2 none) ({ frames := 7 * d + 1, cells := 0, slots := 0, locals := 147 * d + 22 } : Room) (gPc (mK D cA) (mP D cA o A) A [.ref (o 24), .int a0] S) (gQv (mK D cA) (mP D cA o A) A out) 0 0 A) (S : MS) {out : MS} (h : fX4_all rc  S = some out) : Met l yX4_all (ws_ yX4_all cX4_all 1 none) ({ frames := 7 * d + 6, cells := 0, slots := 0, locals := 147 * d + 129 } : Room) (gPc (mK D cA) (mP D cA o A) A [.ref (o 24)] S) (gQv (mK D cA) (mP D cA o A) A out) 0 0 A := by
  refine gMet_v (by decide) (Nat.le_of_ble_eq_true rfl) ?_ mKst
  intro p e s m below meth c Q ls args H locs hC hP hS hl _ ret
  obtain ⟨hx, hb, hml, hown, hts, hA, hK⟩ := hC
  have hown : s.vm.findClass RX4 = some m.cls := hown
  have hl : lv_has ls 1 [(0, .ref (o 24))] := hl
  have B44 : ∀  (S : MS) (H : Heap) (locs : List Loc) (ls : Array Slot), mP D cA o A S H → va_S A s.heap H locs → lv_has ls 1 [(0, .ref (o 24))] → bX4_all_44 rc  S = some out → W p l e ({ frames := 7 * d + 6, cells := 0, slots := 0, locals := 147 * d + 129 } : Room) s m args below meth c H locs 0 0 Q (F0 m 44 ls []) := by
    intro  S H locs ls hP hS hl h
    unfold bX4_all_44 at h
    exact ret _ _ _ _ _ dX4_all_44 hP hS h
  have L4 : ∀ (n4 : Nat)  (S : MS) (H : Heap) (locs : List Loc) (ls : Array Slot), mP D cA o A S H → va_S A s.heap H locs → lv_has ls 1 [(0, .ref (o 24))] → lX4_all_4 rc n4  S = some out → W p l e ({ frames := 7 * d + 6, cells := 0, slots := 0, locals := 147 * d + 129 } : Room) s m args below meth c H locs 0 0 Q (F0 m 4 ls []) := by
    intro n4
    induction n4 with
    | zero =>
      intro  S H locs ls hP hS hl h
      cases h
    | succ n4 ih4 =>
      intro  S H locs ls hP hS hl h
      replace h : bX4_all_4 rc (lX4_all_4 rc n4)  S = some out := h
      unfold bX4_all_4 at h
      refine lv_aload_n hx hb dX4_all_4 rfl (lv_at hl 0 rfl) ?_
      refine va_get (D := D) (ci := 4) (v := .int (mIF S 19)) (C := RX4) (T := TX4) (N := 24) hx hb hts in_X4 hown hK hP.1 0 rfl rfl 19 (by decide) (hts _ q1268) (fun _ h9 => h9) rfl dX4_all_5 ?_
      refine lv_if_ne (tgt := 44) hx hb dX4_all_8 (by decide) (fun c1 => ?_) (fun c1 => ?_)
      · have h := ite_f c1 h
        exact B44 S _ _ _ hP hS hl h
      · have h := ite_t c1 h
        refine lv_aload_n hx hb dX4_all_11 rfl (lv_at hl 0 rfl) ?_
        obtain ⟨v4, S3, e2, h⟩ := bnd_some h
        refine gc0_i (va_runV (As := []) (rest := []) ⟨hx, hb, hml, hown, hts⟩ (mX4_look (l := l) (D := D) (cA := cA) (o := o) (A := A)  S e2) (cwV 0 hts (lw_V q1456 q1458 qs48 q90 q1459) rfl rfl rfl (by decide +kernel) ⟨by dsimp only; omega, by dsimp only; omega⟩) (gPreV mKst hK hA hS hP (mRecv hK hP)) rfl rfl hl.1 rfl (lv_room (Nat.le_of_ble_eq_true rfl)) dX4_all_12 ⟨Nat.zero_le _, Nat.zero_le _⟩) hS (fun H locs hP hS => ?_)
        refine lv_bipush (v := (38 : Int32)) hx hb dX4_all_15 (by decide) ?_
        refine lv_icmp_ne (tgt := 44) hx hb dX4_all_17 (by decide) (fun c5 => ?_) (fun c5 => ?_)
        · have h := ite_f c5 h
          exact B44 S3 _ _ _ hP hS hl h
        · have h := ite_t c5 h
          refine lv_aload_n hx hb dX4_all_20 rfl (lv_at hl 0 rfl) ?_
          refine lv_dup hx hb dX4_all_21 rfl ?_
          refine va_get (D := D) (ci := 4) (v := .int (mIF S3 17)) (C := RX4) (T := TX4) (N := 24) hx hb hts in_X4 hown hK hP.1 0 rfl rfl 17 (by decide) (hts _ q1266) (fun _ h9 => h9) rfl dX4_all_22 ?_
          refine lv_iconst (v := (1 : Int32)) hx hb dX4_all_25 (by decide) ?_
          refine lv_iadd hx hb dX4_all_26 ?_
          refine lv_topi (fun y6 ey6 => ?_)
          have h := nm_at ey6 h
          refine va_put (D := D) (ci := 4) (v := .int y6) (ty := .int) (C := RX4) (T := TX4) (N := 24) hx hb hts in_X4 tyX4 tyX4_ok nmX4 hown hK hP.1 hP.2 hS 0 rfl rfl 17 (by decide) (hts _ q1266) (fun _ h9 => h9) rfl (by decide +kernel) rfl rfl (Nat.le_of_ble_eq_true rfl) dX4_all_27 (fun H locs hP1 hD1 hS => ?_)
          have hP : mP D cA o A (sIF S3 17 y6) H := ⟨hP1, hD1⟩
          refine lv_aload_n hx hb dX4_all_30 rfl (lv_at hl 0 rfl) ?_
          obtain ⟨S8, e7, h⟩ := bn1_some h
          refine gc0_v (va_runV (As := []) (rest := []) ⟨hx, hb, hml, hown, hts⟩ (mX4_compares (l := l) (D := D) (cA := cA) (o := o) (A := A) d rc hrc  (sIF S3 17 y6) e7) (cwV 0 hts (lw_V q1440 q1442 qs44 q90 q1443) rfl rfl rfl (by decide +kernel) ⟨by dsimp only; omega, by dsimp only; omega⟩) (gPreV mKst hK hA hS hP (mRecv hK hP)) rfl rfl hl.1 rfl (lv_room (Nat.le_of_ble_eq_true rfl)) dX4_all_31 ⟨Nat.zero_le _, Nat.zero_le _⟩) hS (fun H locs hP hS => ?_)
          refine lv_aload_n hx hb dX4_all_34 rfl (lv_at hl 0 rfl) ?_
          refine lv_bipush (v := (38 : Int32)) hx hb dX4_all_35 (by decide) ?_
          refine lv_iconst (v := (0 : Int32)) hx hb dX4_all_37 (by decide) ?_
          obtain ⟨S10, e9, h⟩ := bn1_some h
          refine gc0_v (va_runV (As := [.int (38 : Int32), .int (0 : Int32)]) (rest := []) ⟨hx, hb, hml, hown, hts⟩ (mX4_lays (l := l) (D := D) (cA := cA) (o := o) (A := A) (38 : Int32) (0 : Int32) S8 e9) (cwV 2 hts (lw_V q1464 q1466 qs50 q90 q1467) rfl rfl rfl (by decide +kernel) ⟨by dsimp only; omega, by dsimp only; omega⟩) (gPreV mKst hK hA hS hP (mRecv hK hP)) rfl rfl hl.1 rfl (lv_room (Nat.le_of_ble_eq_true rfl)) dX4_all_38 ⟨Nat.zero_le _, Nat.zero_le _⟩) hS (fun H locs hP hS => ?_)
          refine lv_goto (tgt := 4) hx hb dX4_all_41 (by decide) ?_
          exact ih4 S10 _ _ _ hP hS hl h
  unfold fX4_all at h
  refine lv_aload_n hx hb dX4_all_0 rfl (lv_at hl 0 rfl) ?_
  obtain ⟨S12, e11, h⟩ := bn1_some h
  refine gc0_v (va_runV (As := []) (rest := []) ⟨hx, hb, hml, hown, hts⟩ (mX4_compares (l := l) (D := D) (cA := cA) (o := o) (A := A) d rc hrc  S e11) (cwV 0 hts (lw_V q1440 q1442 qs44 q90 q1443) rfl rfl rfl (by decide +kernel) ⟨by dsimp only; omega, by dsimp only; omega⟩) (gPreV mKst hK hA hS hP (mRecv hK hP)) rfl rfl hl.1 rfl (lv_room (Nat.le_of_ble_eq_true rfl)) dX4_all_1 ⟨Nat.zero_le _, Nat.zero_le _⟩) hS (fun H locs hP hS => ?_)
  exact L4 FU S12 _ _ _ hP hS hl h

def bX4_missOf_24 (x1 : Int32) (t0 : Int64) (S : MS) : Option (Int64 × MS) :=
bnd (fX4_saysOf x1 S) fun v3 S2 =>
bnd (fX4_of x1 (3 : Int32) S2) fun v6 S5 =>
chk (inB v6 4) (some ((((((v3).toInt64) * (mLF S2)) - (mLA S5 10 (v6).toNatClampNeg)) + t0), S5))
def fX4_missOf (x1 : Int32) (S : MS) : Option (Int64 × MS) :=
bnd (fX4_of x1 (2 : Int32) S) fun v10 S9 =>
(if 0 ≤ v10 then
bnd (fX4_of x1 (2 : Int32) S9) fun v14 S13 =>
chk (inB v14 4) (bX4_missOf_24 x1 (mLA S13 10 (v14).toNatClampNeg) S13)
else
bX4_missOf_24 x1 (0 : Int64) S9)
set_option maxHeartbeats 4000000 in
set_option maxRecDepth 100000 in
theorem mX4_missOf {l : Launch} {D : va_G} {cA : Nat → ClassId} {o : Nat → Nat} {A : Nat → Prop} (x1 : Int32) (S : MS) {out : (Int64 × MS)} (h : fX4_missOf x1 S = some out) : Met l yX4_missOf (ws_ yX4_missOf cX4_missOf 4 (some .long)) ({ frames := 4, cells := 0, slots := 0, locals := 93 } : Room) (gPc (mK D cA) (mP D cA o A) A [.ref (o 24), .int x1] S) (gQl (mK D cA) (mP D cA o A) A out) 0 0 A := by
  refine gMet_l (by decide) (Nat.le_of_ble_eq_true rfl) ?_ mKst
  intro p e s m below meth c Q ls args H locs hC hP hS hl ret
  obtain ⟨hx, hb, hml, hown, hts, hA, hK⟩ := hC
  have hown : s.vm.findClass RX4 = some m.cls := hown
  have hl : lv_has ls 4 [(0, .ref (o 24)), (1, .int x1)] := hl
  have B24 : ∀ (x1 : Int32) (t0 : Int64) (S : MS) (H : Heap) (locs : List Loc) (ls : Array Slot), mP D cA o A S H → va_S A s.heap H locs → lv_has ls 4 [(0, .ref (o 24)), (1, .int x1)] → bX4_missOf_24  x1 t0 S = some out → W p l e ({ frames := 4, cells := 0, slots := 0, locals := 93 } : Room) s m args below meth c H locs 0 0 Q (F0 m 24 ls [.long t0]) := by
    intro x1 t0 S H locs ls hP hS hl h
    unfold bX4_missOf_24 at h
    refine lv_lstore_n (lv' := [(2, .long t0), (0, .ref (o 24)), (1, .int x1)]) hx hb dX4_missOf_24 rfl hl (by decide) rfl (fun ls hl => ?_)
    refine lv_aload_n hx hb dX4_missOf_25 rfl (lv_at hl 1 rfl) ?_
    refine lv_iload_n hx hb dX4_missOf_26 rfl (lv_at hl 2 rfl) ?_
    obtain ⟨v3, S2, e1, h⟩ := bnd_some h
    refine gc0_i (va_runV (As := [.int x1]) (rest := []) ⟨hx, hb, hml, hown, hts⟩ (mX4_saysOf (l := l) (D := D) (cA := cA) (o := o) (A := A) x1 S e1) (cwV 1 hts (lw_V q1385 q1387 qs39 q90 q1388) rfl rfl rfl (by decide +kernel) ⟨Nat.le_of_ble_eq_true rfl, Nat.le_of_ble_eq_true rfl⟩) (gPreV mKst hK hA hS hP (mRecv hK hP)) rfl rfl hl.1 rfl (lv_room (Nat.le_of_ble_eq_true rfl)) dX4_missOf_27 ⟨Nat.zero_le _, Nat.zero_le _⟩) hS (fun H locs hP hS => ?_)
    refine lv_i2l hx hb dX4_missOf_30 rfl ?_
    refine lv_aload_n hx hb dX4_missOf_31 rfl (lv_at hl 1 rfl) ?_
    refine va_get (D := D) (ci := 4) (v := .long (mLF S2)) (C := RX4) (T := TX4) (N := 24) hx hb hts in_X4 hown hK hP.1 0 rfl rfl 11 (by decide) (hts _ q1260) (fun _ h9 => h9) rfl dX4_missOf_32 ?_
    refine lv_lmul hx hb dX4_missOf_35 ?_
    refine lv_aload_n hx hb dX4_missOf_36 rfl (lv_at hl 1 rfl) ?_
    refine va_get (D := D) (ci := 4) (v := .ref (o 10)) (C := RX4) (T := TX4) (N := 24) hx hb hts in_X4 hown hK hP.1 0 rfl rfl 10 (by decide) (hts _ q1259) (fun _ h9 => h9) rfl dX4_missOf_37 ?_
    refine lv_aload_n hx hb dX4_missOf_40 rfl (lv_at hl 1 rfl) ?_
    refine lv_iload_n hx hb dX4_missOf_41 rfl (lv_at hl 2 rfl) ?_
    refine lv_iconst (v := (3 : Int32)) hx hb dX4_missOf_42 (by decide) ?_
    obtain ⟨v6, S5, e4, h⟩ := bnd_some h
    refine gc0_i (va_runV (As := [.int x1, .int (3 : Int32)]) (rest := [.ref (o 10), .long (((v3).toInt64) * (mLF S2))]) ⟨hx, hb, hml, hown, hts⟩ (mX4_of (l := l) (D := D) (cA := cA) (o := o) (A := A) x1 (3 : Int32) S2 e4) (cwV 2 hts (lw_V q1355 q1357 qs33 q90 q1358) rfl rfl rfl (by decide +kernel) ⟨Nat.le_of_ble_eq_true rfl, Nat.le_of_ble_eq_true rfl⟩) (gPreV mKst hK hA hS hP (mRecv hK hP)) rfl rfl hl.1 rfl (lv_room (Nat.le_of_ble_eq_true rfl)) dX4_missOf_43 ⟨Nat.zero_le _, Nat.zero_le _⟩) hS (fun H locs hP hS => ?_)
    obtain ⟨g7, h⟩ := chk_some h
    refine va_lald hx hb hK hP.1 10 3 rfl rfl (inB_in g7) dX4_missOf_46 ?_
    refine lv_lsub hx hb dX4_missOf_47 ?_
    refine lv_lload_n hx hb dX4_missOf_48 rfl (lv_at hl 0 rfl) ?_
    refine lv_ladd hx hb dX4_missOf_49 ?_
    exact ret _ _ _ _ _ _ dX4_missOf_50 hP hS h
  unfold fX4_missOf at h
  refine lv_aload_n hx hb dX4_missOf_0 rfl (lv_at hl 0 rfl) ?_
  refine lv_iload_n hx hb dX4_missOf_1 rfl (lv_at hl 1 rfl) ?_
  refine lv_iconst (v := (2 : Int32)) hx hb dX4_missOf_2 (by decide) ?_
  obtain ⟨v10, S9, e8, h⟩ := bnd_some h
  refine gc0_i (va_runV (As := [.int x1, .int (2 : Int32)]) (rest := []) ⟨hx, hb, hml, hown, hts⟩ (mX4_of (l := l) (D := D) (cA := cA) (o := o) (A := A) x1 (2 : Int32) S e8) (cwV 2 hts (lw_V q1355 q1357 qs33 q90 q1358) rfl rfl rfl (by decide +kernel) ⟨Nat.le_of_ble_eq_true rfl, Nat.le_of_ble_eq_true rfl⟩) (gPreV mKst hK hA hS hP (mRecv hK hP)) rfl rfl hl.1 rfl (lv_room (Nat.le_of_ble_eq_true rfl)) dX4_missOf_3 ⟨Nat.zero_le _, Nat.zero_le _⟩) hS (fun H locs hP hS => ?_)
  refine lv_if_ge (tgt := 13) hx hb dX4_missOf_6 (by decide) (fun c11 => ?_) (fun c11 => ?_)
  · have h := ite_t c11 h
    refine lv_aload_n hx hb dX4_missOf_13 rfl (lv_at hl 0 rfl) ?_
    refine va_get (D := D) (ci := 4) (v := .ref (o 10)) (C := RX4) (T := TX4) (N := 24) hx hb hts in_X4 hown hK hP.1 0 rfl rfl 10 (by decide) (hts _ q1259) (fun _ h9 => h9) rfl dX4_missOf_14 ?_
    refine lv_aload_n hx hb dX4_missOf_17 rfl (lv_at hl 0 rfl) ?_
    refine lv_iload_n hx hb dX4_missOf_18 rfl (lv_at hl 1 rfl) ?_
    refine lv_iconst (v := (2 : Int32)) hx hb dX4_missOf_19 (by decide) ?_
    obtain ⟨v14, S13, e12, h⟩ := bnd_some h
    refine gc0_i (va_runV (As := [.int x1, .int (2 : Int32)]) (rest := [.ref (o 10)]) ⟨hx, hb, hml, hown, hts⟩ (mX4_of (l := l) (D := D) (cA := cA) (o := o) (A := A) x1 (2 : Int32) S9 e12) (cwV 2 hts (lw_V q1355 q1357 qs33 q90 q1358) rfl rfl rfl (by decide +kernel) ⟨Nat.le_of_ble_eq_true rfl, Nat.le_of_ble_eq_true rfl⟩) (gPreV mKst hK hA hS hP (mRecv hK hP)) rfl rfl hl.1 rfl (lv_room (Nat.le_of_ble_eq_true rfl)) dX4_missOf_20 ⟨Nat.zero_le _, Nat.zero_le _⟩) hS (fun H locs hP hS => ?_)
    obtain ⟨g15, h⟩ := chk_some h
    refine va_lald hx hb hK hP.1 10 3 rfl rfl (inB_in g15) dX4_missOf_23 ?_
    exact B24 x1 (mLA S13 10 (v14).toNatClampNeg) S13 _ _ _ hP hS hl h
  · have h := ite_f c11 h
    refine lv_lconst (v := (0 : Int64)) hx hb dX4_missOf_9 (by decide) ?_
    refine lv_goto (tgt := 24) hx hb dX4_missOf_10 (by decide) ?_
    exact B24 x1 (0 : Int64) S9 _ _ _ hP hS hl h

def bX4_allMiss_47 (k4 : Int64 → Int32 → MS → Option (Int64 × MS)) (x3 : Int32) (t0 : Int64) (t1 : Int64) (S : MS) : Option (Int64 × MS) :=
nm (t0 + t1) fun y1 =>
nm (x3 + (1 : Int32)) fun y2 =>
k4 y1 y2 S
def bX4_allMiss_4 (k4 : Int64 → Int32 → MS → Option (Int64 × MS)) (x1 : Int64) (x3 : Int32) (S : MS) : Option (Int64 × MS) :=
(if (mIA S 0 ((2 : Int32)).toNatClampNeg) ≤ x3 then
some (x1, S)
else
bnd (fX4_of x3 (5 : Int32) S) fun v6 S5 =>
(if v6 = (1 : Int32) then
bnd (fX4_weight x3 S5) fun v10 S9 =>
bnd (fX4_missOf x3 S9) fun v13 S12 =>
bnd (fX4_missOf x3 S12) fun v16 S15 =>
bX4_allMiss_47 k4 x3 x1 ((((v10).toInt64) * v13) * v16) S15
else
bX4_allMiss_47 k4 x3 x1 (0 : Int64) S5))
def lX4_allMiss_4 : Nat → (Int64 → Int32 → MS → Option (Int64 × MS))
  | 0 => fun _ _ _ => none
  | n + 1 => bX4_allMiss_4 (lX4_allMiss_4 n)
def fX4_allMiss (S : MS) : Option (Int64 × MS) :=
lX4_allMiss_4 FU (0 : Int64) (0 : Int32) S
set_option maxHeartbeats 4000000 in
set_option maxRecDepth 100000 in
theorem mX4_allMiss {l : Launch} {D : va_G} {cA : Nat → ClassId} {o : Nat → Nat} {A : Nat → Prop} (S : MS) {out : (Int64 × MS)} (h : fX4_allMiss  S = some out) : Met l yX4_allMiss (ws_ yX4_allMiss cX4_allMiss 4 (some .long)) ({ frames := 5, cells := 0, slots := 0, locals := 116 } : Room) (gPc (mK D cA) (mP D cA o A) A [.ref (o 24)] S) (gQl (mK D cA) (mP D cA o A) A out) 0 0 A := by
  refine gMet_l (by decide) (Nat.le_of_ble_eq_true rfl) ?_ mKst
  intro p e s m below meth c Q ls args H locs hC hP hS hl ret
  obtain ⟨hx, hb, hml, hown, hts, hA, hK⟩ := hC
  have hown : s.vm.findClass RX4 = some m.cls := hown
  have hl : lv_has ls 4 [(0, .ref (o 24))] := hl
  have L4 : ∀ (n4 : Nat) (x1 : Int64) (x3 : Int32) (S : MS) (H : Heap) (locs : List Loc) (ls : Array Slot), mP D cA o A S H → va_S A s.heap H locs → lv_has ls 4 [(0, .ref (o 24)), (1, .long x1), (3, .int x3)] → lX4_allMiss_4 n4 x1 x3 S = some out → W p l e ({ frames := 5, cells := 0, slots := 0, locals := 116 } : Room) s m args below meth c H locs 0 0 Q (F0 m 4 ls []) := by
    intro n4
    induction n4 with
    | zero =>
      intro x1 x3 S H locs ls hP hS hl h
      cases h
    | succ n4 ih4 =>
      have B47 : ∀ (x3 : Int32) (t0 : Int64) (t1 : Int64) (S : MS) (H : Heap) (locs : List Loc) (ls : Array Slot), mP D cA o A S H → va_S A s.heap H locs → lv_has ls 4 [(0, .ref (o 24)), (3, .int x3)] → bX4_allMiss_47 (lX4_allMiss_4 n4) x3 t0 t1 S = some out → W p l e ({ frames := 5, cells := 0, slots := 0, locals := 116 } : Room) s m args below meth c H locs 0 0 Q (F0 m 47 ls [.long t1, .long t0]) := by
        intro x3 t0 t1 S H locs ls hP hS hl h
        unfold bX4_allMiss_47 at h
        refine lv_ladd hx hb dX4_allMiss_47 ?_
        refine lv_topl (fun y1 ey1 => ?_)
        have h := nm_at ey1 h
        refine lv_lstore_n (lv' := [(1, .long y1), (0, .ref (o 24)), (3, .int x3)]) hx hb dX4_allMiss_48 rfl hl (by decide) rfl (fun ls hl => ?_)
        obtain ⟨y2, ey2⟩ : ∃ y : Int32, y = x3 + (1 : Int32) := ⟨_, rfl⟩
        refine lv_iinc (v := y2) (lv' := [(3, .int y2), (1, .long y1), (0, .ref (o 24))]) hx hb dX4_allMiss_49 hl (k := 2) rfl (by rw [ey2]; rfl) (by decide) rfl (fun ls hl => ?_)
        have h := nm_at ey2 h
        refine lv_goto (tgt := 4) hx hb dX4_allMiss_52 (by decide) ?_
        exact ih4 y1 y2 S _ _ _ hP hS (lv_sub hl [2, 1, 0] rfl) h
      intro x1 x3 S H locs ls hP hS hl h
      replace h : bX4_allMiss_4 (lX4_allMiss_4 n4) x1 x3 S = some out := h
      unfold bX4_allMiss_4 at h
      refine lv_iload_n hx hb dX4_allMiss_4 rfl (lv_at hl 2 rfl) ?_
      refine lv_aload_n hx hb dX4_allMiss_5 rfl (lv_at hl 0 rfl) ?_
      refine va_get (D := D) (ci := 4) (v := .ref (o 0)) (C := RX4) (T := TX4) (N := 24) hx hb hts in_X4 hown hK hP.1 0 rfl rfl 0 (by decide) (hts _ q1249) (fun _ h9 => h9) rfl dX4_allMiss_6 ?_
      refine lv_iconst (v := (2 : Int32)) hx hb dX4_allMiss_9 (by decide) ?_
      refine va_iald hx hb hK hP.1 1 0 rfl rfl (inB_in (by decide)) dX4_allMiss_10 ?_
      refine lv_icmp_ge (tgt := 55) hx hb dX4_allMiss_11 (by decide) (fun c3 => ?_) (fun c3 => ?_)
      · have h := ite_t c3 h
        refine lv_lload_n hx hb dX4_allMiss_55 rfl (lv_at hl 1 rfl) ?_
        exact ret _ _ _ _ _ _ dX4_allMiss_56 hP hS h
      · have h := ite_f c3 h
        refine lv_lload_n hx hb dX4_allMiss_14 rfl (lv_at hl 1 rfl) ?_
        refine lv_aload_n hx hb dX4_allMiss_15 rfl (lv_at hl 0 rfl) ?_
        refine lv_iload_n hx hb dX4_allMiss_16 rfl (lv_at hl 2 rfl) ?_
        refine lv_iconst (v := (5 : Int32)) hx hb dX4_allMiss_17 (by decide) ?_
        obtain ⟨v6, S5, e4, h⟩ := bnd_some h
        refine gc0_i (va_runV (As := [.int x3, .int (5 : Int32)]) (rest := [.long x1]) ⟨hx, hb, hml, hown, hts⟩ (mX4_of (l := l) (D := D) (cA := cA) (o := o) (A := A) x3 (5 : Int32) S e4) (cwV 2 hts (lw_V q1355 q1357 qs33 q90 q1358) rfl rfl rfl (by decide +kernel) ⟨Nat.le_of_ble_eq_true rfl, Nat.le_of_ble_eq_true rfl⟩) (gPreV mKst hK hA hS hP (mRecv hK hP)) rfl rfl hl.1 rfl (lv_room (Nat.le_of_ble_eq_true rfl)) dX4_allMiss_18 ⟨Nat.zero_le _, Nat.zero_le _⟩) hS (fun H locs hP hS => ?_)
        refine lv_iconst (v := (1 : Int32)) hx hb dX4_allMiss_21 (by decide) ?_
        refine lv_icmp_ne (tgt := 46) hx hb dX4_allMiss_22 (by decide) (fun c7 => ?_) (fun c7 => ?_)
        · have h := ite_f c7 h
          refine lv_lconst (v := (0 : Int64)) hx hb dX4_allMiss_46 (by decide) ?_
          exact B47 x3 x1 (0 : Int64) S5 _ _ _ hP hS (lv_sub hl [0, 2] rfl) h
        · have h := ite_t c7 h
          refine lv_aload_n hx hb dX4_allMiss_25 rfl (lv_at hl 0 rfl) ?_
          refine lv_iload_n hx hb dX4_allMiss_26 rfl (lv_at hl 2 rfl) ?_
          obtain ⟨v10, S9, e8, h⟩ := bnd_some h
          refine gc0_i (va_runV (As := [.int x3]) (rest := [.long x1]) ⟨hx, hb, hml, hown, hts⟩ (mX4_weight (l := l) (D := D) (cA := cA) (o := o) (A := A) x3 S5 e8) (cwV 1 hts (lw_V q1359 q1361 qs34 q90 q1362) rfl rfl rfl (by decide +kernel) ⟨Nat.le_of_ble_eq_true rfl, Nat.le_of_ble_eq_true rfl⟩) (gPreV mKst hK hA hS hP (mRecv hK hP)) rfl rfl hl.1 rfl (lv_room (Nat.le_of_ble_eq_true rfl)) dX4_allMiss_27 ⟨Nat.zero_le _, Nat.zero_le _⟩) hS (fun H locs hP hS => ?_)
          refine lv_i2l hx hb dX4_allMiss_30 rfl ?_
          refine lv_aload_n hx hb dX4_allMiss_31 rfl (lv_at hl 0 rfl) ?_
          refine lv_iload_n hx hb dX4_allMiss_32 rfl (lv_at hl 2 rfl) ?_
          obtain ⟨v13, S12, e11, h⟩ := bnd_some h
          refine gc0_l (va_runV (As := [.int x3]) (rest := [.long ((v10).toInt64), .long x1]) ⟨hx, hb, hml, hown, hts⟩ (mX4_missOf (l := l) (D := D) (cA := cA) (o := o) (A := A) x3 S9 e11) (cwV 1 hts (lw_V q1528 q1530 qs63 q90 q1531) rfl rfl rfl (by decide +kernel) ⟨Nat.le_of_ble_eq_true rfl, Nat.le_of_ble_eq_true rfl⟩) (gPreV mKst hK hA hS hP (mRecv hK hP)) rfl rfl hl.1 rfl (lv_room (Nat.le_of_ble_eq_true rfl)) dX4_allMiss_33 ⟨Nat.zero_le _, Nat.zero_le _⟩) hS (fun H locs hP hS => ?_)
          refine lv_lmul hx hb dX4_allMiss_36 ?_
          refine lv_aload_n hx hb dX4_allMiss_37 rfl (lv_at hl 0 rfl) ?_
          refine lv_iload_n hx hb dX4_allMiss_38 rfl (lv_at hl 2 rfl) ?_
          obtain ⟨v16, S15, e14, h⟩ := bnd_some h
          refine gc0_l (va_runV (As := [.int x3]) (rest := [.long (((v10).toInt64) * v13), .long x1]) ⟨hx, hb, hml, hown, hts⟩ (mX4_missOf (l := l) (D := D) (cA := cA) (o := o) (A := A) x3 S12 e14) (cwV 1 hts (lw_V q1528 q1530 qs63 q90 q1531) rfl rfl rfl (by decide +kernel) ⟨Nat.le_of_ble_eq_true rfl, Nat.le_of_ble_eq_true rfl⟩) (gPreV mKst hK hA hS hP (mRecv hK hP)) rfl rfl hl.1 rfl (lv_room (Nat.le_of_ble_eq_true rfl)) dX4_allMiss_39 ⟨Nat.zero_le _, Nat.zero_le _⟩) hS (fun H locs hP hS => ?_)
          refine lv_lmul hx hb dX4_allMiss_42 ?_
          refine lv_goto (tgt := 47) hx hb dX4_allMiss_43 (by decide) ?_
          exact B47 x3 x1 ((((v10).toInt64) * v13) * v16) S15 _ _ _ hP hS (lv_sub hl [0, 2] rfl) h
  unfold fX4_allMiss at h
  refine lv_lconst (v := (0 : Int64)) hx hb dX4_allMiss_0 (by decide) ?_
  refine lv_lstore_n (lv' := [(1, .long (0 : Int64)), (0, .ref (o 24))]) hx hb dX4_allMiss_1 rfl hl (by decide) rfl (fun ls hl => ?_)
  refine lv_iconst (v := (0 : Int32)) hx hb dX4_allMiss_2 (by decide) ?_
  refine lv_istore_n (lv' := [(3, .int (0 : Int32)), (1, .long (0 : Int64)), (0, .ref (o 24))]) hx hb dX4_allMiss_3 rfl hl (by decide) rfl (fun ls hl => ?_)
  exact L4 FU (0 : Int64) (0 : Int32) S _ _ _ hP hS (lv_sub hl [2, 1, 0] rfl) h

def bX4_any_44 (rc : Int32 → MS → Option MS) (S : MS) : Option MS :=
some S
def bX4_any_4 (rc : Int32 → MS → Option MS) (k4 : MS → Option MS) (S : MS) : Option MS :=
(if (mIF S 19) = 0 then
bnd (fX4_look  S) fun v4 S3 =>
(if v4 = (124 : Int32) then
nm ((mIF S3 17) + (1 : Int32)) fun y6 =>
bn1 (fX4_all rc  (sIF S3 17 y6)) fun S8 =>
bn1 (fX4_lays (124 : Int32) (0 : Int32) S8) fun S10 =>
k4 S10
else
bX4_any_44 rc S3)
else
bX4_any_44 rc S)
def lX4_any_4 (rc : Int32 → MS → Option MS) : Nat → (MS → Option MS)
  | 0 => fun _ => none
  | n + 1 => bX4_any_4 rc (lX4_any_4 rc n)
def fX4_any (rc : Int32 → MS → Option MS) (S : MS) : Option MS :=
bn1 (fX4_all rc  S) fun S12 =>
lX4_any_4 rc FU S12
set_option maxHeartbeats 4000000 in
set_option maxRecDepth 100000 in
theorem mX4_any {l : Launch} {D : va_G} {cA : Nat → ClassId} {o : Nat → Nat} {A : Nat → Prop} (d : Nat) (rc : Int32 → MS → Option MS) (hrc : ∀ (a0 : Int32) (S : MS) (out : MS), rc a0 S = some out → Met l yX4_opens (ws_ yX4_opens cX4_opens 2 none) ({ frames := 7 * d + 1, cells := 0, slots := 0, locals := 147 * d + 22 } : Room) (gPc (mK D cA) (mP D cA o A) A [.ref (o 24), .int a0] S) (gQv (mK D cA) (mP D cA o A) A out) 0 0 A) (S : MS) {out : MS} (h : fX4_any rc  S = some out) : Met l yX4_any (ws_ yX4_any cX4_any 1 none) ({ frames := 7 * d + 7, cells := 0, slots := 0, locals := 147 * d + 149 } : Room) (gPc (mK D cA) (mP D cA o A) A [.ref (o 24)] S) (gQv (mK D cA) (mP D cA o A) A out) 0 0 A := by
  refine gMet_v (by decide) (Nat.le_of_ble_eq_true rfl) ?_ mKst
  intro p e s m below meth c Q ls args H locs hC hP hS hl _ ret
  obtain ⟨hx, hb, hml, hown, hts, hA, hK⟩ := hC
  have hown : s.vm.findClass RX4 = some m.cls := hown
  have hl : lv_has ls 1 [(0, .ref (o 24))] := hl
  have B44 : ∀  (S : MS) (H : Heap) (locs : List Loc) (ls : Array Slot), mP D cA o A S H → va_S A s.heap H locs → lv_has ls 1 [(0, .ref (o 24))] → bX4_any_44 rc  S = some out → W p l e ({ frames := 7 * d + 7, cells := 0, slots := 0, locals := 147 * d + 149 } : Room) s m args below meth c H locs 0 0 Q (F0 m 44 ls []) := by
    intro  S H locs ls hP hS hl h
    unfold bX4_any_44 at h
    exact ret _ _ _ _ _ dX4_any_44 hP hS h
  have L4 : ∀ (n4 : Nat)  (S : MS) (H : Heap) (locs : List Loc) (ls : Array Slot), mP D cA o A S H → va_S A s.heap H locs → lv_has ls 1 [(0, .ref (o 24))] → lX4_any_4 rc n4  S = some out → W p l e ({ frames := 7 * d + 7, cells := 0, slots := 0, locals := 147 * d + 149 } : Room) s m args below meth c H locs 0 0 Q (F0 m 4 ls []) := by
    intro n4
    induction n4 with
    | zero =>
      intro  S H locs ls hP hS hl h
      cases h
    | succ n4 ih4 =>
      intro  S H locs ls hP hS hl h
      replace h : bX4_any_4 rc (lX4_any_4 rc n4)  S = some out := h
      unfold bX4_any_4 at h
      refine lv_aload_n hx hb dX4_any_4 rfl (lv_at hl 0 rfl) ?_
      refine va_get (D := D) (ci := 4) (v := .int (mIF S 19)) (C := RX4) (T := TX4) (N := 24) hx hb hts in_X4 hown hK hP.1 0 rfl rfl 19 (by decide) (hts _ q1268) (fun _ h9 => h9) rfl dX4_any_5 ?_
      refine lv_if_ne (tgt := 44) hx hb dX4_any_8 (by decide) (fun c1 => ?_) (fun c1 => ?_)
      · have h := ite_f c1 h
        exact B44 S _ _ _ hP hS hl h
      · have h := ite_t c1 h
        refine lv_aload_n hx hb dX4_any_11 rfl (lv_at hl 0 rfl) ?_
        obtain ⟨v4, S3, e2, h⟩ := bnd_some h
        refine gc0_i (va_runV (As := []) (rest := []) ⟨hx, hb, hml, hown, hts⟩ (mX4_look (l := l) (D := D) (cA := cA) (o := o) (A := A)  S e2) (cwV 0 hts (lw_V q1456 q1458 qs48 q90 q1459) rfl rfl rfl (by decide +kernel) ⟨by dsimp only; omega, by dsimp only; omega⟩) (gPreV mKst hK hA hS hP (mRecv hK hP)) rfl rfl hl.1 rfl (lv_room (Nat.le_of_ble_eq_true rfl)) dX4_any_12 ⟨Nat.zero_le _, Nat.zero_le _⟩) hS (fun H locs hP hS => ?_)
        refine lv_bipush (v := (124 : Int32)) hx hb dX4_any_15 (by decide) ?_
        refine lv_icmp_ne (tgt := 44) hx hb dX4_any_17 (by decide) (fun c5 => ?_) (fun c5 => ?_)
        · have h := ite_f c5 h
          exact B44 S3 _ _ _ hP hS hl h
        · have h := ite_t c5 h
          refine lv_aload_n hx hb dX4_any_20 rfl (lv_at hl 0 rfl) ?_
          refine lv_dup hx hb dX4_any_21 rfl ?_
          refine va_get (D := D) (ci := 4) (v := .int (mIF S3 17)) (C := RX4) (T := TX4) (N := 24) hx hb hts in_X4 hown hK hP.1 0 rfl rfl 17 (by decide) (hts _ q1266) (fun _ h9 => h9) rfl dX4_any_22 ?_
          refine lv_iconst (v := (1 : Int32)) hx hb dX4_any_25 (by decide) ?_
          refine lv_iadd hx hb dX4_any_26 ?_
          refine lv_topi (fun y6 ey6 => ?_)
          have h := nm_at ey6 h
          refine va_put (D := D) (ci := 4) (v := .int y6) (ty := .int) (C := RX4) (T := TX4) (N := 24) hx hb hts in_X4 tyX4 tyX4_ok nmX4 hown hK hP.1 hP.2 hS 0 rfl rfl 17 (by decide) (hts _ q1266) (fun _ h9 => h9) rfl (by decide +kernel) rfl rfl (Nat.le_of_ble_eq_true rfl) dX4_any_27 (fun H locs hP1 hD1 hS => ?_)
          have hP : mP D cA o A (sIF S3 17 y6) H := ⟨hP1, hD1⟩
          refine lv_aload_n hx hb dX4_any_30 rfl (lv_at hl 0 rfl) ?_
          obtain ⟨S8, e7, h⟩ := bn1_some h
          refine gc0_v (va_runV (As := []) (rest := []) ⟨hx, hb, hml, hown, hts⟩ (mX4_all (l := l) (D := D) (cA := cA) (o := o) (A := A) d rc hrc  (sIF S3 17 y6) e7) (cwV 0 hts (lw_V q1436 q1438 qs43 q90 q1439) rfl rfl rfl (by decide +kernel) ⟨by dsimp only; omega, by dsimp only; omega⟩) (gPreV mKst hK hA hS hP (mRecv hK hP)) rfl rfl hl.1 rfl (lv_room (Nat.le_of_ble_eq_true rfl)) dX4_any_31 ⟨Nat.zero_le _, Nat.zero_le _⟩) hS (fun H locs hP hS => ?_)
          refine lv_aload_n hx hb dX4_any_34 rfl (lv_at hl 0 rfl) ?_
          refine lv_bipush (v := (124 : Int32)) hx hb dX4_any_35 (by decide) ?_
          refine lv_iconst (v := (0 : Int32)) hx hb dX4_any_37 (by decide) ?_
          obtain ⟨S10, e9, h⟩ := bn1_some h
          refine gc0_v (va_runV (As := [.int (124 : Int32), .int (0 : Int32)]) (rest := []) ⟨hx, hb, hml, hown, hts⟩ (mX4_lays (l := l) (D := D) (cA := cA) (o := o) (A := A) (124 : Int32) (0 : Int32) S8 e9) (cwV 2 hts (lw_V q1464 q1466 qs50 q90 q1467) rfl rfl rfl (by decide +kernel) ⟨by dsimp only; omega, by dsimp only; omega⟩) (gPreV mKst hK hA hS hP (mRecv hK hP)) rfl rfl hl.1 rfl (lv_room (Nat.le_of_ble_eq_true rfl)) dX4_any_38 ⟨Nat.zero_le _, Nat.zero_le _⟩) hS (fun H locs hP hS => ?_)
          refine lv_goto (tgt := 4) hx hb dX4_any_41 (by decide) ?_
          exact ih4 S10 _ _ _ hP hS hl h
  unfold fX4_any at h
  refine lv_aload_n hx hb dX4_any_0 rfl (lv_at hl 0 rfl) ?_
  obtain ⟨S12, e11, h⟩ := bn1_some h
  refine gc0_v (va_runV (As := []) (rest := []) ⟨hx, hb, hml, hown, hts⟩ (mX4_all (l := l) (D := D) (cA := cA) (o := o) (A := A) d rc hrc  S e11) (cwV 0 hts (lw_V q1436 q1438 qs43 q90 q1439) rfl rfl rfl (by decide +kernel) ⟨by dsimp only; omega, by dsimp only; omega⟩) (gPreV mKst hK hA hS hP (mRecv hK hP)) rfl rfl hl.1 rfl (lv_room (Nat.le_of_ble_eq_true rfl)) dX4_any_1 ⟨Nat.zero_le _, Nat.zero_le _⟩) hS (fun H locs hP hS => ?_)
  exact L4 FU S12 _ _ _ hP hS hl h

def fX4_isMark (x1 : Int32) (S : MS) : Option (Int32 × MS) :=
bnd (fX4_in x1 (0 : Int32) ((mIA S 0 ((2 : Int32)).toNatClampNeg) - (1 : Int32)) S) fun v3 S2 =>
chk (isB v3) (some (v3, S2))
set_option maxHeartbeats 4000000 in
set_option maxRecDepth 100000 in
theorem mX4_isMark {l : Launch} {D : va_G} {cA : Nat → ClassId} {o : Nat → Nat} {A : Nat → Prop} (x1 : Int32) (S : MS) {out : (Int32 × MS)} (h : fX4_isMark x1 S = some out) : Met l yX4_isMark (ws_ yX4_isMark cX4_isMark 2 (some .boolean)) ({ frames := 1, cells := 0, slots := 0, locals := 22 } : Room) (gPc (mK D cA) (mP D cA o A) A [.ref (o 24), .int x1] S) (gQi (mK D cA) (mP D cA o A) A out) 0 0 A := by
  refine gMet_z (by decide) (Nat.le_of_ble_eq_true rfl) ?_ mKst
  intro p e s m below meth c Q ls args H locs hC hP hS hl ret
  obtain ⟨hx, hb, hml, hown, hts, hA, hK⟩ := hC
  have hown : s.vm.findClass RX4 = some m.cls := hown
  have hl : lv_has ls 2 [(0, .ref (o 24)), (1, .int x1)] := hl
  unfold fX4_isMark at h
  refine lv_iload_n hx hb dX4_isMark_0 rfl (lv_at hl 1 rfl) ?_
  refine lv_iconst (v := (0 : Int32)) hx hb dX4_isMark_1 (by decide) ?_
  refine lv_aload_n hx hb dX4_isMark_2 rfl (lv_at hl 0 rfl) ?_
  refine va_get (D := D) (ci := 4) (v := .ref (o 0)) (C := RX4) (T := TX4) (N := 24) hx hb hts in_X4 hown hK hP.1 0 rfl rfl 0 (by decide) (hts _ q1249) (fun _ h9 => h9) rfl dX4_isMark_3 ?_
  refine lv_iconst (v := (2 : Int32)) hx hb dX4_isMark_6 (by decide) ?_
  refine va_iald hx hb hK hP.1 1 0 rfl rfl (inB_in (by decide)) dX4_isMark_7 ?_
  refine lv_iconst (v := (1 : Int32)) hx hb dX4_isMark_8 (by decide) ?_
  refine lv_isub hx hb dX4_isMark_9 ?_
  obtain ⟨v3, S2, e1, h⟩ := bnd_some h
  refine gc0_i (va_runS (As := [.int x1, .int (0 : Int32), .int ((mIA S 0 ((2 : Int32)).toNatClampNeg) - (1 : Int32))]) (rest := []) ⟨hx, hb, hml, hown, hts⟩ (mX4_in (l := l) (D := D) (cA := cA) (o := o) (A := A) x1 (0 : Int32) ((mIA S 0 ((2 : Int32)).toNatClampNeg) - (1 : Int32)) S e1) (va_cwS 3 hts (lw_S q1329 q1330 q90 q1331) rfl rfl rfl (by decide +kernel) ⟨Nat.le_of_ble_eq_true rfl, Nat.le_of_ble_eq_true rfl⟩) (gPreS mKst hK hA hS hP) rfl rfl hl.1 rfl (lv_room (Nat.le_of_ble_eq_true rfl)) dX4_isMark_10 ⟨Nat.zero_le _, Nat.zero_le _⟩) hS (fun H locs hP hS => ?_)
  obtain ⟨g4, h⟩ := chk_some h
  exact ret _ _ _ _ _ _ dX4_isMark_13 (isB_nar g4) hP hS h
